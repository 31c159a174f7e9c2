def k_Model_collect : Kp := (⟨"ClassWorksModel", "collect", "(I)I"⟩, prog_13_method_188_code, 7, some (.int), [])
theorem mv_Model_collect : MV k_Model_collect 11 1 := ⟨⟨_, rfl, rfl⟩, by decide, (tbk_mem (j := 17) (k := 174) rfl), Or.inl (tbk_mem (j := 17) (k := 175) rfl), Or.inl ⟨rfl, (tbk_mem (j := 17) (k := 176) rfl)⟩, ⟨by decide, by decide⟩, by decide +kernel, by decide +kernel, by decide⟩
def k_Model_isWrittenSo : Kp := (⟨"ClassWorksModel", "isWrittenSo", "(LClassWorksModel$World;ILClassWorksModel$World;I)Z"⟩, prog_13_method_189_code, 10, some (.boolean), [])
theorem mv_Model_isWrittenSo : MV k_Model_isWrittenSo 11 4 := ⟨⟨_, rfl, rfl⟩, by decide, (tbk_mem (j := 17) (k := 190) rfl), Or.inr ⟨(tbk_mem (j := 17) (k := 189) rfl), 131, (tbk_mem (j := 11) (k := 41) rfl)⟩, Or.inl ⟨rfl, (tbk_mem (j := 17) (k := 191) rfl)⟩, ⟨by decide, by decide⟩, by decide +kernel, by decide +kernel, by decide⟩
def k_Model_fieldLike : Kp := (⟨"ClassWorksModel", "fieldLike", "(LClassWorksModel$World;ILClassWorksModel$World;I)I"⟩, prog_13_method_190_code, 5, some (.int), [])
theorem ms_Model_fieldLike : MSt k_Model_fieldLike 4 := ⟨(tbk_mem (j := 17) (k := 186) rfl), (tbk_mem (j := 1) (k := 21) rfl), Or.inl ⟨rfl, (tbk_mem (j := 17) (k := 187) rfl)⟩, ⟨by decide, by decide⟩, by decide +kernel, by decide +kernel, by decide⟩
def k_Model_differ : Kp := (⟨"ClassWorksModel", "differ", "(IIIII)I"⟩, prog_13_method_191_code, 11, some (.int), [])
theorem mv_Model_differ : MV k_Model_differ 11 5 := ⟨⟨_, rfl, rfl⟩, by decide, (tbk_mem (j := 17) (k := 182) rfl), Or.inl (tbk_mem (j := 17) (k := 183) rfl), Or.inl ⟨rfl, (tbk_mem (j := 17) (k := 184) rfl)⟩, ⟨by decide, by decide⟩, by decide +kernel, by decide +kernel, by decide⟩
def k_Model_trace : Kp := (⟨"ClassWorksModel", "trace", "(III)I"⟩, prog_13_method_192_code, 6, some (.int), [])
theorem mv_Model_trace : MV k_Model_trace 11 3 := ⟨⟨_, rfl, rfl⟩, by decide, (tbk_mem (j := 17) (k := 193) rfl), Or.inl (tbk_mem (j := 17) (k := 194) rfl), Or.inl ⟨rfl, (tbk_mem (j := 17) (k := 195) rfl)⟩, ⟨by decide, by decide⟩, by decide +kernel, by decide +kernel, by decide⟩
def k_Model_done : Kp := (⟨"ClassWorksModel", "done", "(II)I"⟩, prog_13_method_193_code, 3, some (.int), [])
theorem mv_Model_done : MV k_Model_done 11 2 := ⟨⟨_, rfl, rfl⟩, by decide, (tbk_mem (j := 17) (k := 197) rfl), Or.inl (tbk_mem (j := 17) (k := 198) rfl), Or.inl ⟨rfl, (tbk_mem (j := 17) (k := 199) rfl)⟩, ⟨by decide, by decide⟩, by decide +kernel, by decide +kernel, by decide⟩
def k_Model_keepDraft : Kp := (⟨"ClassWorksModel", "keepDraft", "()I"⟩, prog_13_method_195_code, 1, some (.int), [])
theorem mv_Model_keepDraft : MV k_Model_keepDraft 11 0 := ⟨⟨_, rfl, rfl⟩, by decide, (tbk_mem (j := 17) (k := 206) rfl), Or.inr ⟨(tbk_mem (j := 17) (k := 205) rfl), 131, (tbk_mem (j := 11) (k := 41) rfl)⟩, Or.inl ⟨rfl, (tbk_mem (j := 17) (k := 207) rfl)⟩, ⟨by decide, by decide⟩, by decide +kernel, by decide +kernel, by decide⟩
def k_Model_trial : Kp := (⟨"ClassWorksModel", "trial", "()I"⟩, prog_13_method_194_code, 7, some (.int), [(192, 226, 229, 267)])
theorem mv_Model_trial : MV k_Model_trial 11 0 := ⟨⟨_, rfl, rfl⟩, by decide, (tbk_mem (j := 17) (k := 201) rfl), Or.inl (tbk_mem (j := 17) (k := 202) rfl), Or.inr (tbk_mem (j := 17) (k := 203) rfl), ⟨by decide, by decide⟩, by decide +kernel, by decide +kernel, by decide⟩
def k_Model_tryDraft : Kp := (⟨"ClassWorksModel", "tryDraft", "(I)V"⟩, prog_13_method_196_code, 4, none, [])
theorem mv_Model_tryDraft : MV k_Model_tryDraft 11 1 := ⟨⟨_, rfl, rfl⟩, by decide, (tbk_mem (j := 17) (k := 222) rfl), Or.inr ⟨(tbk_mem (j := 17) (k := 221) rfl), 131, (tbk_mem (j := 11) (k := 41) rfl)⟩, Or.inl ⟨rfl, (tbk_mem (j := 17) (k := 223) rfl)⟩, ⟨by decide, by decide⟩, by decide +kernel, by decide +kernel, by decide⟩
def k_Model_draftTrial : Kp := (⟨"ClassWorksModel", "draftTrial", "(I)V"⟩, prog_13_method_197_code, 2, none, [])
theorem mv_Model_draftTrial : MV k_Model_draftTrial 11 1 := ⟨⟨_, rfl, rfl⟩, by decide, (tbk_mem (j := 17) (k := 218) rfl), Or.inr ⟨(tbk_mem (j := 17) (k := 217) rfl), 131, (tbk_mem (j := 11) (k := 41) rfl)⟩, Or.inl ⟨rfl, (tbk_mem (j := 17) (k := 219) rfl)⟩, ⟨by decide, by decide⟩, by decide +kernel, by decide +kernel, by decide⟩
def k_Model_isTrial : Kp := (⟨"ClassWorksModel", "isTrial", "(I)Z"⟩, prog_13_method_198_code, 2, some (.boolean), [])
theorem mv_Model_isTrial : MV k_Model_isTrial 11 1 := ⟨⟨_, rfl, rfl⟩, by decide, (tbk_mem (j := 17) (k := 214) rfl), Or.inr ⟨(tbk_mem (j := 17) (k := 213) rfl), 131, (tbk_mem (j := 11) (k := 41) rfl)⟩, Or.inl ⟨rfl, (tbk_mem (j := 17) (k := 215) rfl)⟩, ⟨by decide, by decide⟩, by decide +kernel, by decide +kernel, by decide⟩
def k_Model_outcome : Kp := (⟨"ClassWorksModel", "outcome", "(III)I"⟩, prog_13_method_199_code, 4, some (.int), [])
theorem mv_Model_outcome : MV k_Model_outcome 11 3 := ⟨⟨_, rfl, rfl⟩, by decide, (tbk_mem (j := 17) (k := 209) rfl), Or.inl (tbk_mem (j := 17) (k := 210) rfl), Or.inl ⟨rfl, (tbk_mem (j := 17) (k := 211) rfl)⟩, ⟨by decide, by decide⟩, by decide +kernel, by decide +kernel, by decide⟩
def k_Model_look : Kp := (⟨"ClassWorksModel", "look", "(I)V"⟩, prog_13_method_200_code, 5, none, [])
theorem mv_Model_look : MV k_Model_look 11 1 := ⟨⟨_, rfl, rfl⟩, by decide, (tbk_mem (j := 17) (k := 230) rfl), Or.inr ⟨(tbk_mem (j := 17) (k := 229) rfl), 131, (tbk_mem (j := 11) (k := 41) rfl)⟩, Or.inl ⟨rfl, (tbk_mem (j := 17) (k := 231) rfl)⟩, ⟨by decide, by decide⟩, by decide +kernel, by decide +kernel, by decide⟩
def k_Model_meets : Kp := (⟨"ClassWorksModel", "meets", "(I)I"⟩, prog_13_method_201_code, 2, some (.int), [])
theorem mv_Model_meets : MV k_Model_meets 11 1 := ⟨⟨_, rfl, rfl⟩, by decide, (tbk_mem (j := 17) (k := 225) rfl), Or.inl (tbk_mem (j := 17) (k := 226) rfl), Or.inl ⟨rfl, (tbk_mem (j := 17) (k := 227) rfl)⟩, ⟨by decide, by decide⟩, by decide +kernel, by decide +kernel, by decide⟩
def k_Model_finds : Kp := (⟨"ClassWorksModel", "finds", "(II)I"⟩, prog_13_method_202_code, 5, some (.int), [])
theorem mv_Model_finds : MV k_Model_finds 11 2 := ⟨⟨_, rfl, rfl⟩, by decide, (tbk_mem (j := 17) (k := 233) rfl), Or.inl (tbk_mem (j := 17) (k := 234) rfl), Or.inl ⟨rfl, (tbk_mem (j := 17) (k := 235) rfl)⟩, ⟨by decide, by decide⟩, by decide +kernel, by decide +kernel, by decide⟩
def k_Model_isRule : Kp := (⟨"ClassWorksModel", "isRule", "(I)Z"⟩, prog_13_method_203_code, 1, some (.boolean), [])
theorem ms_Model_isRule : MSt k_Model_isRule 1 := ⟨(tbk_mem (j := 18) (k := 1) rfl), (tbk_mem (j := 1) (k := 21) rfl), Or.inl ⟨rfl, (tbk_mem (j := 18) (k := 2) rfl)⟩, ⟨by decide, by decide⟩, by decide +kernel, by decide +kernel, by decide⟩
def k_Model_hole : Kp := (⟨"ClassWorksModel", "hole", "(I)I"⟩, prog_13_method_204_code, 6, some (.int), [])
theorem mv_Model_hole : MV k_Model_hole 11 1 := ⟨⟨_, rfl, rfl⟩, by decide, (tbk_mem (j := 17) (k := 237) rfl), Or.inl (tbk_mem (j := 17) (k := 238) rfl), Or.inl ⟨rfl, (tbk_mem (j := 17) (k := 239) rfl)⟩, ⟨by decide, by decide⟩, by decide +kernel, by decide +kernel, by decide⟩
def k_Model_together : Kp := (⟨"ClassWorksModel", "together", "(IZ)J"⟩, prog_13_method_205_code, 6, some (.long), [])
theorem mv_Model_together : MV k_Model_together 11 2 := ⟨⟨_, rfl, rfl⟩, by decide, (tbk_mem (j := 18) (k := 9) rfl), Or.inr ⟨(tbk_mem (j := 18) (k := 8) rfl), 131, (tbk_mem (j := 11) (k := 41) rfl)⟩, Or.inl ⟨rfl, (tbk_mem (j := 18) (k := 10) rfl)⟩, ⟨by decide, by decide⟩, by decide +kernel, by decide +kernel, by decide⟩
def k_Model_least : Kp := (⟨"ClassWorksModel", "least", "()I"⟩, prog_13_method_206_code, 7, some (.int), [])
theorem mv_Model_least : MV k_Model_least 11 0 := ⟨⟨_, rfl, rfl⟩, by decide, (tbk_mem (j := 18) (k := 4) rfl), Or.inl (tbk_mem (j := 18) (k := 5) rfl), Or.inl ⟨rfl, (tbk_mem (j := 18) (k := 6) rfl)⟩, ⟨by decide, by decide⟩, by decide +kernel, by decide +kernel, by decide⟩
def k_Model_addTrial : Kp := (⟨"ClassWorksModel", "addTrial", "(I)V"⟩, prog_13_method_208_code, 4, none, [])
theorem mv_Model_addTrial : MV k_Model_addTrial 11 1 := ⟨⟨_, rfl, rfl⟩, by decide, (tbk_mem (j := 18) (k := 17) rfl), Or.inr ⟨(tbk_mem (j := 18) (k := 16) rfl), 131, (tbk_mem (j := 11) (k := 41) rfl)⟩, Or.inl ⟨rfl, (tbk_mem (j := 18) (k := 18) rfl)⟩, ⟨by decide, by decide⟩, by decide +kernel, by decide +kernel, by decide⟩
def k_Model_fewest : Kp := (⟨"ClassWorksModel", "fewest", "()I"⟩, prog_13_method_207_code, 5, some (.int), [])
theorem mv_Model_fewest : MV k_Model_fewest 11 0 := ⟨⟨_, rfl, rfl⟩, by decide, (tbk_mem (j := 18) (k := 12) rfl), Or.inl (tbk_mem (j := 18) (k := 13) rfl), Or.inl ⟨rfl, (tbk_mem (j := 18) (k := 14) rfl)⟩, ⟨by decide, by decide⟩, by decide +kernel, by decide +kernel, by decide⟩
def k_Model_linesOf : Kp := (⟨"ClassWorksModel", "linesOf", "(I)I"⟩, prog_13_method_209_code, 4, some (.int), [])
theorem mv_Model_linesOf : MV k_Model_linesOf 11 1 := ⟨⟨_, rfl, rfl⟩, by decide, (tbk_mem (j := 18) (k := 25) rfl), Or.inr ⟨(tbk_mem (j := 18) (k := 24) rfl), 131, (tbk_mem (j := 11) (k := 41) rfl)⟩, Or.inl ⟨rfl, (tbk_mem (j := 18) (k := 26) rfl)⟩, ⟨by decide, by decide⟩, by decide +kernel, by decide +kernel, by decide⟩
def k_Model_draftLine : Kp := (⟨"ClassWorksModel", "draftLine", "(II)V"⟩, prog_13_method_210_code, 4, none, [])
theorem mv_Model_draftLine : MV k_Model_draftLine 11 2 := ⟨⟨_, rfl, rfl⟩, by decide, (tbk_mem (j := 18) (k := 29) rfl), Or.inr ⟨(tbk_mem (j := 18) (k := 28) rfl), 131, (tbk_mem (j := 11) (k := 41) rfl)⟩, Or.inl ⟨rfl, (tbk_mem (j := 18) (k := 30) rfl)⟩, ⟨by decide, by decide⟩, by decide +kernel, by decide +kernel, by decide⟩
def k_Model_shrink : Kp := (⟨"ClassWorksModel", "shrink", "(II)I"⟩, prog_13_method_211_code, 10, some (.int), [])
theorem mv_Model_shrink : MV k_Model_shrink 11 2 := ⟨⟨_, rfl, rfl⟩, by decide, (tbk_mem (j := 18) (k := 20) rfl), Or.inl (tbk_mem (j := 18) (k := 21) rfl), Or.inl ⟨rfl, (tbk_mem (j := 18) (k := 22) rfl)⟩, ⟨by decide, by decide⟩, by decide +kernel, by decide +kernel, by decide⟩
def k_Model_change : Kp := (⟨"ClassWorksModel", "change", "(IIII)I"⟩, prog_13_method_212_code, 10, some (.int), [])
theorem mv_Model_change : MV k_Model_change 11 4 := ⟨⟨_, rfl, rfl⟩, by decide, (tbk_mem (j := 18) (k := 32) rfl), Or.inl (tbk_mem (j := 18) (k := 33) rfl), Or.inl ⟨rfl, (tbk_mem (j := 18) (k := 34) rfl)⟩, ⟨by decide, by decide⟩, by decide +kernel, by decide +kernel, by decide⟩
def k_Model_text : Kp := (⟨"ClassWorksModel", "text", "(II)I"⟩, prog_13_method_213_code, 3, some (.int), [])
theorem mv_Model_text : MV k_Model_text 11 2 := ⟨⟨_, rfl, rfl⟩, by decide, (tbk_mem (j := 18) (k := 36) rfl), Or.inl (tbk_mem (j := 18) (k := 37) rfl), Or.inl ⟨rfl, (tbk_mem (j := 18) (k := 38) rfl)⟩, ⟨by decide, by decide⟩, by decide +kernel, by decide +kernel, by decide⟩
def k_Model_count : Kp := (⟨"ClassWorksModel", "count", "(I)I"⟩, prog_13_method_214_code, 2, some (.int), [])
theorem mv_Model_count : MV k_Model_count 11 1 := ⟨⟨_, rfl, rfl⟩, by decide, (tbk_mem (j := 18) (k := 40) rfl), Or.inl (tbk_mem (j := 18) (k := 41) rfl), Or.inl ⟨rfl, (tbk_mem (j := 18) (k := 42) rfl)⟩, ⟨by decide, by decide⟩, by decide +kernel, by decide +kernel, by decide⟩
def w_Model_collect_j494 (this : Nat) (Q : Int32 → Mem → Prop) (k350 : Int32 → Int32 → Int32 → Mem → Prop) (v2 : Int32) (v3 : Int32) (v4 : Int32) (M : Mem) : Prop :=
  k350 v2 v3 (v4 + (1 : Int32)) M
def w_Model_collect_j422 (this : Nat) (Q : Int32 → Mem → Prop) (k350 : Int32 → Int32 → Int32 → Mem → Prop) (v2 : Int32) (v3 : Int32) (v4 : Int32) (M : Mem) : Prop :=
  ∃ i23, (mR M 11 this 45) = some (12, i23) ∧ vp_in v4 (mL M 524 i23) ∧ if (mI M 524 i23 v4.toNatClampNeg) = 0 then (w_Model_collect_j494 this Q k350 v2 v3 v4 M) else (∃ i26, (mR M 11 this 45) = some (12, i26) ∧ ∃ i27, (mR M 11 this 45) = some (12, i27) ∧ vp_in v4 (mL M 158 i27) ∧ ∃ i29, (mR M 11 this 45) = some (12, i29) ∧ vp_in v4 (mL M 159 i29) ∧ ¬ (mI M 158 i27 v4.toNatClampNeg) < 0 ∧ ¬ v3 < 0 ∧ ¬ (mI M 159 i29 v4.toNatClampNeg) < 0 ∧ (mI M 158 i27 v4.toNatClampNeg).toNatClampNeg + (mI M 159 i29 v4.toNatClampNeg).toNatClampNeg ≤ mL M 161 i26 ∧ v3.toNatClampNeg + (mI M 159 i29 v4.toNatClampNeg).toNatClampNeg ≤ mL M 121 this ∧ ∃ M31, M31 = cpI M 161 i26 (mI M 158 i27 v4.toNatClampNeg).toNatClampNeg 121 this v3.toNatClampNeg (mI M 159 i29 v4.toNatClampNeg).toNatClampNeg ∧ ∃ i37, (mR M31 11 this 45) = some (12, i37) ∧ vp_in v4 (mL M31 158 i37) ∧ ∃ i39, (mR (sI M31 158 i37 v4.toNatClampNeg v3) 11 this 45) = some (12, i39) ∧ vp_in v4 (mL (sI M31 158 i37 v4.toNatClampNeg v3) 159 i39) ∧ ∃ x41 : Int32, x41 = (v3 + (mI (sI M31 158 i37 v4.toNatClampNeg v3) 159 i39 v4.toNatClampNeg)) ∧ w_Model_collect_j494 this Q k350 v2 x41 v4 (sI M31 158 i37 v4.toNatClampNeg v3))
def w_Model_collect_L350 (this : Nat) (Q : Int32 → Mem → Prop) : Nat → Int32 → Int32 → Int32 → Mem → Prop
  | 0, _, _, _, _ => False
  | n + 1, v2, v3, v4, M => if (800 : Int32) < v4 then (∃ i12, (mR M 11 this 45) = some (12, i12) ∧ ¬ (0 : Int32) < 0 ∧ ¬ (0 : Int32) < 0 ∧ ¬ v3 < 0 ∧ (0 : Int32).toNatClampNeg + v3.toNatClampNeg ≤ mL M 121 this ∧ (0 : Int32).toNatClampNeg + v3.toNatClampNeg ≤ mL M 161 i12 ∧ ∃ M13, M13 = cpI M 121 this (0 : Int32).toNatClampNeg 161 i12 (0 : Int32).toNatClampNeg v3.toNatClampNeg ∧ ∃ i19, (mR M13 11 this 45) = some (12, i19) ∧ Q v2 (sI M13 12 i19 52 v3)) else (∃ i20, (mR M 11 this 45) = some (12, i20) ∧ vp_in v4 (mL M 524 i20) ∧ if (mI M 524 i20 v4.toNatClampNeg) = 0 then (w_Model_collect_j422 this Q (w_Model_collect_L350 this Q n) v2 v3 v4 M) else (vp_in v4 (mL M 521 this) ∧ if (mI M 521 this v4.toNatClampNeg) = 0 then (∃ i44, (mR M 11 this 45) = some (12, i44) ∧ vp_in v4 (mL M 524 i44) ∧ ∃ i46, (mR (sI M 524 i44 v4.toNatClampNeg ((0 : Int32) &&& 1)) 11 this 45) = some (12, i46) ∧ vp_in v4 (mL (sI M 524 i44 v4.toNatClampNeg ((0 : Int32) &&& 1)) 160 i46) ∧ ∃ M48, M48 = (sI (sI M 524 i44 v4.toNatClampNeg ((0 : Int32) &&& 1)) 160 i46 v4.toNatClampNeg (0 : Int32)) ∧ ∃ i49, (mR M48 11 this 45) = some (12, i49) ∧ w_Model_collect_j494 this Q (w_Model_collect_L350 this Q n) (v2 + (1 : Int32)) v3 v4 (sI M48 12 i49 50 ((mI M48 12 i49 50) - (1 : Int32)))) else (w_Model_collect_j422 this Q (w_Model_collect_L350 this Q n) v2 v3 v4 M)))
def w_Model_collect_j337 (this : Nat) (Q : Int32 → Mem → Prop) (k247 : Int32 → Mem → Prop) (v2 : Int32) (M : Mem) : Prop :=
  k247 (v2 + (1 : Int32)) M
def w_Model_collect_j331 (this : Nat) (Q : Int32 → Mem → Prop) (k247 : Int32 → Mem → Prop) (k276 : Int32 → Int32 → Int32 → Int32 → Mem → Prop) (v2 : Int32) (v3 : Int32) (v4 : Int32) (v5 : Int32) (M : Mem) : Prop :=
  k276 v2 v3 v4 (v5 + (1 : Int32)) M
def w_Model_collect_L276 (this : Nat) (Q : Int32 → Mem → Prop) (k247 : Int32 → Mem → Prop) : Nat → Int32 → Int32 → Int32 → Int32 → Mem → Prop
  | 0, _, _, _, _, _ => False
  | n + 1, v2, v3, v4, v5, M => if v4 = (-1 : Int32) then (w_Model_collect_j337 this Q k247 v2 M) else (∃ i56, (mR M 11 this 45) = some (12, i56) ∧ vp_in v3 (mL M 159 i56) ∧ if (mI M 159 i56 v3.toNatClampNeg) ≤ v5 then (w_Model_collect_j337 this Q k247 v2 M) else (w_Model_isRefField this v4 v5 (fun r60 M59 => if r60 = 0 then (w_Model_collect_j331 this Q k247 (w_Model_collect_L276 this Q k247 n) v2 v3 v4 v5 M59) else (∃ i62, (mR M59 11 this 45) = some (12, i62) ∧ ∃ i63, (mR M59 11 this 45) = some (12, i63) ∧ vp_in v3 (mL M59 158 i63) ∧ vp_in ((mI M59 158 i63 v3.toNatClampNeg) + v5) (mL M59 161 i62) ∧ w_Model_mark this (mI M59 161 i62 ((mI M59 158 i63 v3.toNatClampNeg) + v5).toNatClampNeg) (fun M66 => w_Model_collect_j331 this Q k247 (w_Model_collect_L276 this Q k247 n) v2 v3 v4 v5 M66) M59)) M))
def w_Model_collect_L247 (this : Nat) (Q : Int32 → Mem → Prop) : Nat → Int32 → Mem → Prop
  | 0, _, _ => False
  | n + 1, v2, M => if (mI M 11 this 112) ≤ v2 then (∃ n50 : Nat, w_Model_collect_L350 this Q n50 (0 : Int32) (0 : Int32) (1 : Int32) M) else (vp_in v2 (mL M 120 this) ∧ ∃ i52, (mR M 11 this 45) = some (12, i52) ∧ vp_in (mI M 120 this v2.toNatClampNeg) (mL M 157 i52) ∧ ∃ x54 : Int32, x54 = (mI M 157 i52 (mI M 120 this v2.toNatClampNeg).toNatClampNeg) ∧ ∃ n67 : Nat, w_Model_collect_L276 this Q (w_Model_collect_L247 this Q n) n67 v2 (mI M 120 this v2.toNatClampNeg) x54 (0 : Int32) M)
def w_Model_collect_j239 (this : Nat) (Q : Int32 → Mem → Prop) (k138 : Int32 → Mem → Prop) (v2 : Int32) (M : Mem) : Prop :=
  k138 (v2 + (1 : Int32)) M
def w_Model_collect_j227 (this : Nat) (Q : Int32 → Mem → Prop) (k138 : Int32 → Mem → Prop) (k156 : Int32 → Nat → Int32 → Mem → Prop) (k199 : Int32 → Nat → Int32 → Int32 → Int32 → Mem → Prop) (v2 : Int32) (v3 : Nat) (v4 : Int32) (v5 : Int32) (v6 : Int32) (M : Mem) : Prop :=
  k199 v2 v3 v4 v5 (v6 + (1 : Int32)) M
def w_Model_collect_L199 (this : Nat) (Q : Int32 → Mem → Prop) (k138 : Int32 → Mem → Prop) (k156 : Int32 → Nat → Int32 → Mem → Prop) : Nat → Int32 → Nat → Int32 → Int32 → Int32 → Mem → Prop
  | 0, _, _, _, _, _, _ => False
  | n + 1, v2, v3, v4, v5, v6, M => if v5 ≤ v6 then (k156 v2 v3 (v4 + (1 : Int32)) M) else (vp_in v6 (mL M 525 v3) ∧ if (mI M 525 v3 v6.toNatClampNeg) = 0 then (w_Model_collect_j227 this Q k138 k156 (w_Model_collect_L199 this Q k138 k156 n) v2 v3 v4 v5 v6 M) else (vp_in v6 (mL M 176 v3) ∧ w_Model_mark this (mI M 176 v3 v6.toNatClampNeg) (fun M80 => w_Model_collect_j227 this Q k138 k156 (w_Model_collect_L199 this Q k138 k156 n) v2 v3 v4 v5 v6 M80) M))
def w_Model_collect_L156 (this : Nat) (Q : Int32 → Mem → Prop) (k138 : Int32 → Mem → Prop) : Nat → Int32 → Nat → Int32 → Mem → Prop
  | 0, _, _, _, _ => False
  | n + 1, v2, v3, v4, M => if (mI M 13 v3 0) = (-2 : Int32) then (w_Model_collect_j239 this Q k138 v2 M) else (if (mI M 13 v3 22) ≤ v4 then (w_Model_collect_j239 this Q k138 v2 M) else (vp_in v4 (mL M 175 v3) ∧ ∃ x75 : Int32, x75 = ((((44 : Int32) * v4) + (20 : Int32)) + (mI M 175 v3 v4.toNatClampNeg)) ∧ ∃ n81 : Nat, w_Model_collect_L199 this Q k138 (w_Model_collect_L156 this Q k138 n) n81 v2 v3 v4 x75 ((44 : Int32) * v4) M))
def w_Model_collect_L138 (this : Nat) (Q : Int32 → Mem → Prop) : Nat → Int32 → Mem → Prop
  | 0, _, _ => False
  | n + 1, v2, M => if (3 : Int32) ≤ v2 then (∃ n68 : Nat, w_Model_collect_L247 this Q n68 (0 : Int32) M) else (∃ i69, (mR M 11 this 45) = some (12, i69) ∧ vp_in v2 (mL M 704 i69) ∧ ∃ i71, (mR M 704 i69 v2.toNatClampNeg) = some (13, i71) ∧ ∃ n82 : Nat, w_Model_collect_L156 this Q (w_Model_collect_L138 this Q n) n82 v2 i71 (0 : Int32) M)
def w_Model_collect_j124 (this : Nat) (Q : Int32 → Mem → Prop) (k50 : Int32 → Mem → Prop) (k66 : Int32 → Int32 → Mem → Prop) (v2 : Int32) (v3 : Int32) (M : Mem) : Prop :=
  k66 v2 (v3 + (1 : Int32)) M
def w_Model_collect_L66 (this : Nat) (Q : Int32 → Mem → Prop) (k50 : Int32 → Mem → Prop) : Nat → Int32 → Int32 → Mem → Prop
  | 0, _, _, _ => False
  | n + 1, v2, v3, M => ∃ i84, (mR M 11 this 45) = some (12, i84) ∧ vp_in v2 (mL M 135 i84) ∧ if (((8 : Int32) * v2) + (mI M 135 i84 v2.toNatClampNeg)) ≤ v3 then (k50 (v2 + (1 : Int32)) M) else (∃ i87, (mR M 11 this 45) = some (12, i87) ∧ vp_in v3 (mL M 141 i87) ∧ if ((mI M 141 i87 v3.toNatClampNeg) &&& (1 : Int32)) = 0 then (w_Model_collect_j124 this Q k50 (w_Model_collect_L66 this Q k50 n) v2 v3 M) else (∃ i90, (mR M 11 this 45) = some (12, i90) ∧ vp_in v3 (mL M 140 i90) ∧ if (mI M 140 i90 v3.toNatClampNeg) = (1 : Int32) then (w_Model_collect_j124 this Q k50 (w_Model_collect_L66 this Q k50 n) v2 v3 M) else (∃ i93, (mR M 11 this 45) = some (12, i93) ∧ vp_in v3 (mL M 143 i93) ∧ w_Model_mark this (mI M 143 i93 v3.toNatClampNeg) (fun M95 => w_Model_collect_j124 this Q k50 (w_Model_collect_L66 this Q k50 n) v2 v3 M95) M)))
def w_Model_collect_L50 (this : Nat) (Q : Int32 → Mem → Prop) : Nat → Int32 → Mem → Prop
  | 0, _, _ => False
  | n + 1, v2, M => ∃ i7, (mR M 11 this 45) = some (12, i7) ∧ if (mI M 12 i7 2) ≤ v2 then (∃ n83 : Nat, w_Model_collect_L138 this Q n83 (0 : Int32) M) else (∃ n96 : Nat, w_Model_collect_L66 this Q (w_Model_collect_L50 this Q n) n96 v2 ((8 : Int32) * v2) M)
def w_Model_collect_L27 (this : Nat) (Q : Int32 → Mem → Prop) : Nat → Int32 → Mem → Prop
  | 0, _, _ => False
  | n + 1, v2, M => if (800 : Int32) < v2 then (∃ n97 : Nat, w_Model_collect_L50 this Q n97 (21 : Int32) M) else (vp_in v2 (mL M 521 this) ∧ (w_Model_collect_L27 this Q n) (v2 + (1 : Int32)) (sI M 521 this v2.toNatClampNeg ((0 : Int32) &&& 1)))
def w_Model_collect (this : Nat) (a1 : Int32) (Q : Int32 → Mem → Prop) (M : Mem) : Prop :=
  w_Model_isWorld this a1 (fun r2 M1 => if r2 = 0 then (Q (-1 : Int32) M1) else (vp_in a1 (mL M1 703 0) ∧ ∃ i5, (mR M1 703 0 a1.toNatClampNeg) = some (12, i5) ∧ ∃ n99 : Nat, w_Model_collect_L27 this Q n99 (0 : Int32) (sI (sR M1 11 this 45 (some (12, i5))) 11 this 112 (0 : Int32)))) M
set_option maxRecDepth 4096 in
theorem lk_Model_collect_j494 {γ : Gm} (hγ : Gk γ) (this : Nat) (Q : Int32 → Mem → Prop) (k350 : Int32 → Int32 → Int32 → Mem → Prop) (hk350 : ∀ (v2 : Int32) (v3 : Int32) (v4 : Int32) (M : Mem), k350 v2 v3 v4 M → E γ k_Model_collect 4 350 [some (vr (some (11, this))), none, some (vi v2), some (vi v3), some (vi v4), none, none] [] M (Qi Q)) (v2 : Int32) (v3 : Int32) (v4 : Int32) (M : Mem) (h : w_Model_collect_j494 this Q k350 v2 v3 v4 M) : E γ k_Model_collect 4 494 [some (vr (some (11, this))), none, some (vi v2), some (vi v3), some (vi v4), none, none] [] M (Qi Q) := by
  unfold w_Model_collect_j494 at h
  refine E_blk (lv' := [some (vr (some (11, this))), none, some (vi v2), some (vi v3), some (vi (v4 + (1 : Int32))), none, none]) (st' := []) (M1 := M) (pc' := 497) (tb_Model hγ) [.iinc 4 1] (by decide +kernel) rfl rfl trivial ?_
  refine E_goto (off := -147) (tgt := 350) (by decide +kernel) (by decide) ?_
  refine E_mask [true, false, true, true, true, false, false] rfl ?_
  exact hk350 v2 v3 (v4 + (1 : Int32)) M h
set_option maxRecDepth 4096 in
theorem lk_Model_collect_j422 {γ : Gm} (hγ : Gk γ) (this : Nat) (Q : Int32 → Mem → Prop) (k350 : Int32 → Int32 → Int32 → Mem → Prop) (hk350 : ∀ (v2 : Int32) (v3 : Int32) (v4 : Int32) (M : Mem), k350 v2 v3 v4 M → E γ k_Model_collect 4 350 [some (vr (some (11, this))), none, some (vi v2), some (vi v3), some (vi v4), none, none] [] M (Qi Q)) (v2 : Int32) (v3 : Int32) (v4 : Int32) (M : Mem) (h : w_Model_collect_j422 this Q k350 v2 v3 v4 M) : E γ k_Model_collect 4 422 [some (vr (some (11, this))), none, some (vi v2), some (vi v3), some (vi v4), none, none] [] M (Qi Q) := by
  unfold w_Model_collect_j422 at h
  refine E_blk (lv' := [some (vr (some (11, this))), none, some (vi v2), some (vi v3), some (vi v4), none, none]) (st' := [vr (mR M 11 this 45)]) (M1 := M) (pc' := 426) (tb_Model hγ) [.aload_n 0, .getfield 522] (by decide +kernel) rfl rfl trivial ?_
  obtain ⟨i23, ei23, h⟩ := h
  rw [ei23]
  obtain ⟨c24, h⟩ := h
  refine E_blk (lv' := [some (vr (some (11, this))), none, some (vi v2), some (vi v3), some (vi v4), none, none]) (st' := [vi (mI M 524 i23 v4.toNatClampNeg)]) (M1 := M) (pc' := 432) (tb_Model hγ) [.getfield 510, .iload 4, .baload] (by decide +kernel) rfl rfl ⟨c24, trivial⟩ ?_
  refine E_if_eq (off := 62) (tgt := 494) (by decide +kernel) (by decide) (fun b25 => ?_) (fun b25 => ?_)
  · rw [if_pos b25] at h
    refine E_mask [true, false, true, true, true, false, false] rfl ?_
    exact lk_Model_collect_j494 hγ this Q k350 hk350 v2 v3 v4 M h
  · rw [if_neg b25] at h
    refine E_blk (lv' := [some (vr (some (11, this))), none, some (vi v2), some (vi v3), some (vi v4), none, none]) (st' := [vr (mR M 11 this 45)]) (M1 := M) (pc' := 439) (tb_Model hγ) [.aload_n 0, .getfield 522] (by decide +kernel) rfl rfl trivial ?_
    obtain ⟨i26, ei26, h⟩ := h
    rw [ei26]
    refine E_blk (lv' := [some (vr (some (11, this))), none, some (vi v2), some (vi v3), some (vi v4), none, none]) (st' := [vr (mR M 11 this 45), vr (some (161, i26))]) (M1 := M) (pc' := 446) (tb_Model hγ) [.getfield 893, .aload_n 0, .getfield 522] (by decide +kernel) rfl rfl trivial ?_
    obtain ⟨i27, ei27, h⟩ := h
    rw [ei27]
    obtain ⟨c28, h⟩ := h
    refine E_blk (lv' := [some (vr (some (11, this))), none, some (vi v2), some (vi v3), some (vi v4), none, none]) (st' := [vr (mR M 11 this 45), vi v3, vr (some (121, this)), vi (mI M 158 i27 v4.toNatClampNeg), vr (some (161, i26))]) (M1 := M) (pc' := 461) (tb_Model hγ) [.getfield 884, .iload 4, .iaload, .aload_n 0, .getfield 362, .iload_n 3, .aload_n 0, .getfield 522] (by decide +kernel) rfl rfl ⟨c28, trivial⟩ ?_
    obtain ⟨i29, ei29, h⟩ := h
    rw [ei29]
    obtain ⟨c30, h⟩ := h
    refine E_blk (lv' := [some (vr (some (11, this))), none, some (vi v2), some (vi v3), some (vi v4), none, none]) (st' := [vi (mI M 159 i29 v4.toNatClampNeg), vi v3, vr (some (121, this)), vi (mI M 158 i27 v4.toNatClampNeg), vr (some (161, i26))]) (M1 := M) (pc' := 467) (tb_Model hγ) [.getfield 887, .iload 4, .iaload] (by decide +kernel) rfl rfl ⟨c30, trivial⟩ ?_
    obtain ⟨c32, c33, c34, c35, c36, M31, eM31, h⟩ := h
    refine E_copy (pc := 467) (κ := k_Model_collect) (f := 161) (i := i26) (g := 121) (j := this) (sp := (mI M 158 i27 v4.toNatClampNeg)) (dp := v3) (n := (mI M 159 i29 v4.toNatClampNeg)) (idx := 11) (st := []) c32 c33 c34 c35 c36 (by decide) (by decide) rfl (by decide) (tbk_mem (j := 11) (k := 65) rfl) (by decide +kernel) (Nat.le_of_ble_eq_true rfl) ?_
    rw [← eM31]
    refine E_blk (lv' := [some (vr (some (11, this))), none, some (vi v2), some (vi v3), some (vi v4), none, none]) (st' := [vr (mR M31 11 this 45)]) (M1 := M31) (pc' := 474) (tb_Model hγ) [.aload_n 0, .getfield 522] (by decide +kernel) rfl rfl trivial ?_
    obtain ⟨i37, ei37, h⟩ := h
    rw [ei37]
    obtain ⟨c38, h⟩ := h
    refine E_blk (lv' := [some (vr (some (11, this))), none, some (vi v2), some (vi v3), some (vi v4), none, none]) (st' := [vr (mR (sI M31 158 i37 v4.toNatClampNeg v3) 11 this 45), vi v3]) (M1 := (sI M31 158 i37 v4.toNatClampNeg v3)) (pc' := 486) (tb_Model hγ) [.getfield 884, .iload 4, .iload_n 3, .iastore, .iload_n 3, .aload_n 0, .getfield 522] (by decide +kernel) rfl rfl ⟨c38, trivial⟩ ?_
    obtain ⟨i39, ei39, h⟩ := h
    rw [ei39]
    obtain ⟨c40, h⟩ := h
    refine E_blk (lv' := [some (vr (some (11, this))), none, some (vi v2), some (vi (v3 + (mI (sI M31 158 i37 v4.toNatClampNeg v3) 159 i39 v4.toNatClampNeg))), some (vi v4), none, none]) (st' := []) (M1 := (sI M31 158 i37 v4.toNatClampNeg v3)) (pc' := 494) (tb_Model hγ) [.getfield 887, .iload 4, .iaload, .iadd, .istore_n 3] (by decide +kernel) rfl rfl ⟨c40, trivial⟩ ?_
    obtain ⟨x41, ex41, h⟩ := h
    rw [← ex41]
    refine E_mask [true, false, true, true, true, false, false] rfl ?_
    exact lk_Model_collect_j494 hγ this Q k350 hk350 v2 x41 v4 (sI M31 158 i37 v4.toNatClampNeg v3) h
set_option maxRecDepth 4096 in
theorem lk_Model_collect_L350 {γ : Gm} (hγ : Gk γ) (this : Nat) (Q : Int32 → Mem → Prop) : ∀ (n : Nat) (v2 : Int32) (v3 : Int32) (v4 : Int32) (M : Mem), w_Model_collect_L350 this Q n v2 v3 v4 M → E γ k_Model_collect 4 350 [some (vr (some (11, this))), none, some (vi v2), some (vi v3), some (vi v4), none, none] [] M (Qi Q) := by
  intro n
  induction n with
  | zero => intro v2 v3 v4 M h; exact h.elim
  | succ n ih =>
    intro v2 v3 v4 M h
    unfold w_Model_collect_L350 at h
    refine E_blk (lv' := [some (vr (some (11, this))), none, some (vi v2), some (vi v3), some (vi v4), none, none]) (st' := [vi (800 : Int32), vi v4]) (M1 := M) (pc' := 355) (tb_Model hγ) [.iload 4, .sipush 800] (by decide +kernel) rfl rfl trivial ?_
    refine E_icmp_gt (off := 145) (tgt := 500) (by decide +kernel) (by decide) (fun b11 => ?_) (fun b11 => ?_)
    · rw [if_pos b11] at h
      refine E_blk (lv' := [some (vr (some (11, this))), none, some (vi v2), some (vi v3), some (vi v4), none, none]) (st' := [vr (mR M 11 this 45), vi (0 : Int32), vr (some (121, this))]) (M1 := M) (pc' := 509) (tb_Model hγ) [.aload_n 0, .getfield 362, .iconst 0, .aload_n 0, .getfield 522] (by decide +kernel) rfl rfl trivial ?_
      obtain ⟨i12, ei12, h⟩ := h
      rw [ei12]
      refine E_blk (lv' := [some (vr (some (11, this))), none, some (vi v2), some (vi v3), some (vi v4), none, none]) (st' := [vi v3, vi (0 : Int32), vr (some (161, i12)), vi (0 : Int32), vr (some (121, this))]) (M1 := M) (pc' := 514) (tb_Model hγ) [.getfield 893, .iconst 0, .iload_n 3] (by decide +kernel) rfl rfl trivial ?_
      obtain ⟨c14, c15, c16, c17, c18, M13, eM13, h⟩ := h
      refine E_copy (pc := 514) (κ := k_Model_collect) (f := 121) (i := this) (g := 161) (j := i12) (sp := (0 : Int32)) (dp := (0 : Int32)) (n := v3) (idx := 11) (st := []) c14 c15 c16 c17 c18 (by decide) (by decide) rfl (by decide) (tbk_mem (j := 11) (k := 65) rfl) (by decide +kernel) (Nat.le_of_ble_eq_true rfl) ?_
      rw [← eM13]
      refine E_blk (lv' := [some (vr (some (11, this))), none, some (vi v2), some (vi v3), some (vi v4), none, none]) (st' := [vr (mR M13 11 this 45)]) (M1 := M13) (pc' := 521) (tb_Model hγ) [.aload_n 0, .getfield 522] (by decide +kernel) rfl rfl trivial ?_
      obtain ⟨i19, ei19, h⟩ := h
      rw [ei19]
      refine E_blk (lv' := [some (vr (some (11, this))), none, some (vi v2), some (vi v3), some (vi v4), none, none]) (st' := [vi v2]) (M1 := (sI M13 12 i19 52 v3)) (pc' := 526) (tb_Model hγ) [.iload_n 3, .putfield 513, .iload_n 2] (by decide +kernel) rfl rfl trivial ?_
      exact E_iret rfl (by decide +kernel) h
    · rw [if_neg b11] at h
      refine E_blk (lv' := [some (vr (some (11, this))), none, some (vi v2), some (vi v3), some (vi v4), none, none]) (st' := [vr (mR M 11 this 45)]) (M1 := M) (pc' := 362) (tb_Model hγ) [.aload_n 0, .getfield 522] (by decide +kernel) rfl rfl trivial ?_
      obtain ⟨i20, ei20, h⟩ := h
      rw [ei20]
      obtain ⟨c21, h⟩ := h
      refine E_blk (lv' := [some (vr (some (11, this))), none, some (vi v2), some (vi v3), some (vi v4), none, none]) (st' := [vi (mI M 524 i20 v4.toNatClampNeg)]) (M1 := M) (pc' := 368) (tb_Model hγ) [.getfield 510, .iload 4, .baload] (by decide +kernel) rfl rfl ⟨c21, trivial⟩ ?_
      refine E_if_eq (off := 54) (tgt := 422) (by decide +kernel) (by decide) (fun b22 => ?_) (fun b22 => ?_)
      · rw [if_pos b22] at h
        refine E_mask [true, false, true, true, true, false, false] rfl ?_
        exact lk_Model_collect_j422 hγ this Q (w_Model_collect_L350 this Q n) ih v2 v3 v4 M h
      · rw [if_neg b22] at h
        obtain ⟨c42, h⟩ := h
        refine E_blk (lv' := [some (vr (some (11, this))), none, some (vi v2), some (vi v3), some (vi v4), none, none]) (st' := [vi (mI M 521 this v4.toNatClampNeg)]) (M1 := M) (pc' := 378) (tb_Model hγ) [.aload_n 0, .getfield 356, .iload 4, .baload] (by decide +kernel) rfl rfl ⟨c42, trivial⟩ ?_
        refine E_if_ne (off := 44) (tgt := 422) (by decide +kernel) (by decide) (fun b43 => ?_) (fun b43 => ?_)
        · rw [if_pos b43] at h
          refine E_blk (lv' := [some (vr (some (11, this))), none, some (vi v2), some (vi v3), some (vi v4), none, none]) (st' := [vr (mR M 11 this 45)]) (M1 := M) (pc' := 385) (tb_Model hγ) [.aload_n 0, .getfield 522] (by decide +kernel) rfl rfl trivial ?_
          obtain ⟨i44, ei44, h⟩ := h
          rw [ei44]
          obtain ⟨c45, h⟩ := h
          refine E_blk (lv' := [some (vr (some (11, this))), none, some (vi v2), some (vi v3), some (vi v4), none, none]) (st' := [vr (mR (sI M 524 i44 v4.toNatClampNeg ((0 : Int32) &&& 1)) 11 this 45)]) (M1 := (sI M 524 i44 v4.toNatClampNeg ((0 : Int32) &&& 1))) (pc' := 396) (tb_Model hγ) [.getfield 510, .iload 4, .iconst 0, .bastore, .aload_n 0, .getfield 522] (by decide +kernel) rfl rfl ⟨c45, trivial⟩ ?_
          obtain ⟨i46, ei46, h⟩ := h
          rw [ei46]
          obtain ⟨c47, h⟩ := h
          refine E_blk (lv' := [some (vr (some (11, this))), none, some (vi v2), some (vi v3), some (vi v4), none, none]) (st' := []) (M1 := (sI (sI M 524 i44 v4.toNatClampNeg ((0 : Int32) &&& 1)) 160 i46 v4.toNatClampNeg (0 : Int32))) (pc' := 403) (tb_Model hγ) [.getfield 890, .iload 4, .iconst 0, .iastore] (by decide +kernel) rfl rfl ⟨c47, trivial⟩ ?_
          obtain ⟨M48, eM48, h⟩ := h
          rw [← eM48]
          refine E_blk (lv' := [some (vr (some (11, this))), none, some (vi v2), some (vi v3), some (vi v4), none, none]) (st' := [vr (mR M48 11 this 45)]) (M1 := M48) (pc' := 407) (tb_Model hγ) [.aload_n 0, .getfield 522] (by decide +kernel) rfl rfl trivial ?_
          obtain ⟨i49, ei49, h⟩ := h
          rw [ei49]
          refine E_blk (lv' := [some (vr (some (11, this))), none, some (vi (v2 + (1 : Int32))), some (vi v3), some (vi v4), none, none]) (st' := []) (M1 := (sI M48 12 i49 50 ((mI M48 12 i49 50) - (1 : Int32)))) (pc' := 419) (tb_Model hγ) [.dup, .getfield 507, .iconst 1, .isub, .putfield 507, .iinc 2 1] (by decide +kernel) rfl rfl trivial ?_
          refine E_goto (off := 75) (tgt := 494) (by decide +kernel) (by decide) ?_
          refine E_mask [true, false, true, true, true, false, false] rfl ?_
          exact lk_Model_collect_j494 hγ this Q (w_Model_collect_L350 this Q n) ih (v2 + (1 : Int32)) v3 v4 (sI M48 12 i49 50 ((mI M48 12 i49 50) - (1 : Int32))) h
        · rw [if_neg b43] at h
          refine E_mask [true, false, true, true, true, false, false] rfl ?_
          exact lk_Model_collect_j422 hγ this Q (w_Model_collect_L350 this Q n) ih v2 v3 v4 M h
set_option maxRecDepth 4096 in
theorem lk_Model_collect_j337 {γ : Gm} (hγ : Gk γ) (this : Nat) (Q : Int32 → Mem → Prop) (k247 : Int32 → Mem → Prop) (hk247 : ∀ (v2 : Int32) (M : Mem), k247 v2 M → E γ k_Model_collect 4 247 [some (vr (some (11, this))), none, some (vi v2), none, none, none, none] [] M (Qi Q)) (v2 : Int32) (M : Mem) (h : w_Model_collect_j337 this Q k247 v2 M) : E γ k_Model_collect 4 337 [some (vr (some (11, this))), none, some (vi v2), none, none, none, none] [] M (Qi Q) := by
  unfold w_Model_collect_j337 at h
  refine E_blk (lv' := [some (vr (some (11, this))), none, some (vi (v2 + (1 : Int32))), none, none, none, none]) (st' := []) (M1 := M) (pc' := 340) (tb_Model hγ) [.iinc 2 1] (by decide +kernel) rfl rfl trivial ?_
  refine E_goto (off := -93) (tgt := 247) (by decide +kernel) (by decide) ?_
  refine E_mask [true, false, true, false, false, false, false] rfl ?_
  exact hk247 (v2 + (1 : Int32)) M h
set_option maxRecDepth 4096 in
theorem lk_Model_collect_j331 {γ : Gm} (hγ : Gk γ) (this : Nat) (Q : Int32 → Mem → Prop) (k247 : Int32 → Mem → Prop) (k276 : Int32 → Int32 → Int32 → Int32 → Mem → Prop) (hk247 : ∀ (v2 : Int32) (M : Mem), k247 v2 M → E γ k_Model_collect 4 247 [some (vr (some (11, this))), none, some (vi v2), none, none, none, none] [] M (Qi Q)) (hk276 : ∀ (v2 : Int32) (v3 : Int32) (v4 : Int32) (v5 : Int32) (M : Mem), k276 v2 v3 v4 v5 M → E γ k_Model_collect 4 276 [some (vr (some (11, this))), none, some (vi v2), some (vi v3), some (vi v4), some (vi v5), none] [] M (Qi Q)) (v2 : Int32) (v3 : Int32) (v4 : Int32) (v5 : Int32) (M : Mem) (h : w_Model_collect_j331 this Q k247 k276 v2 v3 v4 v5 M) : E γ k_Model_collect 4 331 [some (vr (some (11, this))), none, some (vi v2), some (vi v3), some (vi v4), some (vi v5), none] [] M (Qi Q) := by
  unfold w_Model_collect_j331 at h
  refine E_blk (lv' := [some (vr (some (11, this))), none, some (vi v2), some (vi v3), some (vi v4), some (vi (v5 + (1 : Int32))), none]) (st' := []) (M1 := M) (pc' := 334) (tb_Model hγ) [.iinc 5 1] (by decide +kernel) rfl rfl trivial ?_
  refine E_goto (off := -58) (tgt := 276) (by decide +kernel) (by decide) ?_
  refine E_mask [true, false, true, true, true, true, false] rfl ?_
  exact hk276 v2 v3 v4 (v5 + (1 : Int32)) M h
set_option maxRecDepth 4096 in
theorem lk_Model_collect_L276 {γ : Gm} (hγ : Gk γ) (this : Nat) (Q : Int32 → Mem → Prop) (k247 : Int32 → Mem → Prop) (hk247 : ∀ (v2 : Int32) (M : Mem), k247 v2 M → E γ k_Model_collect 4 247 [some (vr (some (11, this))), none, some (vi v2), none, none, none, none] [] M (Qi Q)) : ∀ (n : Nat) (v2 : Int32) (v3 : Int32) (v4 : Int32) (v5 : Int32) (M : Mem), w_Model_collect_L276 this Q k247 n v2 v3 v4 v5 M → E γ k_Model_collect 4 276 [some (vr (some (11, this))), none, some (vi v2), some (vi v3), some (vi v4), some (vi v5), none] [] M (Qi Q) := by
  intro n
  induction n with
  | zero => intro v2 v3 v4 v5 M h; exact h.elim
  | succ n ih =>
    intro v2 v3 v4 v5 M h
    unfold w_Model_collect_L276 at h
    refine E_blk (lv' := [some (vr (some (11, this))), none, some (vi v2), some (vi v3), some (vi v4), some (vi v5), none]) (st' := [vi (-1 : Int32), vi v4]) (M1 := M) (pc' := 279) (tb_Model hγ) [.iload 4, .iconst (.negSucc 0)] (by decide +kernel) rfl rfl trivial ?_
    refine E_icmp_eq (off := 58) (tgt := 337) (by decide +kernel) (by decide) (fun b55 => ?_) (fun b55 => ?_)
    · rw [if_pos b55] at h
      refine E_mask [true, false, true, false, false, false, false] rfl ?_
      exact lk_Model_collect_j337 hγ this Q k247 hk247 v2 M h
    · rw [if_neg b55] at h
      refine E_blk (lv' := [some (vr (some (11, this))), none, some (vi v2), some (vi v3), some (vi v4), some (vi v5), none]) (st' := [vr (mR M 11 this 45), vi v5]) (M1 := M) (pc' := 288) (tb_Model hγ) [.iload 5, .aload_n 0, .getfield 522] (by decide +kernel) rfl rfl trivial ?_
      obtain ⟨i56, ei56, h⟩ := h
      rw [ei56]
      obtain ⟨c57, h⟩ := h
      refine E_blk (lv' := [some (vr (some (11, this))), none, some (vi v2), some (vi v3), some (vi v4), some (vi v5), none]) (st' := [vi (mI M 159 i56 v3.toNatClampNeg), vi v5]) (M1 := M) (pc' := 293) (tb_Model hγ) [.getfield 887, .iload_n 3, .iaload] (by decide +kernel) rfl rfl ⟨c57, trivial⟩ ?_
      refine E_icmp_ge (off := 44) (tgt := 337) (by decide +kernel) (by decide) (fun b58 => ?_) (fun b58 => ?_)
      · rw [if_pos b58] at h
        refine E_mask [true, false, true, false, false, false, false] rfl ?_
        exact lk_Model_collect_j337 hγ this Q k247 hk247 v2 M h
      · rw [if_neg b58] at h
        refine E_blk (lv' := [some (vr (some (11, this))), none, some (vi v2), some (vi v3), some (vi v4), some (vi v5), none]) (st' := [vi v5, vi v4, vr (some (11, this))]) (M1 := M) (pc' := 301) (tb_Model hγ) [.aload_n 0, .iload 4, .iload 5] (by decide +kernel) rfl rfl trivial ?_
        refine E_callV (κ' := k_Model_isRefField) (As := [vi v4, vi v5]) (st := []) mv_Model_isRefField (Or.inl (tbk_mem (j := 17) (k := 26) rfl)) rfl (by decide +kernel) (Nat.le_of_ble_eq_true rfl) (Nat.le_of_ble_eq_true rfl) rfl (by decide) (lk_Model_isRefField hγ this v4 v5 _ M h) (fun _ _ => Qi_r) (fun v M59 hp => Qi_k (R := fun st => E γ k_Model_collect 4 304 [some (vr (some (11, this))), none, some (vi v2), some (vi v3), some (vi v4), some (vi v5), none] st M59 (Qi Q)) hp (fun r60 h => ?_))
        refine E_if_eq (off := 27) (tgt := 331) (by decide +kernel) (by decide) (fun b61 => ?_) (fun b61 => ?_)
        · rw [if_pos b61] at h
          refine E_mask [true, false, true, true, true, true, false] rfl ?_
          exact lk_Model_collect_j331 hγ this Q k247 (w_Model_collect_L276 this Q k247 n) hk247 ih v2 v3 v4 v5 M59 h
        · rw [if_neg b61] at h
          refine E_blk (lv' := [some (vr (some (11, this))), none, some (vi v2), some (vi v3), some (vi v4), some (vi v5), none]) (st' := [vr (mR M59 11 this 45), vr (some (11, this))]) (M1 := M59) (pc' := 312) (tb_Model hγ) [.aload_n 0, .aload_n 0, .getfield 522] (by decide +kernel) rfl rfl trivial ?_
          obtain ⟨i62, ei62, h⟩ := h
          rw [ei62]
          refine E_blk (lv' := [some (vr (some (11, this))), none, some (vi v2), some (vi v3), some (vi v4), some (vi v5), none]) (st' := [vr (mR M59 11 this 45), vr (some (161, i62)), vr (some (11, this))]) (M1 := M59) (pc' := 319) (tb_Model hγ) [.getfield 893, .aload_n 0, .getfield 522] (by decide +kernel) rfl rfl trivial ?_
          obtain ⟨i63, ei63, h⟩ := h
          rw [ei63]
          obtain ⟨c64, c65, h⟩ := h
          refine E_blk (lv' := [some (vr (some (11, this))), none, some (vi v2), some (vi v3), some (vi v4), some (vi v5), none]) (st' := [vi (mI M59 161 i62 ((mI M59 158 i63 v3.toNatClampNeg) + v5).toNatClampNeg), vr (some (11, this))]) (M1 := M59) (pc' := 328) (tb_Model hγ) [.getfield 884, .iload_n 3, .iaload, .iload 5, .iadd, .iaload] (by decide +kernel) rfl rfl ⟨c64, c65, trivial⟩ ?_
          refine E_callV (κ' := k_Model_mark) (As := [vi (mI M59 161 i62 ((mI M59 158 i63 v3.toNatClampNeg) + v5).toNatClampNeg)]) (st := []) mv_Model_mark (Or.inl (tbk_mem (j := 17) (k := 177) rfl)) rfl (by decide +kernel) (Nat.le_of_ble_eq_true rfl) (Nat.le_of_ble_eq_true rfl) rfl (by decide) (lk_Model_mark hγ this (mI M59 161 i62 ((mI M59 158 i63 v3.toNatClampNeg) + v5).toNatClampNeg) _ M59 h) (fun _ _ => Qv_r) (fun v M66 hp => Qv_k (R := fun st => E γ k_Model_collect 4 331 [some (vr (some (11, this))), none, some (vi v2), some (vi v3), some (vi v4), some (vi v5), none] st M66 (Qi Q)) hp (fun h => ?_))
          refine E_mask [true, false, true, true, true, true, false] rfl ?_
          exact lk_Model_collect_j331 hγ this Q k247 (w_Model_collect_L276 this Q k247 n) hk247 ih v2 v3 v4 v5 M66 h
set_option maxRecDepth 4096 in
theorem lk_Model_collect_L247 {γ : Gm} (hγ : Gk γ) (this : Nat) (Q : Int32 → Mem → Prop) : ∀ (n : Nat) (v2 : Int32) (M : Mem), w_Model_collect_L247 this Q n v2 M → E γ k_Model_collect 4 247 [some (vr (some (11, this))), none, some (vi v2), none, none, none, none] [] M (Qi Q) := by
  intro n
  induction n with
  | zero => intro v2 M h; exact h.elim
  | succ n ih =>
    intro v2 M h
    unfold w_Model_collect_L247 at h
    refine E_blk (lv' := [some (vr (some (11, this))), none, some (vi v2), none, none, none, none]) (st' := [vi (mI M 11 this 112), vi v2]) (M1 := M) (pc' := 252) (tb_Model hγ) [.iload_n 2, .aload_n 0, .getfield 1300] (by decide +kernel) rfl rfl trivial ?_
    refine E_icmp_ge (off := 91) (tgt := 343) (by decide +kernel) (by decide) (fun b10 => ?_) (fun b10 => ?_)
    · rw [if_pos b10] at h
      refine E_blk (lv' := [some (vr (some (11, this))), none, some (vi (0 : Int32)), some (vi (0 : Int32)), some (vi (1 : Int32)), none, none]) (st' := []) (M1 := M) (pc' := 350) (tb_Model hγ) [.iconst 0, .istore_n 2, .iconst 0, .istore_n 3, .iconst 1, .istore 4] (by decide +kernel) rfl rfl trivial ?_
      obtain ⟨n50, h⟩ := h
      refine E_mask [true, false, true, true, true, false, false] rfl ?_
      exact lk_Model_collect_L350 hγ this Q n50 (0 : Int32) (0 : Int32) (1 : Int32) M h
    · rw [if_neg b10] at h
      obtain ⟨c51, h⟩ := h
      refine E_blk (lv' := [some (vr (some (11, this))), none, some (vi v2), some (vi (mI M 120 this v2.toNatClampNeg)), none, none, none]) (st' := [vr (mR M 11 this 45)]) (M1 := M) (pc' := 266) (tb_Model hγ) [.aload_n 0, .getfield 359, .iload_n 2, .iaload, .istore_n 3, .aload_n 0, .getfield 522] (by decide +kernel) rfl rfl ⟨c51, trivial⟩ ?_
      obtain ⟨i52, ei52, h⟩ := h
      rw [ei52]
      obtain ⟨c53, h⟩ := h
      refine E_blk (lv' := [some (vr (some (11, this))), none, some (vi v2), some (vi (mI M 120 this v2.toNatClampNeg)), some (vi (mI M 157 i52 (mI M 120 this v2.toNatClampNeg).toNatClampNeg)), none, none]) (st' := []) (M1 := M) (pc' := 273) (tb_Model hγ) [.getfield 872, .iload_n 3, .iaload, .istore 4] (by decide +kernel) rfl rfl ⟨c53, trivial⟩ ?_
      obtain ⟨x54, ex54, h⟩ := h
      rw [← ex54]
      refine E_blk (lv' := [some (vr (some (11, this))), none, some (vi v2), some (vi (mI M 120 this v2.toNatClampNeg)), some (vi x54), some (vi (0 : Int32)), none]) (st' := []) (M1 := M) (pc' := 276) (tb_Model hγ) [.iconst 0, .istore 5] (by decide +kernel) rfl rfl trivial ?_
      obtain ⟨n67, h⟩ := h
      refine E_mask [true, false, true, true, true, true, false] rfl ?_
      exact lk_Model_collect_L276 hγ this Q (w_Model_collect_L247 this Q n) ih n67 v2 (mI M 120 this v2.toNatClampNeg) x54 (0 : Int32) M h
set_option maxRecDepth 4096 in
theorem lk_Model_collect_j239 {γ : Gm} (hγ : Gk γ) (this : Nat) (Q : Int32 → Mem → Prop) (k138 : Int32 → Mem → Prop) (hk138 : ∀ (v2 : Int32) (M : Mem), k138 v2 M → E γ k_Model_collect 4 138 [some (vr (some (11, this))), none, some (vi v2), none, none, none, none] [] M (Qi Q)) (v2 : Int32) (M : Mem) (h : w_Model_collect_j239 this Q k138 v2 M) : E γ k_Model_collect 4 239 [some (vr (some (11, this))), none, some (vi v2), none, none, none, none] [] M (Qi Q) := by
  unfold w_Model_collect_j239 at h
  refine E_blk (lv' := [some (vr (some (11, this))), none, some (vi (v2 + (1 : Int32))), none, none, none, none]) (st' := []) (M1 := M) (pc' := 242) (tb_Model hγ) [.iinc 2 1] (by decide +kernel) rfl rfl trivial ?_
  refine E_goto (off := -104) (tgt := 138) (by decide +kernel) (by decide) ?_
  refine E_mask [true, false, true, false, false, false, false] rfl ?_
  exact hk138 (v2 + (1 : Int32)) M h
set_option maxRecDepth 4096 in
theorem lk_Model_collect_j227 {γ : Gm} (hγ : Gk γ) (this : Nat) (Q : Int32 → Mem → Prop) (k138 : Int32 → Mem → Prop) (k156 : Int32 → Nat → Int32 → Mem → Prop) (k199 : Int32 → Nat → Int32 → Int32 → Int32 → Mem → Prop) (hk138 : ∀ (v2 : Int32) (M : Mem), k138 v2 M → E γ k_Model_collect 4 138 [some (vr (some (11, this))), none, some (vi v2), none, none, none, none] [] M (Qi Q)) (hk156 : ∀ (v2 : Int32) (v3 : Nat) (v4 : Int32) (M : Mem), k156 v2 v3 v4 M → E γ k_Model_collect 4 156 [some (vr (some (11, this))), none, some (vi v2), some (vr (some (13, v3))), some (vi v4), none, none] [] M (Qi Q)) (hk199 : ∀ (v2 : Int32) (v3 : Nat) (v4 : Int32) (v5 : Int32) (v6 : Int32) (M : Mem), k199 v2 v3 v4 v5 v6 M → E γ k_Model_collect 4 199 [some (vr (some (11, this))), none, some (vi v2), some (vr (some (13, v3))), some (vi v4), some (vi v5), some (vi v6)] [] M (Qi Q)) (v2 : Int32) (v3 : Nat) (v4 : Int32) (v5 : Int32) (v6 : Int32) (M : Mem) (h : w_Model_collect_j227 this Q k138 k156 k199 v2 v3 v4 v5 v6 M) : E γ k_Model_collect 4 227 [some (vr (some (11, this))), none, some (vi v2), some (vr (some (13, v3))), some (vi v4), some (vi v5), some (vi v6)] [] M (Qi Q) := by
  unfold w_Model_collect_j227 at h
  refine E_blk (lv' := [some (vr (some (11, this))), none, some (vi v2), some (vr (some (13, v3))), some (vi v4), some (vi v5), some (vi (v6 + (1 : Int32)))]) (st' := []) (M1 := M) (pc' := 230) (tb_Model hγ) [.iinc 6 1] (by decide +kernel) rfl rfl trivial ?_
  refine E_goto (off := -31) (tgt := 199) (by decide +kernel) (by decide) ?_
  refine E_mask [true, false, true, true, true, true, true] rfl ?_
  exact hk199 v2 v3 v4 v5 (v6 + (1 : Int32)) M h
set_option maxRecDepth 4096 in
theorem lk_Model_collect_L199 {γ : Gm} (hγ : Gk γ) (this : Nat) (Q : Int32 → Mem → Prop) (k138 : Int32 → Mem → Prop) (k156 : Int32 → Nat → Int32 → Mem → Prop) (hk138 : ∀ (v2 : Int32) (M : Mem), k138 v2 M → E γ k_Model_collect 4 138 [some (vr (some (11, this))), none, some (vi v2), none, none, none, none] [] M (Qi Q)) (hk156 : ∀ (v2 : Int32) (v3 : Nat) (v4 : Int32) (M : Mem), k156 v2 v3 v4 M → E γ k_Model_collect 4 156 [some (vr (some (11, this))), none, some (vi v2), some (vr (some (13, v3))), some (vi v4), none, none] [] M (Qi Q)) : ∀ (n : Nat) (v2 : Int32) (v3 : Nat) (v4 : Int32) (v5 : Int32) (v6 : Int32) (M : Mem), w_Model_collect_L199 this Q k138 k156 n v2 v3 v4 v5 v6 M → E γ k_Model_collect 4 199 [some (vr (some (11, this))), none, some (vi v2), some (vr (some (13, v3))), some (vi v4), some (vi v5), some (vi v6)] [] M (Qi Q) := by
  intro n
  induction n with
  | zero => intro v2 v3 v4 v5 v6 M h; exact h.elim
  | succ n ih =>
    intro v2 v3 v4 v5 v6 M h
    unfold w_Model_collect_L199 at h
    refine E_blk (lv' := [some (vr (some (11, this))), none, some (vi v2), some (vr (some (13, v3))), some (vi v4), some (vi v5), some (vi v6)]) (st' := [vi v5, vi v6]) (M1 := M) (pc' := 203) (tb_Model hγ) [.iload 6, .iload 5] (by decide +kernel) rfl rfl trivial ?_
    refine E_icmp_ge (off := 30) (tgt := 233) (by decide +kernel) (by decide) (fun b76 => ?_) (fun b76 => ?_)
    · rw [if_pos b76] at h
      refine E_blk (lv' := [some (vr (some (11, this))), none, some (vi v2), some (vr (some (13, v3))), some (vi (v4 + (1 : Int32))), some (vi v5), some (vi v6)]) (st' := []) (M1 := M) (pc' := 236) (tb_Model hγ) [.iinc 4 1] (by decide +kernel) rfl rfl trivial ?_
      refine E_goto (off := -80) (tgt := 156) (by decide +kernel) (by decide) ?_
      refine E_mask [true, false, true, true, true, false, false] rfl ?_
      exact hk156 v2 v3 (v4 + (1 : Int32)) M h
    · rw [if_neg b76] at h
      obtain ⟨c77, h⟩ := h
      refine E_blk (lv' := [some (vr (some (11, this))), none, some (vi v2), some (vr (some (13, v3))), some (vi v4), some (vi v5), some (vi v6)]) (st' := [vi (mI M 525 v3 v6.toNatClampNeg)]) (M1 := M) (pc' := 213) (tb_Model hγ) [.aload_n 3, .getfield 939, .iload 6, .baload] (by decide +kernel) rfl rfl ⟨c77, trivial⟩ ?_
      refine E_if_eq (off := 14) (tgt := 227) (by decide +kernel) (by decide) (fun b78 => ?_) (fun b78 => ?_)
      · rw [if_pos b78] at h
        refine E_mask [true, false, true, true, true, true, true] rfl ?_
        exact lk_Model_collect_j227 hγ this Q k138 k156 (w_Model_collect_L199 this Q k138 k156 n) hk138 hk156 ih v2 v3 v4 v5 v6 M h
      · rw [if_neg b78] at h
        obtain ⟨c79, h⟩ := h
        refine E_blk (lv' := [some (vr (some (11, this))), none, some (vi v2), some (vr (some (13, v3))), some (vi v4), some (vi v5), some (vi v6)]) (st' := [vi (mI M 176 v3 v6.toNatClampNeg), vr (some (11, this))]) (M1 := M) (pc' := 224) (tb_Model hγ) [.aload_n 0, .aload_n 3, .getfield 936, .iload 6, .iaload] (by decide +kernel) rfl rfl ⟨c79, trivial⟩ ?_
        refine E_callV (κ' := k_Model_mark) (As := [vi (mI M 176 v3 v6.toNatClampNeg)]) (st := []) mv_Model_mark (Or.inl (tbk_mem (j := 17) (k := 177) rfl)) rfl (by decide +kernel) (Nat.le_of_ble_eq_true rfl) (Nat.le_of_ble_eq_true rfl) rfl (by decide) (lk_Model_mark hγ this (mI M 176 v3 v6.toNatClampNeg) _ M h) (fun _ _ => Qv_r) (fun v M80 hp => Qv_k (R := fun st => E γ k_Model_collect 4 227 [some (vr (some (11, this))), none, some (vi v2), some (vr (some (13, v3))), some (vi v4), some (vi v5), some (vi v6)] st M80 (Qi Q)) hp (fun h => ?_))
        refine E_mask [true, false, true, true, true, true, true] rfl ?_
        exact lk_Model_collect_j227 hγ this Q k138 k156 (w_Model_collect_L199 this Q k138 k156 n) hk138 hk156 ih v2 v3 v4 v5 v6 M80 h
set_option maxRecDepth 4096 in
theorem lk_Model_collect_L156 {γ : Gm} (hγ : Gk γ) (this : Nat) (Q : Int32 → Mem → Prop) (k138 : Int32 → Mem → Prop) (hk138 : ∀ (v2 : Int32) (M : Mem), k138 v2 M → E γ k_Model_collect 4 138 [some (vr (some (11, this))), none, some (vi v2), none, none, none, none] [] M (Qi Q)) : ∀ (n : Nat) (v2 : Int32) (v3 : Nat) (v4 : Int32) (M : Mem), w_Model_collect_L156 this Q k138 n v2 v3 v4 M → E γ k_Model_collect 4 156 [some (vr (some (11, this))), none, some (vi v2), some (vr (some (13, v3))), some (vi v4), none, none] [] M (Qi Q) := by
  intro n
  induction n with
  | zero => intro v2 v3 v4 M h; exact h.elim
  | succ n ih =>
    intro v2 v3 v4 M h
    unfold w_Model_collect_L156 at h
    refine E_blk (lv' := [some (vr (some (11, this))), none, some (vi v2), some (vr (some (13, v3))), some (vi v4), none, none]) (st' := [vi (-2 : Int32), vi (mI M 13 v3 0)]) (M1 := M) (pc' := 162) (tb_Model hγ) [.aload_n 3, .getfield 486, .bipush (.negSucc 1)] (by decide +kernel) rfl rfl trivial ?_
    refine E_icmp_eq (off := 77) (tgt := 239) (by decide +kernel) (by decide) (fun b72 => ?_) (fun b72 => ?_)
    · rw [if_pos b72] at h
      refine E_mask [true, false, true, false, false, false, false] rfl ?_
      exact lk_Model_collect_j239 hγ this Q k138 hk138 v2 M h
    · rw [if_neg b72] at h
      refine E_blk (lv' := [some (vr (some (11, this))), none, some (vi v2), some (vr (some (13, v3))), some (vi v4), none, none]) (st' := [vi (mI M 13 v3 22), vi v4]) (M1 := M) (pc' := 171) (tb_Model hγ) [.iload 4, .aload_n 3, .getfield 924] (by decide +kernel) rfl rfl trivial ?_
      refine E_icmp_ge (off := 68) (tgt := 239) (by decide +kernel) (by decide) (fun b73 => ?_) (fun b73 => ?_)
      · rw [if_pos b73] at h
        refine E_mask [true, false, true, false, false, false, false] rfl ?_
        exact lk_Model_collect_j239 hγ this Q k138 hk138 v2 M h
      · rw [if_neg b73] at h
        obtain ⟨c74, h⟩ := h
        refine E_blk (lv' := [some (vr (some (11, this))), none, some (vi v2), some (vr (some (13, v3))), some (vi v4), some (vi ((((44 : Int32) * v4) + (20 : Int32)) + (mI M 175 v3 v4.toNatClampNeg))), none]) (st' := []) (M1 := M) (pc' := 192) (tb_Model hγ) [.bipush 44, .iload 4, .imul, .bipush 20, .iadd, .aload_n 3, .getfield 933, .iload 4, .iaload, .iadd, .istore 5] (by decide +kernel) rfl rfl ⟨c74, trivial⟩ ?_
        obtain ⟨x75, ex75, h⟩ := h
        rw [← ex75]
        refine E_blk (lv' := [some (vr (some (11, this))), none, some (vi v2), some (vr (some (13, v3))), some (vi v4), some (vi x75), some (vi ((44 : Int32) * v4))]) (st' := []) (M1 := M) (pc' := 199) (tb_Model hγ) [.bipush 44, .iload 4, .imul, .istore 6] (by decide +kernel) rfl rfl trivial ?_
        obtain ⟨n81, h⟩ := h
        refine E_mask [true, false, true, true, true, true, true] rfl ?_
        exact lk_Model_collect_L199 hγ this Q k138 (w_Model_collect_L156 this Q k138 n) hk138 ih n81 v2 v3 v4 x75 ((44 : Int32) * v4) M h
set_option maxRecDepth 4096 in
theorem lk_Model_collect_L138 {γ : Gm} (hγ : Gk γ) (this : Nat) (Q : Int32 → Mem → Prop) : ∀ (n : Nat) (v2 : Int32) (M : Mem), w_Model_collect_L138 this Q n v2 M → E γ k_Model_collect 4 138 [some (vr (some (11, this))), none, some (vi v2), none, none, none, none] [] M (Qi Q) := by
  intro n
  induction n with
  | zero => intro v2 M h; exact h.elim
  | succ n ih =>
    intro v2 M h
    unfold w_Model_collect_L138 at h
    refine E_blk (lv' := [some (vr (some (11, this))), none, some (vi v2), none, none, none, none]) (st' := [vi (3 : Int32), vi v2]) (M1 := M) (pc' := 140) (tb_Model hγ) [.iload_n 2, .iconst 3] (by decide +kernel) rfl rfl trivial ?_
    refine E_icmp_ge (off := 105) (tgt := 245) (by decide +kernel) (by decide) (fun b9 => ?_) (fun b9 => ?_)
    · rw [if_pos b9] at h
      refine E_blk (lv' := [some (vr (some (11, this))), none, some (vi (0 : Int32)), none, none, none, none]) (st' := []) (M1 := M) (pc' := 247) (tb_Model hγ) [.iconst 0, .istore_n 2] (by decide +kernel) rfl rfl trivial ?_
      obtain ⟨n68, h⟩ := h
      refine E_mask [true, false, true, false, false, false, false] rfl ?_
      exact lk_Model_collect_L247 hγ this Q n68 (0 : Int32) M h
    · rw [if_neg b9] at h
      refine E_blk (lv' := [some (vr (some (11, this))), none, some (vi v2), none, none, none, none]) (st' := [vr (mR M 11 this 45)]) (M1 := M) (pc' := 147) (tb_Model hγ) [.aload_n 0, .getfield 522] (by decide +kernel) rfl rfl trivial ?_
      obtain ⟨i69, ei69, h⟩ := h
      rw [ei69]
      obtain ⟨c70, h⟩ := h
      refine E_blk (lv' := [some (vr (some (11, this))), none, some (vi v2), none, none, none, none]) (st' := [vr (mR M 704 i69 v2.toNatClampNeg)]) (M1 := M) (pc' := 152) (tb_Model hγ) [.getfield 406, .iload_n 2, .aaload] (by decide +kernel) rfl rfl ⟨c70, trivial⟩ ?_
      obtain ⟨i71, ei71, h⟩ := h
      rw [ei71]
      refine E_blk (lv' := [some (vr (some (11, this))), none, some (vi v2), some (vr (some (13, i71))), some (vi (0 : Int32)), none, none]) (st' := []) (M1 := M) (pc' := 156) (tb_Model hγ) [.astore_n 3, .iconst 0, .istore 4] (by decide +kernel) rfl rfl trivial ?_
      obtain ⟨n82, h⟩ := h
      refine E_mask [true, false, true, true, true, false, false] rfl ?_
      exact lk_Model_collect_L156 hγ this Q (w_Model_collect_L138 this Q n) ih n82 v2 i71 (0 : Int32) M h
set_option maxRecDepth 4096 in
theorem lk_Model_collect_j124 {γ : Gm} (hγ : Gk γ) (this : Nat) (Q : Int32 → Mem → Prop) (k50 : Int32 → Mem → Prop) (k66 : Int32 → Int32 → Mem → Prop) (hk50 : ∀ (v2 : Int32) (M : Mem), k50 v2 M → E γ k_Model_collect 4 50 [some (vr (some (11, this))), none, some (vi v2), none, none, none, none] [] M (Qi Q)) (hk66 : ∀ (v2 : Int32) (v3 : Int32) (M : Mem), k66 v2 v3 M → E γ k_Model_collect 4 66 [some (vr (some (11, this))), none, some (vi v2), some (vi v3), none, none, none] [] M (Qi Q)) (v2 : Int32) (v3 : Int32) (M : Mem) (h : w_Model_collect_j124 this Q k50 k66 v2 v3 M) : E γ k_Model_collect 4 124 [some (vr (some (11, this))), none, some (vi v2), some (vi v3), none, none, none] [] M (Qi Q) := by
  unfold w_Model_collect_j124 at h
  refine E_blk (lv' := [some (vr (some (11, this))), none, some (vi v2), some (vi (v3 + (1 : Int32))), none, none, none]) (st' := []) (M1 := M) (pc' := 127) (tb_Model hγ) [.iinc 3 1] (by decide +kernel) rfl rfl trivial ?_
  refine E_goto (off := -61) (tgt := 66) (by decide +kernel) (by decide) ?_
  refine E_mask [true, false, true, true, false, false, false] rfl ?_
  exact hk66 v2 (v3 + (1 : Int32)) M h
set_option maxRecDepth 4096 in
theorem lk_Model_collect_L66 {γ : Gm} (hγ : Gk γ) (this : Nat) (Q : Int32 → Mem → Prop) (k50 : Int32 → Mem → Prop) (hk50 : ∀ (v2 : Int32) (M : Mem), k50 v2 M → E γ k_Model_collect 4 50 [some (vr (some (11, this))), none, some (vi v2), none, none, none, none] [] M (Qi Q)) : ∀ (n : Nat) (v2 : Int32) (v3 : Int32) (M : Mem), w_Model_collect_L66 this Q k50 n v2 v3 M → E γ k_Model_collect 4 66 [some (vr (some (11, this))), none, some (vi v2), some (vi v3), none, none, none] [] M (Qi Q) := by
  intro n
  induction n with
  | zero => intro v2 v3 M h; exact h.elim
  | succ n ih =>
    intro v2 v3 M h
    unfold w_Model_collect_L66 at h
    refine E_blk (lv' := [some (vr (some (11, this))), none, some (vi v2), some (vi v3), none, none, none]) (st' := [vr (mR M 11 this 45), vi ((8 : Int32) * v2), vi v3]) (M1 := M) (pc' := 75) (tb_Model hγ) [.iload_n 3, .bipush 8, .iload_n 2, .imul, .aload_n 0, .getfield 522] (by decide +kernel) rfl rfl trivial ?_
    obtain ⟨i84, ei84, h⟩ := h
    rw [ei84]
    obtain ⟨c85, h⟩ := h
    refine E_blk (lv' := [some (vr (some (11, this))), none, some (vi v2), some (vi v3), none, none, none]) (st' := [vi (((8 : Int32) * v2) + (mI M 135 i84 v2.toNatClampNeg)), vi v3]) (M1 := M) (pc' := 81) (tb_Model hγ) [.getfield 435, .iload_n 2, .iaload, .iadd] (by decide +kernel) rfl rfl ⟨c85, trivial⟩ ?_
    refine E_icmp_ge (off := 49) (tgt := 130) (by decide +kernel) (by decide) (fun b86 => ?_) (fun b86 => ?_)
    · rw [if_pos b86] at h
      refine E_blk (lv' := [some (vr (some (11, this))), none, some (vi (v2 + (1 : Int32))), some (vi v3), none, none, none]) (st' := []) (M1 := M) (pc' := 133) (tb_Model hγ) [.iinc 2 1] (by decide +kernel) rfl rfl trivial ?_
      refine E_goto (off := -83) (tgt := 50) (by decide +kernel) (by decide) ?_
      refine E_mask [true, false, true, false, false, false, false] rfl ?_
      exact hk50 (v2 + (1 : Int32)) M h
    · rw [if_neg b86] at h
      refine E_blk (lv' := [some (vr (some (11, this))), none, some (vi v2), some (vi v3), none, none, none]) (st' := [vr (mR M 11 this 45)]) (M1 := M) (pc' := 88) (tb_Model hγ) [.aload_n 0, .getfield 522] (by decide +kernel) rfl rfl trivial ?_
      obtain ⟨i87, ei87, h⟩ := h
      rw [ei87]
      obtain ⟨c88, h⟩ := h
      refine E_blk (lv' := [some (vr (some (11, this))), none, some (vi v2), some (vi v3), none, none, none]) (st' := [vi ((mI M 141 i87 v3.toNatClampNeg) &&& (1 : Int32))]) (M1 := M) (pc' := 95) (tb_Model hγ) [.getfield 627, .iload_n 3, .iaload, .iconst 1, .iand] (by decide +kernel) rfl rfl ⟨c88, trivial⟩ ?_
      refine E_if_eq (off := 29) (tgt := 124) (by decide +kernel) (by decide) (fun b89 => ?_) (fun b89 => ?_)
      · rw [if_pos b89] at h
        refine E_mask [true, false, true, true, false, false, false] rfl ?_
        exact lk_Model_collect_j124 hγ this Q k50 (w_Model_collect_L66 this Q k50 n) hk50 ih v2 v3 M h
      · rw [if_neg b89] at h
        refine E_blk (lv' := [some (vr (some (11, this))), none, some (vi v2), some (vi v3), none, none, none]) (st' := [vr (mR M 11 this 45)]) (M1 := M) (pc' := 102) (tb_Model hγ) [.aload_n 0, .getfield 522] (by decide +kernel) rfl rfl trivial ?_
        obtain ⟨i90, ei90, h⟩ := h
        rw [ei90]
        obtain ⟨c91, h⟩ := h
        refine E_blk (lv' := [some (vr (some (11, this))), none, some (vi v2), some (vi v3), none, none, none]) (st' := [vi (1 : Int32), vi (mI M 140 i90 v3.toNatClampNeg)]) (M1 := M) (pc' := 108) (tb_Model hγ) [.getfield 624, .iload_n 3, .iaload, .iconst 1] (by decide +kernel) rfl rfl ⟨c91, trivial⟩ ?_
        refine E_icmp_eq (off := 16) (tgt := 124) (by decide +kernel) (by decide) (fun b92 => ?_) (fun b92 => ?_)
        · rw [if_pos b92] at h
          refine E_mask [true, false, true, true, false, false, false] rfl ?_
          exact lk_Model_collect_j124 hγ this Q k50 (w_Model_collect_L66 this Q k50 n) hk50 ih v2 v3 M h
        · rw [if_neg b92] at h
          refine E_blk (lv' := [some (vr (some (11, this))), none, some (vi v2), some (vi v3), none, none, none]) (st' := [vr (mR M 11 this 45), vr (some (11, this))]) (M1 := M) (pc' := 116) (tb_Model hγ) [.aload_n 0, .aload_n 0, .getfield 522] (by decide +kernel) rfl rfl trivial ?_
          obtain ⟨i93, ei93, h⟩ := h
          rw [ei93]
          obtain ⟨c94, h⟩ := h
          refine E_blk (lv' := [some (vr (some (11, this))), none, some (vi v2), some (vi v3), none, none, none]) (st' := [vi (mI M 143 i93 v3.toNatClampNeg), vr (some (11, this))]) (M1 := M) (pc' := 121) (tb_Model hγ) [.getfield 636, .iload_n 3, .iaload] (by decide +kernel) rfl rfl ⟨c94, trivial⟩ ?_
          refine E_callV (κ' := k_Model_mark) (As := [vi (mI M 143 i93 v3.toNatClampNeg)]) (st := []) mv_Model_mark (Or.inl (tbk_mem (j := 17) (k := 177) rfl)) rfl (by decide +kernel) (Nat.le_of_ble_eq_true rfl) (Nat.le_of_ble_eq_true rfl) rfl (by decide) (lk_Model_mark hγ this (mI M 143 i93 v3.toNatClampNeg) _ M h) (fun _ _ => Qv_r) (fun v M95 hp => Qv_k (R := fun st => E γ k_Model_collect 4 124 [some (vr (some (11, this))), none, some (vi v2), some (vi v3), none, none, none] st M95 (Qi Q)) hp (fun h => ?_))
          refine E_mask [true, false, true, true, false, false, false] rfl ?_
          exact lk_Model_collect_j124 hγ this Q k50 (w_Model_collect_L66 this Q k50 n) hk50 ih v2 v3 M95 h
set_option maxRecDepth 4096 in
theorem lk_Model_collect_L50 {γ : Gm} (hγ : Gk γ) (this : Nat) (Q : Int32 → Mem → Prop) : ∀ (n : Nat) (v2 : Int32) (M : Mem), w_Model_collect_L50 this Q n v2 M → E γ k_Model_collect 4 50 [some (vr (some (11, this))), none, some (vi v2), none, none, none, none] [] M (Qi Q) := by
  intro n
  induction n with
  | zero => intro v2 M h; exact h.elim
  | succ n ih =>
    intro v2 M h
    unfold w_Model_collect_L50 at h
    refine E_blk (lv' := [some (vr (some (11, this))), none, some (vi v2), none, none, none, none]) (st' := [vr (mR M 11 this 45), vi v2]) (M1 := M) (pc' := 55) (tb_Model hγ) [.iload_n 2, .aload_n 0, .getfield 522] (by decide +kernel) rfl rfl trivial ?_
    obtain ⟨i7, ei7, h⟩ := h
    rw [ei7]
    refine E_blk (lv' := [some (vr (some (11, this))), none, some (vi v2), none, none, none, none]) (st' := [vi (mI M 12 i7 2), vi v2]) (M1 := M) (pc' := 58) (tb_Model hγ) [.getfield 420] (by decide +kernel) rfl rfl trivial ?_
    refine E_icmp_ge (off := 78) (tgt := 136) (by decide +kernel) (by decide) (fun b8 => ?_) (fun b8 => ?_)
    · rw [if_pos b8] at h
      refine E_blk (lv' := [some (vr (some (11, this))), none, some (vi (0 : Int32)), none, none, none, none]) (st' := []) (M1 := M) (pc' := 138) (tb_Model hγ) [.iconst 0, .istore_n 2] (by decide +kernel) rfl rfl trivial ?_
      obtain ⟨n83, h⟩ := h
      refine E_mask [true, false, true, false, false, false, false] rfl ?_
      exact lk_Model_collect_L138 hγ this Q n83 (0 : Int32) M h
    · rw [if_neg b8] at h
      refine E_blk (lv' := [some (vr (some (11, this))), none, some (vi v2), some (vi ((8 : Int32) * v2)), none, none, none]) (st' := []) (M1 := M) (pc' := 66) (tb_Model hγ) [.bipush 8, .iload_n 2, .imul, .istore_n 3] (by decide +kernel) rfl rfl trivial ?_
      obtain ⟨n96, h⟩ := h
      refine E_mask [true, false, true, true, false, false, false] rfl ?_
      exact lk_Model_collect_L66 hγ this Q (w_Model_collect_L50 this Q n) ih n96 v2 ((8 : Int32) * v2) M h
set_option maxRecDepth 4096 in
theorem lk_Model_collect_L27 {γ : Gm} (hγ : Gk γ) (this : Nat) (Q : Int32 → Mem → Prop) : ∀ (n : Nat) (v2 : Int32) (M : Mem), w_Model_collect_L27 this Q n v2 M → E γ k_Model_collect 4 27 [some (vr (some (11, this))), none, some (vi v2), none, none, none, none] [] M (Qi Q) := by
  intro n
  induction n with
  | zero => intro v2 M h; exact h.elim
  | succ n ih =>
    intro v2 M h
    unfold w_Model_collect_L27 at h
    refine E_blk (lv' := [some (vr (some (11, this))), none, some (vi v2), none, none, none, none]) (st' := [vi (800 : Int32), vi v2]) (M1 := M) (pc' := 31) (tb_Model hγ) [.iload_n 2, .sipush 800] (by decide +kernel) rfl rfl trivial ?_
    refine E_icmp_gt (off := 16) (tgt := 47) (by decide +kernel) (by decide) (fun b6 => ?_) (fun b6 => ?_)
    · rw [if_pos b6] at h
      refine E_blk (lv' := [some (vr (some (11, this))), none, some (vi (21 : Int32)), none, none, none, none]) (st' := []) (M1 := M) (pc' := 50) (tb_Model hγ) [.bipush 21, .istore_n 2] (by decide +kernel) rfl rfl trivial ?_
      obtain ⟨n97, h⟩ := h
      refine E_mask [true, false, true, false, false, false, false] rfl ?_
      exact lk_Model_collect_L50 hγ this Q n97 (21 : Int32) M h
    · rw [if_neg b6] at h
      obtain ⟨c98, h⟩ := h
      refine E_blk (lv' := [some (vr (some (11, this))), none, some (vi (v2 + (1 : Int32))), none, none, none, none]) (st' := []) (M1 := (sI M 521 this v2.toNatClampNeg ((0 : Int32) &&& 1))) (pc' := 44) (tb_Model hγ) [.aload_n 0, .getfield 356, .iload_n 2, .iconst 0, .bastore, .iinc 2 1] (by decide +kernel) rfl rfl ⟨c98, trivial⟩ ?_
      refine E_goto (off := -17) (tgt := 27) (by decide +kernel) (by decide) ?_
      refine E_mask [true, false, true, false, false, false, false] rfl ?_
      exact ih (v2 + (1 : Int32)) (sI M 521 this v2.toNatClampNeg ((0 : Int32) &&& 1)) h
set_option maxRecDepth 4096 in
theorem lk_Model_collect {γ : Gm} (hγ : Gk γ) (this : Nat) (a1 : Int32) (Q : Int32 → Mem → Prop) (M : Mem) (h : w_Model_collect this a1 Q M) : E γ k_Model_collect 4 0 [some (vr (some (11, this))), some (vi a1), none, none, none, none, none] [] M (Qi Q) := by
  unfold w_Model_collect at h
  refine E_blk (lv' := [some (vr (some (11, this))), some (vi a1), none, none, none, none, none]) (st' := [vi a1, vr (some (11, this))]) (M1 := M) (pc' := 2) (tb_Model hγ) [.aload_n 0, .iload_n 1] (by decide +kernel) rfl rfl trivial ?_
  refine E_callV (κ' := k_Model_isWorld) (As := [vi a1]) (st := []) mv_Model_isWorld (Or.inl (tbk_mem (j := 14) (k := 190) rfl)) rfl (by decide +kernel) (Nat.le_of_ble_eq_true rfl) (Nat.le_of_ble_eq_true rfl) rfl (by decide) (lk_Model_isWorld hγ this a1 _ M h) (fun _ _ => Qi_r) (fun v M1 hp => Qi_k (R := fun st => E γ k_Model_collect 4 5 [some (vr (some (11, this))), some (vi a1), none, none, none, none, none] st M1 (Qi Q)) hp (fun r2 h => ?_))
  refine E_if_ne (off := 5) (tgt := 10) (by decide +kernel) (by decide) (fun b3 => ?_) (fun b3 => ?_)
  · rw [if_pos b3] at h
    refine E_blk (lv' := [some (vr (some (11, this))), some (vi a1), none, none, none, none, none]) (st' := [vi (-1 : Int32)]) (M1 := M1) (pc' := 9) (tb_Model hγ) [.iconst (.negSucc 0)] (by decide +kernel) rfl rfl trivial ?_
    exact E_iret rfl (by decide +kernel) h
  · rw [if_neg b3] at h
    obtain ⟨c4, h⟩ := h
    refine E_blk (lv' := [some (vr (some (11, this))), some (vi a1), none, none, none, none, none]) (st' := [vr (mR M1 703 0 a1.toNatClampNeg), vr (some (11, this))]) (M1 := M1) (pc' := 17) (tb_Model hγ) [.aload_n 0, .aload_n 0, .getfield 263, .iload_n 1, .aaload] (by decide +kernel) rfl rfl ⟨c4, trivial⟩ ?_
    obtain ⟨i5, ei5, h⟩ := h
    rw [ei5]
    refine E_blk (lv' := [some (vr (some (11, this))), some (vi a1), some (vi (0 : Int32)), none, none, none, none]) (st' := []) (M1 := (sI (sR M1 11 this 45 (some (12, i5))) 11 this 112 (0 : Int32))) (pc' := 27) (tb_Model hγ) [.putfield 522, .aload_n 0, .iconst 0, .putfield 1300, .iconst 0, .istore_n 2] (by decide +kernel) rfl rfl trivial ?_
    obtain ⟨n99, h⟩ := h
    refine E_mask [true, false, true, false, false, false, false] rfl ?_
    exact lk_Model_collect_L27 hγ this Q n99 (0 : Int32) (sI (sR M1 11 this 45 (some (12, i5))) 11 this 112 (0 : Int32)) h
def w_Model_isWrittenSo_j142 (this : Nat) (Q : Int32 → Mem → Prop) (v5 : Nat) (v6 : Int32) (v8 : Int32) (M : Mem) : Prop :=
  (v8 = 0 ∨ v8 = 1) ∧ Q v8 (sI (sR M 11 this 94 (some (401, v5))) 11 this 95 v6)
def w_Model_isWrittenSo_j134 (this : Nat) (Q : Int32 → Mem → Prop) (k100 : Nat → Int32 → Int32 → Int32 → Int32 → Mem → Prop) (v5 : Nat) (v6 : Int32) (v7 : Int32) (v9 : Int32) (s0 : Int32) (M : Mem) : Prop :=
  k100 v5 v6 v7 s0 (v9 + (1 : Int32)) M
def w_Model_isWrittenSo_L100 (this : Nat) (Q : Int32 → Mem → Prop) : Nat → Nat → Int32 → Int32 → Int32 → Int32 → Mem → Prop
  | 0, _, _, _, _, _, _ => False
  | n + 1, v5, v6, v7, v8, v9, M => if v7 ≤ v9 then (w_Model_isWrittenSo_j142 this Q v5 v6 v8 M) else (if v8 = 0 then (w_Model_isWrittenSo_j142 this Q v5 v6 v8 M) else (∃ i13, (mR M 11 this 114) = some (401, i13) ∧ vp_in v9 (mL M 401 i13) ∧ ∃ i15, (mR M 11 this 115) = some (401, i15) ∧ vp_in v9 (mL M 401 i15) ∧ if (mI M 401 i13 v9.toNatClampNeg) = (mI M 401 i15 v9.toNatClampNeg) then (w_Model_isWrittenSo_j134 this Q (w_Model_isWrittenSo_L100 this Q n) v5 v6 v7 v9 (1 : Int32) M) else (w_Model_isWrittenSo_j134 this Q (w_Model_isWrittenSo_L100 this Q n) v5 v6 v7 v9 (0 : Int32) M)))
def w_Model_isWrittenSo_j95 (this : Nat) (Q : Int32 → Mem → Prop) (v5 : Nat) (v6 : Int32) (v7 : Int32) (s0 : Int32) (M : Mem) : Prop :=
  ∃ n18 : Nat, w_Model_isWrittenSo_L100 this Q n18 v5 v6 v7 s0 (0 : Int32) M
def w_Model_isWrittenSo (this : Nat) (a1 : Nat) (a2 : Int32) (a3 : Nat) (a4 : Int32) (Q : Int32 → Mem → Prop) (M : Mem) : Prop :=
  ∃ i1, (mR M 11 this 94) = some (401, i1) ∧ ∃ i2, (mR M 11 this 114) = some (401, i2) ∧ ∃ M3, M3 = (sR (sI (sR M 11 this 94 (some (401, i2))) 11 this 95 (0 : Int32)) 11 this 45 (some (12, a1))) ∧ w_Model_putMethod this a2 (fun M4 => ∃ i5, (mR M4 11 this 94) = some (401, i5) ∧ ∃ i6, (mR (sR M4 11 this 114 (some (401, i5))) 11 this 115) = some (401, i6) ∧ ∃ M7, M7 = (sI (sR (sR M4 11 this 114 (some (401, i5))) 11 this 94 (some (401, i6))) 11 this 95 (0 : Int32)) ∧ w_Model_putMethod this a4 (fun M8 => ∃ i9, (mR M8 11 this 94) = some (401, i9) ∧ if (mI (sR M4 11 this 114 (some (401, i5))) 11 this 95) = (mI (sR M8 11 this 115 (some (401, i9))) 11 this 95) then (w_Model_isWrittenSo_j95 this Q i1 (mI M 11 this 95) (mI (sR M4 11 this 114 (some (401, i5))) 11 this 95) (1 : Int32) (sR M8 11 this 115 (some (401, i9)))) else (w_Model_isWrittenSo_j95 this Q i1 (mI M 11 this 95) (mI (sR M4 11 this 114 (some (401, i5))) 11 this 95) (0 : Int32) (sR M8 11 this 115 (some (401, i9))))) (sR M7 11 this 45 (some (12, a3)))) M3
set_option maxRecDepth 4096 in
theorem lk_Model_isWrittenSo_j142 {γ : Gm} (hγ : Gk γ) (this : Nat) (Q : Int32 → Mem → Prop) (v5 : Nat) (v6 : Int32) (v8 : Int32) (M : Mem) (h : w_Model_isWrittenSo_j142 this Q v5 v6 v8 M) : E γ k_Model_isWrittenSo 9 142 [some (vr (some (11, this))), none, none, none, none, some (vr (some (401, v5))), some (vi v6), none, some (vi v8), none] [] M (Qi Q) := by
  unfold w_Model_isWrittenSo_j142 at h
  refine E_blk (lv' := [some (vr (some (11, this))), none, none, none, none, some (vr (some (401, v5))), some (vi v6), none, some (vi v8), none]) (st' := [vi v8]) (M1 := (sI (sR M 11 this 94 (some (401, v5))) 11 this 95 v6)) (pc' := 156) (tb_Model hγ) [.aload_n 0, .aload 5, .putfield 323, .aload_n 0, .iload 6, .putfield 1176, .iload 8] (by decide +kernel) rfl rfl trivial ?_
  exact E_zret rfl h.1 (by decide +kernel) h.2
set_option maxRecDepth 4096 in
theorem lk_Model_isWrittenSo_j134 {γ : Gm} (hγ : Gk γ) (this : Nat) (Q : Int32 → Mem → Prop) (k100 : Nat → Int32 → Int32 → Int32 → Int32 → Mem → Prop) (hk100 : ∀ (v5 : Nat) (v6 : Int32) (v7 : Int32) (v8 : Int32) (v9 : Int32) (M : Mem), k100 v5 v6 v7 v8 v9 M → E γ k_Model_isWrittenSo 9 100 [some (vr (some (11, this))), none, none, none, none, some (vr (some (401, v5))), some (vi v6), some (vi v7), some (vi v8), some (vi v9)] [] M (Qi Q)) (v5 : Nat) (v6 : Int32) (v7 : Int32) (v9 : Int32) (s0 : Int32) (M : Mem) (h : w_Model_isWrittenSo_j134 this Q k100 v5 v6 v7 v9 s0 M) : E γ k_Model_isWrittenSo 9 134 [some (vr (some (11, this))), none, none, none, none, some (vr (some (401, v5))), some (vi v6), some (vi v7), none, some (vi v9)] [vi s0] M (Qi Q) := by
  unfold w_Model_isWrittenSo_j134 at h
  refine E_blk (lv' := [some (vr (some (11, this))), none, none, none, none, some (vr (some (401, v5))), some (vi v6), some (vi v7), some (vi s0), some (vi (v9 + (1 : Int32)))]) (st' := []) (M1 := M) (pc' := 139) (tb_Model hγ) [.istore 8, .iinc 9 1] (by decide +kernel) rfl rfl trivial ?_
  refine E_goto (off := -39) (tgt := 100) (by decide +kernel) (by decide) ?_
  refine E_mask [true, false, false, false, false, true, true, true, true, true] rfl ?_
  exact hk100 v5 v6 v7 s0 (v9 + (1 : Int32)) M h
set_option maxRecDepth 4096 in
theorem lk_Model_isWrittenSo_L100 {γ : Gm} (hγ : Gk γ) (this : Nat) (Q : Int32 → Mem → Prop) : ∀ (n : Nat) (v5 : Nat) (v6 : Int32) (v7 : Int32) (v8 : Int32) (v9 : Int32) (M : Mem), w_Model_isWrittenSo_L100 this Q n v5 v6 v7 v8 v9 M → E γ k_Model_isWrittenSo 9 100 [some (vr (some (11, this))), none, none, none, none, some (vr (some (401, v5))), some (vi v6), some (vi v7), some (vi v8), some (vi v9)] [] M (Qi Q) := by
  intro n
  induction n with
  | zero => intro v5 v6 v7 v8 v9 M h; exact h.elim
  | succ n ih =>
    intro v5 v6 v7 v8 v9 M h
    unfold w_Model_isWrittenSo_L100 at h
    refine E_blk (lv' := [some (vr (some (11, this))), none, none, none, none, some (vr (some (401, v5))), some (vi v6), some (vi v7), some (vi v8), some (vi v9)]) (st' := [vi v7, vi v9]) (M1 := M) (pc' := 104) (tb_Model hγ) [.iload 9, .iload 7] (by decide +kernel) rfl rfl trivial ?_
    refine E_icmp_ge (off := 38) (tgt := 142) (by decide +kernel) (by decide) (fun b11 => ?_) (fun b11 => ?_)
    · rw [if_pos b11] at h
      refine E_mask [true, false, false, false, false, true, true, false, true, false] rfl ?_
      exact lk_Model_isWrittenSo_j142 hγ this Q v5 v6 v8 M h
    · rw [if_neg b11] at h
      refine E_blk (lv' := [some (vr (some (11, this))), none, none, none, none, some (vr (some (401, v5))), some (vi v6), some (vi v7), some (vi v8), some (vi v9)]) (st' := [vi v8]) (M1 := M) (pc' := 109) (tb_Model hγ) [.iload 8] (by decide +kernel) rfl rfl trivial ?_
      refine E_if_eq (off := 33) (tgt := 142) (by decide +kernel) (by decide) (fun b12 => ?_) (fun b12 => ?_)
      · rw [if_pos b12] at h
        refine E_mask [true, false, false, false, false, true, true, false, true, false] rfl ?_
        exact lk_Model_isWrittenSo_j142 hγ this Q v5 v6 v8 M h
      · rw [if_neg b12] at h
        refine E_blk (lv' := [some (vr (some (11, this))), none, none, none, none, some (vr (some (401, v5))), some (vi v6), some (vi v7), some (vi v8), some (vi v9)]) (st' := [vr (mR M 11 this 114)]) (M1 := M) (pc' := 116) (tb_Model hγ) [.aload_n 0, .getfield 365] (by decide +kernel) rfl rfl trivial ?_
        obtain ⟨i13, ei13, h⟩ := h
        rw [ei13]
        obtain ⟨c14, h⟩ := h
        refine E_blk (lv' := [some (vr (some (11, this))), none, none, none, none, some (vr (some (401, v5))), some (vi v6), some (vi v7), some (vi v8), some (vi v9)]) (st' := [vr (mR M 11 this 115), vi (mI M 401 i13 v9.toNatClampNeg)]) (M1 := M) (pc' := 123) (tb_Model hγ) [.iload 9, .baload, .aload_n 0, .getfield 368] (by decide +kernel) rfl rfl ⟨c14, trivial⟩ ?_
        obtain ⟨i15, ei15, h⟩ := h
        rw [ei15]
        obtain ⟨c16, h⟩ := h
        refine E_blk (lv' := [some (vr (some (11, this))), none, none, none, none, some (vr (some (401, v5))), some (vi v6), some (vi v7), some (vi v8), some (vi v9)]) (st' := [vi (mI M 401 i15 v9.toNatClampNeg), vi (mI M 401 i13 v9.toNatClampNeg)]) (M1 := M) (pc' := 126) (tb_Model hγ) [.iload 9, .baload] (by decide +kernel) rfl rfl ⟨c16, trivial⟩ ?_
        refine E_icmp_ne (off := 7) (tgt := 133) (by decide +kernel) (by decide) (fun b17 => ?_) (fun b17 => ?_)
        · rw [if_pos b17] at h
          refine E_blk (lv' := [some (vr (some (11, this))), none, none, none, none, some (vr (some (401, v5))), some (vi v6), some (vi v7), some (vi v8), some (vi v9)]) (st' := [vi (1 : Int32)]) (M1 := M) (pc' := 130) (tb_Model hγ) [.iconst 1] (by decide +kernel) rfl rfl trivial ?_
          refine E_goto (off := 4) (tgt := 134) (by decide +kernel) (by decide) ?_
          refine E_mask [true, false, false, false, false, true, true, true, false, true] rfl ?_
          exact lk_Model_isWrittenSo_j134 hγ this Q (w_Model_isWrittenSo_L100 this Q n) ih v5 v6 v7 v9 (1 : Int32) M h
        · rw [if_neg b17] at h
          refine E_blk (lv' := [some (vr (some (11, this))), none, none, none, none, some (vr (some (401, v5))), some (vi v6), some (vi v7), some (vi v8), some (vi v9)]) (st' := [vi (0 : Int32)]) (M1 := M) (pc' := 134) (tb_Model hγ) [.iconst 0] (by decide +kernel) rfl rfl trivial ?_
          refine E_mask [true, false, false, false, false, true, true, true, false, true] rfl ?_
          exact lk_Model_isWrittenSo_j134 hγ this Q (w_Model_isWrittenSo_L100 this Q n) ih v5 v6 v7 v9 (0 : Int32) M h
set_option maxRecDepth 4096 in
theorem lk_Model_isWrittenSo_j95 {γ : Gm} (hγ : Gk γ) (this : Nat) (Q : Int32 → Mem → Prop) (v5 : Nat) (v6 : Int32) (v7 : Int32) (s0 : Int32) (M : Mem) (h : w_Model_isWrittenSo_j95 this Q v5 v6 v7 s0 M) : E γ k_Model_isWrittenSo 9 95 [some (vr (some (11, this))), none, none, none, none, some (vr (some (401, v5))), some (vi v6), some (vi v7), none, none] [vi s0] M (Qi Q) := by
  unfold w_Model_isWrittenSo_j95 at h
  refine E_blk (lv' := [some (vr (some (11, this))), none, none, none, none, some (vr (some (401, v5))), some (vi v6), some (vi v7), some (vi s0), some (vi (0 : Int32))]) (st' := []) (M1 := M) (pc' := 100) (tb_Model hγ) [.istore 8, .iconst 0, .istore 9] (by decide +kernel) rfl rfl trivial ?_
  obtain ⟨n18, h⟩ := h
  refine E_mask [true, false, false, false, false, true, true, true, true, true] rfl ?_
  exact lk_Model_isWrittenSo_L100 hγ this Q n18 v5 v6 v7 s0 (0 : Int32) M h
set_option maxRecDepth 4096 in
theorem lk_Model_isWrittenSo {γ : Gm} (hγ : Gk γ) (this : Nat) (a1 : Nat) (a2 : Int32) (a3 : Nat) (a4 : Int32) (Q : Int32 → Mem → Prop) (M : Mem) (h : w_Model_isWrittenSo this a1 a2 a3 a4 Q M) : E γ k_Model_isWrittenSo 9 0 [some (vr (some (11, this))), some (vr (some (12, a1))), some (vi a2), some (vr (some (12, a3))), some (vi a4), none, none, none, none, none] [] M (Qi Q) := by
  unfold w_Model_isWrittenSo at h
  refine E_blk (lv' := [some (vr (some (11, this))), some (vr (some (12, a1))), some (vi a2), some (vr (some (12, a3))), some (vi a4), none, none, none, none, none]) (st' := [vr (mR M 11 this 94)]) (M1 := M) (pc' := 4) (tb_Model hγ) [.aload_n 0, .getfield 323] (by decide +kernel) rfl rfl trivial ?_
  obtain ⟨i1, ei1, h⟩ := h
  rw [ei1]
  refine E_blk (lv' := [some (vr (some (11, this))), some (vr (some (12, a1))), some (vi a2), some (vr (some (12, a3))), some (vi a4), some (vr (some (401, i1))), some (vi (mI M 11 this 95)), none, none, none]) (st' := [vr (mR M 11 this 114), vr (some (11, this))]) (M1 := M) (pc' := 17) (tb_Model hγ) [.astore 5, .aload_n 0, .getfield 1176, .istore 6, .aload_n 0, .aload_n 0, .getfield 365] (by decide +kernel) rfl rfl trivial ?_
  obtain ⟨i2, ei2, h⟩ := h
  rw [ei2]
  refine E_blk (lv' := [some (vr (some (11, this))), some (vr (some (12, a1))), some (vi a2), some (vr (some (12, a3))), some (vi a4), some (vr (some (401, i1))), some (vi (mI M 11 this 95)), none, none, none]) (st' := []) (M1 := (sR (sI (sR M 11 this 94 (some (401, i2))) 11 this 95 (0 : Int32)) 11 this 45 (some (12, a1)))) (pc' := 30) (tb_Model hγ) [.putfield 323, .aload_n 0, .iconst 0, .putfield 1176, .aload_n 0, .aload_n 1, .putfield 522] (by decide +kernel) rfl rfl trivial ?_
  obtain ⟨M3, eM3, h⟩ := h
  rw [← eM3]
  refine E_blk (lv' := [some (vr (some (11, this))), some (vr (some (12, a1))), some (vi a2), some (vr (some (12, a3))), some (vi a4), some (vr (some (401, i1))), some (vi (mI M 11 this 95)), none, none, none]) (st' := [vi a2, vr (some (11, this))]) (M1 := M3) (pc' := 32) (tb_Model hγ) [.aload_n 0, .iload_n 2] (by decide +kernel) rfl rfl trivial ?_
  refine E_callV (κ' := k_Model_putMethod) (As := [vi a2]) (st := []) mv_Model_putMethod (Or.inl (tbk_mem (j := 17) (k := 73) rfl)) rfl (by decide +kernel) (Nat.le_of_ble_eq_true rfl) (Nat.le_of_ble_eq_true rfl) rfl (by decide) (lk_Model_putMethod hγ this a2 _ M3 h) (fun _ _ => Qv_r) (fun v M4 hp => Qv_k (R := fun st => E γ k_Model_isWrittenSo 9 35 [some (vr (some (11, this))), some (vr (some (12, a1))), some (vi a2), some (vr (some (12, a3))), some (vi a4), some (vr (some (401, i1))), some (vi (mI M 11 this 95)), none, none, none] st M4 (Qi Q)) hp (fun h => ?_))
  refine E_blk (lv' := [some (vr (some (11, this))), some (vr (some (12, a1))), some (vi a2), some (vr (some (12, a3))), some (vi a4), some (vr (some (401, i1))), some (vi (mI M 11 this 95)), none, none, none]) (st' := [vr (mR M4 11 this 94), vr (some (11, this))]) (M1 := M4) (pc' := 40) (tb_Model hγ) [.aload_n 0, .aload_n 0, .getfield 323] (by decide +kernel) rfl rfl trivial ?_
  obtain ⟨i5, ei5, h⟩ := h
  rw [ei5]
  refine E_blk (lv' := [some (vr (some (11, this))), some (vr (some (12, a1))), some (vi a2), some (vr (some (12, a3))), some (vi a4), some (vr (some (401, i1))), some (vi (mI M 11 this 95)), some (vi (mI (sR M4 11 this 114 (some (401, i5))) 11 this 95)), none, none]) (st' := [vr (mR (sR M4 11 this 114 (some (401, i5))) 11 this 115), vr (some (11, this))]) (M1 := (sR M4 11 this 114 (some (401, i5)))) (pc' := 54) (tb_Model hγ) [.putfield 365, .aload_n 0, .getfield 1176, .istore 7, .aload_n 0, .aload_n 0, .getfield 368] (by decide +kernel) rfl rfl trivial ?_
  obtain ⟨i6, ei6, h⟩ := h
  rw [ei6]
  refine E_blk (lv' := [some (vr (some (11, this))), some (vr (some (12, a1))), some (vi a2), some (vr (some (12, a3))), some (vi a4), some (vr (some (401, i1))), some (vi (mI M 11 this 95)), some (vi (mI (sR M4 11 this 114 (some (401, i5))) 11 this 95)), none, none]) (st' := []) (M1 := (sI (sR (sR M4 11 this 114 (some (401, i5))) 11 this 94 (some (401, i6))) 11 this 95 (0 : Int32))) (pc' := 62) (tb_Model hγ) [.putfield 323, .aload_n 0, .iconst 0, .putfield 1176] (by decide +kernel) rfl rfl trivial ?_
  obtain ⟨M7, eM7, h⟩ := h
  rw [← eM7]
  refine E_blk (lv' := [some (vr (some (11, this))), some (vr (some (12, a1))), some (vi a2), some (vr (some (12, a3))), some (vi a4), some (vr (some (401, i1))), some (vi (mI M 11 this 95)), some (vi (mI (sR M4 11 this 114 (some (401, i5))) 11 this 95)), none, none]) (st' := [vi a4, vr (some (11, this))]) (M1 := (sR M7 11 this 45 (some (12, a3)))) (pc' := 70) (tb_Model hγ) [.aload_n 0, .aload_n 3, .putfield 522, .aload_n 0, .iload 4] (by decide +kernel) rfl rfl trivial ?_
  refine E_callV (κ' := k_Model_putMethod) (As := [vi a4]) (st := []) mv_Model_putMethod (Or.inl (tbk_mem (j := 17) (k := 73) rfl)) rfl (by decide +kernel) (Nat.le_of_ble_eq_true rfl) (Nat.le_of_ble_eq_true rfl) rfl (by decide) (lk_Model_putMethod hγ this a4 _ (sR M7 11 this 45 (some (12, a3))) h) (fun _ _ => Qv_r) (fun v M8 hp => Qv_k (R := fun st => E γ k_Model_isWrittenSo 9 73 [some (vr (some (11, this))), some (vr (some (12, a1))), some (vi a2), some (vr (some (12, a3))), some (vi a4), some (vr (some (401, i1))), some (vi (mI M 11 this 95)), some (vi (mI (sR M4 11 this 114 (some (401, i5))) 11 this 95)), none, none] st M8 (Qi Q)) hp (fun h => ?_))
  refine E_blk (lv' := [some (vr (some (11, this))), some (vr (some (12, a1))), some (vi a2), some (vr (some (12, a3))), some (vi a4), some (vr (some (401, i1))), some (vi (mI M 11 this 95)), some (vi (mI (sR M4 11 this 114 (some (401, i5))) 11 this 95)), none, none]) (st' := [vr (mR M8 11 this 94), vr (some (11, this))]) (M1 := M8) (pc' := 78) (tb_Model hγ) [.aload_n 0, .aload_n 0, .getfield 323] (by decide +kernel) rfl rfl trivial ?_
  obtain ⟨i9, ei9, h⟩ := h
  rw [ei9]
  refine E_blk (lv' := [some (vr (some (11, this))), some (vr (some (12, a1))), some (vi a2), some (vr (some (12, a3))), some (vi a4), some (vr (some (401, i1))), some (vi (mI M 11 this 95)), some (vi (mI (sR M4 11 this 114 (some (401, i5))) 11 this 95)), none, none]) (st' := [vi (mI (sR M8 11 this 115 (some (401, i9))) 11 this 95), vi (mI (sR M4 11 this 114 (some (401, i5))) 11 this 95)]) (M1 := (sR M8 11 this 115 (some (401, i9)))) (pc' := 87) (tb_Model hγ) [.putfield 368, .iload 7, .aload_n 0, .getfield 1176] (by decide +kernel) rfl rfl trivial ?_
  refine E_icmp_ne (off := 7) (tgt := 94) (by decide +kernel) (by decide) (fun b10 => ?_) (fun b10 => ?_)
  · rw [if_pos b10] at h
    refine E_blk (lv' := [some (vr (some (11, this))), some (vr (some (12, a1))), some (vi a2), some (vr (some (12, a3))), some (vi a4), some (vr (some (401, i1))), some (vi (mI M 11 this 95)), some (vi (mI (sR M4 11 this 114 (some (401, i5))) 11 this 95)), none, none]) (st' := [vi (1 : Int32)]) (M1 := (sR M8 11 this 115 (some (401, i9)))) (pc' := 91) (tb_Model hγ) [.iconst 1] (by decide +kernel) rfl rfl trivial ?_
    refine E_goto (off := 4) (tgt := 95) (by decide +kernel) (by decide) ?_
    refine E_mask [true, false, false, false, false, true, true, true, false, false] rfl ?_
    exact lk_Model_isWrittenSo_j95 hγ this Q i1 (mI M 11 this 95) (mI (sR M4 11 this 114 (some (401, i5))) 11 this 95) (1 : Int32) (sR M8 11 this 115 (some (401, i9))) h
  · rw [if_neg b10] at h
    refine E_blk (lv' := [some (vr (some (11, this))), some (vr (some (12, a1))), some (vi a2), some (vr (some (12, a3))), some (vi a4), some (vr (some (401, i1))), some (vi (mI M 11 this 95)), some (vi (mI (sR M4 11 this 114 (some (401, i5))) 11 this 95)), none, none]) (st' := [vi (0 : Int32)]) (M1 := (sR M8 11 this 115 (some (401, i9)))) (pc' := 95) (tb_Model hγ) [.iconst 0] (by decide +kernel) rfl rfl trivial ?_
    refine E_mask [true, false, false, false, false, true, true, true, false, false] rfl ?_
    exact lk_Model_isWrittenSo_j95 hγ this Q i1 (mI M 11 this 95) (mI (sR M4 11 this 114 (some (401, i5))) 11 this 95) (0 : Int32) (sR M8 11 this 115 (some (401, i9))) h
def w_Model_fieldLike_j105 (Q : Int32 → Mem → Prop) (k6 : Nat → Int32 → Nat → Int32 → Int32 → Mem → Prop) (v0 : Nat) (v1 : Int32) (v2 : Nat) (v3 : Int32) (v4 : Int32) (M : Mem) : Prop :=
  k6 v0 v1 v2 v3 (v4 + (1 : Int32)) M
def w_Model_fieldLike_L6 (Q : Int32 → Mem → Prop) : Nat → Nat → Int32 → Nat → Int32 → Int32 → Mem → Prop
  | 0, _, _, _, _, _, _ => False
  | n + 1, v0, v1, v2, v3, v4, M => vp_in v3 (mL M 135 v2) ∧ if (((8 : Int32) * v3) + (mI M 135 v2 v3.toNatClampNeg)) ≤ v4 then (Q (-2 : Int32) M) else (vp_in v4 (mL M 139 v2) ∧ vp_in v1 (mL M 139 v0) ∧ if (mI M 139 v2 v4.toNatClampNeg) = (mI M 139 v0 v1.toNatClampNeg) then (vp_in v4 (mL M 140 v2) ∧ vp_in v1 (mL M 140 v0) ∧ if (mI M 140 v2 v4.toNatClampNeg) = (mI M 140 v0 v1.toNatClampNeg) then (vp_in v4 (mL M 141 v2) ∧ vp_in v1 (mL M 141 v0) ∧ if (mI M 141 v2 v4.toNatClampNeg) = (mI M 141 v0 v1.toNatClampNeg) then (vp_in v4 (mL M 523 v2) ∧ vp_in v1 (mL M 523 v0) ∧ if (mI M 523 v2 v4.toNatClampNeg) = (mI M 523 v0 v1.toNatClampNeg) then (vp_in v4 (mL M 142 v2) ∧ vp_in v1 (mL M 142 v0) ∧ if (mI M 142 v2 v4.toNatClampNeg) = (mI M 142 v0 v1.toNatClampNeg) then (Q v4 M) else (w_Model_fieldLike_j105 Q (w_Model_fieldLike_L6 Q n) v0 v1 v2 v3 v4 M)) else (w_Model_fieldLike_j105 Q (w_Model_fieldLike_L6 Q n) v0 v1 v2 v3 v4 M)) else (w_Model_fieldLike_j105 Q (w_Model_fieldLike_L6 Q n) v0 v1 v2 v3 v4 M)) else (w_Model_fieldLike_j105 Q (w_Model_fieldLike_L6 Q n) v0 v1 v2 v3 v4 M)) else (w_Model_fieldLike_j105 Q (w_Model_fieldLike_L6 Q n) v0 v1 v2 v3 v4 M))
def w_Model_fieldLike (a1 : Nat) (a2 : Int32) (a3 : Nat) (a4 : Int32) (Q : Int32 → Mem → Prop) (M : Mem) : Prop :=
  ∃ n18 : Nat, w_Model_fieldLike_L6 Q n18 a1 a2 a3 a4 ((8 : Int32) * a4) M
set_option maxRecDepth 4096 in
theorem lk_Model_fieldLike_j105 {γ : Gm} (hγ : Gk γ) (Q : Int32 → Mem → Prop) (k6 : Nat → Int32 → Nat → Int32 → Int32 → Mem → Prop) (hk6 : ∀ (v0 : Nat) (v1 : Int32) (v2 : Nat) (v3 : Int32) (v4 : Int32) (M : Mem), k6 v0 v1 v2 v3 v4 M → E γ k_Model_fieldLike 0 6 [some (vr (some (12, v0))), some (vi v1), some (vr (some (12, v2))), some (vi v3), some (vi v4)] [] M (Qi Q)) (v0 : Nat) (v1 : Int32) (v2 : Nat) (v3 : Int32) (v4 : Int32) (M : Mem) (h : w_Model_fieldLike_j105 Q k6 v0 v1 v2 v3 v4 M) : E γ k_Model_fieldLike 0 105 [some (vr (some (12, v0))), some (vi v1), some (vr (some (12, v2))), some (vi v3), some (vi v4)] [] M (Qi Q) := by
  unfold w_Model_fieldLike_j105 at h
  refine E_blk (lv' := [some (vr (some (12, v0))), some (vi v1), some (vr (some (12, v2))), some (vi v3), some (vi (v4 + (1 : Int32)))]) (st' := []) (M1 := M) (pc' := 108) (tb_Model hγ) [.iinc 4 1] (by decide +kernel) rfl rfl trivial ?_
  refine E_goto (off := -102) (tgt := 6) (by decide +kernel) (by decide) ?_
  refine E_mask [true, true, true, true, true] rfl ?_
  exact hk6 v0 v1 v2 v3 (v4 + (1 : Int32)) M h
set_option maxRecDepth 4096 in
theorem lk_Model_fieldLike_L6 {γ : Gm} (hγ : Gk γ) (Q : Int32 → Mem → Prop) : ∀ (n : Nat) (v0 : Nat) (v1 : Int32) (v2 : Nat) (v3 : Int32) (v4 : Int32) (M : Mem), w_Model_fieldLike_L6 Q n v0 v1 v2 v3 v4 M → E γ k_Model_fieldLike 0 6 [some (vr (some (12, v0))), some (vi v1), some (vr (some (12, v2))), some (vi v3), some (vi v4)] [] M (Qi Q) := by
  intro n
  induction n with
  | zero => intro v0 v1 v2 v3 v4 M h; exact h.elim
  | succ n ih =>
    intro v0 v1 v2 v3 v4 M h
    unfold w_Model_fieldLike_L6 at h
    obtain ⟨c1, h⟩ := h
    refine E_blk (lv' := [some (vr (some (12, v0))), some (vi v1), some (vr (some (12, v2))), some (vi v3), some (vi v4)]) (st' := [vi (((8 : Int32) * v3) + (mI M 135 v2 v3.toNatClampNeg)), vi v4]) (M1 := M) (pc' := 19) (tb_Model hγ) [.iload 4, .bipush 8, .iload_n 3, .imul, .aload_n 2, .getfield 435, .iload_n 3, .iaload, .iadd] (by decide +kernel) rfl rfl ⟨c1, trivial⟩ ?_
    refine E_icmp_ge (off := 92) (tgt := 111) (by decide +kernel) (by decide) (fun b2 => ?_) (fun b2 => ?_)
    · rw [if_pos b2] at h
      refine E_blk (lv' := [some (vr (some (12, v0))), some (vi v1), some (vr (some (12, v2))), some (vi v3), some (vi v4)]) (st' := [vi (-2 : Int32)]) (M1 := M) (pc' := 113) (tb_Model hγ) [.bipush (.negSucc 1)] (by decide +kernel) rfl rfl trivial ?_
      exact E_iret rfl (by decide +kernel) h
    · rw [if_neg b2] at h
      obtain ⟨c3, c4, h⟩ := h
      refine E_blk (lv' := [some (vr (some (12, v0))), some (vi v1), some (vr (some (12, v2))), some (vi v3), some (vi v4)]) (st' := [vi (mI M 139 v0 v1.toNatClampNeg), vi (mI M 139 v2 v4.toNatClampNeg)]) (M1 := M) (pc' := 35) (tb_Model hγ) [.aload_n 2, .getfield 621, .iload 4, .iaload, .aload_n 0, .getfield 621, .iload_n 1, .iaload] (by decide +kernel) rfl rfl ⟨c3, c4, trivial⟩ ?_
      refine E_icmp_ne (off := 70) (tgt := 105) (by decide +kernel) (by decide) (fun b5 => ?_) (fun b5 => ?_)
      · rw [if_pos b5] at h
        obtain ⟨c6, c7, h⟩ := h
        refine E_blk (lv' := [some (vr (some (12, v0))), some (vi v1), some (vr (some (12, v2))), some (vi v3), some (vi v4)]) (st' := [vi (mI M 140 v0 v1.toNatClampNeg), vi (mI M 140 v2 v4.toNatClampNeg)]) (M1 := M) (pc' := 51) (tb_Model hγ) [.aload_n 2, .getfield 624, .iload 4, .iaload, .aload_n 0, .getfield 624, .iload_n 1, .iaload] (by decide +kernel) rfl rfl ⟨c6, c7, trivial⟩ ?_
        refine E_icmp_ne (off := 54) (tgt := 105) (by decide +kernel) (by decide) (fun b8 => ?_) (fun b8 => ?_)
        · rw [if_pos b8] at h
          obtain ⟨c9, c10, h⟩ := h
          refine E_blk (lv' := [some (vr (some (12, v0))), some (vi v1), some (vr (some (12, v2))), some (vi v3), some (vi v4)]) (st' := [vi (mI M 141 v0 v1.toNatClampNeg), vi (mI M 141 v2 v4.toNatClampNeg)]) (M1 := M) (pc' := 67) (tb_Model hγ) [.aload_n 2, .getfield 627, .iload 4, .iaload, .aload_n 0, .getfield 627, .iload_n 1, .iaload] (by decide +kernel) rfl rfl ⟨c9, c10, trivial⟩ ?_
          refine E_icmp_ne (off := 38) (tgt := 105) (by decide +kernel) (by decide) (fun b11 => ?_) (fun b11 => ?_)
          · rw [if_pos b11] at h
            obtain ⟨c12, c13, h⟩ := h
            refine E_blk (lv' := [some (vr (some (12, v0))), some (vi v1), some (vr (some (12, v2))), some (vi v3), some (vi v4)]) (st' := [vi (mI M 523 v0 v1.toNatClampNeg), vi (mI M 523 v2 v4.toNatClampNeg)]) (M1 := M) (pc' := 83) (tb_Model hγ) [.aload_n 2, .getfield 633, .iload 4, .baload, .aload_n 0, .getfield 633, .iload_n 1, .baload] (by decide +kernel) rfl rfl ⟨c12, c13, trivial⟩ ?_
            refine E_icmp_ne (off := 22) (tgt := 105) (by decide +kernel) (by decide) (fun b14 => ?_) (fun b14 => ?_)
            · rw [if_pos b14] at h
              obtain ⟨c15, c16, h⟩ := h
              refine E_blk (lv' := [some (vr (some (12, v0))), some (vi v1), some (vr (some (12, v2))), some (vi v3), some (vi v4)]) (st' := [vi (mI M 142 v0 v1.toNatClampNeg), vi (mI M 142 v2 v4.toNatClampNeg)]) (M1 := M) (pc' := 99) (tb_Model hγ) [.aload_n 2, .getfield 630, .iload 4, .iaload, .aload_n 0, .getfield 630, .iload_n 1, .iaload] (by decide +kernel) rfl rfl ⟨c15, c16, trivial⟩ ?_
              refine E_icmp_ne (off := 6) (tgt := 105) (by decide +kernel) (by decide) (fun b17 => ?_) (fun b17 => ?_)
              · rw [if_pos b17] at h
                refine E_blk (lv' := [some (vr (some (12, v0))), some (vi v1), some (vr (some (12, v2))), some (vi v3), some (vi v4)]) (st' := [vi v4]) (M1 := M) (pc' := 104) (tb_Model hγ) [.iload 4] (by decide +kernel) rfl rfl trivial ?_
                exact E_iret rfl (by decide +kernel) h
              · rw [if_neg b17] at h
                refine E_mask [true, true, true, true, true] rfl ?_
                exact lk_Model_fieldLike_j105 hγ Q (w_Model_fieldLike_L6 Q n) ih v0 v1 v2 v3 v4 M h
            · rw [if_neg b14] at h
              refine E_mask [true, true, true, true, true] rfl ?_
              exact lk_Model_fieldLike_j105 hγ Q (w_Model_fieldLike_L6 Q n) ih v0 v1 v2 v3 v4 M h
          · rw [if_neg b11] at h
            refine E_mask [true, true, true, true, true] rfl ?_
            exact lk_Model_fieldLike_j105 hγ Q (w_Model_fieldLike_L6 Q n) ih v0 v1 v2 v3 v4 M h
        · rw [if_neg b8] at h
          refine E_mask [true, true, true, true, true] rfl ?_
          exact lk_Model_fieldLike_j105 hγ Q (w_Model_fieldLike_L6 Q n) ih v0 v1 v2 v3 v4 M h
      · rw [if_neg b5] at h
        refine E_mask [true, true, true, true, true] rfl ?_
        exact lk_Model_fieldLike_j105 hγ Q (w_Model_fieldLike_L6 Q n) ih v0 v1 v2 v3 v4 M h
set_option maxRecDepth 4096 in
theorem lk_Model_fieldLike {γ : Gm} (hγ : Gk γ) (a1 : Nat) (a2 : Int32) (a3 : Nat) (a4 : Int32) (Q : Int32 → Mem → Prop) (M : Mem) (h : w_Model_fieldLike a1 a2 a3 a4 Q M) : E γ k_Model_fieldLike 0 0 [some (vr (some (12, a1))), some (vi a2), some (vr (some (12, a3))), some (vi a4), none] [] M (Qi Q) := by
  unfold w_Model_fieldLike at h
  refine E_blk (lv' := [some (vr (some (12, a1))), some (vi a2), some (vr (some (12, a3))), some (vi a4), some (vi ((8 : Int32) * a4))]) (st' := []) (M1 := M) (pc' := 6) (tb_Model hγ) [.bipush 8, .iload_n 3, .imul, .istore 4] (by decide +kernel) rfl rfl trivial ?_
  obtain ⟨n18, h⟩ := h
  refine E_mask [true, true, true, true, true] rfl ?_
  exact lk_Model_fieldLike_L6 hγ Q n18 a1 a2 a3 a4 ((8 : Int32) * a4) M h
def w_Model_differ_j175 (this : Nat) (Q : Int32 → Mem → Prop) (v8 : Int32) (M : Mem) : Prop :=
  if v8 = 0 then (Q (1 : Int32) M) else (Q (0 : Int32) M)
def w_Model_differ_j167 (this : Nat) (Q : Int32 → Mem → Prop) (k117 : Int32 → Int32 → Nat → Nat → Int32 → Int32 → Mem → Prop) (v2 : Int32) (v4 : Int32) (v6 : Nat) (v7 : Nat) (v9 : Int32) (s0 : Int32) (M : Mem) : Prop :=
  k117 v2 v4 v6 v7 s0 (v9 + (1 : Int32)) M
def w_Model_differ_L117 (this : Nat) (Q : Int32 → Mem → Prop) : Nat → Int32 → Int32 → Nat → Nat → Int32 → Int32 → Mem → Prop
  | 0, _, _, _, _, _, _, _ => False
  | n + 1, v2, v4, v6, v7, v8, v9, M => vp_in v2 (mL M 134 v6) ∧ if (mI M 134 v6 v2.toNatClampNeg) ≤ v9 then (w_Model_differ_j175 this Q v8 M) else (if v8 = 0 then (w_Model_differ_j175 this Q v8 M) else (vp_in (((4 : Int32) * v2) + v9) (mL M 133 v6) ∧ vp_in (((4 : Int32) * v4) + v9) (mL M 133 v7) ∧ if (mI M 133 v6 (((4 : Int32) * v2) + v9).toNatClampNeg) = (mI M 133 v7 (((4 : Int32) * v4) + v9).toNatClampNeg) then (w_Model_differ_j167 this Q (w_Model_differ_L117 this Q n) v2 v4 v6 v7 v9 (1 : Int32) M) else (w_Model_differ_j167 this Q (w_Model_differ_L117 this Q n) v2 v4 v6 v7 v9 (0 : Int32) M)))
def w_Model_differ_j112 (this : Nat) (Q : Int32 → Mem → Prop) (v2 : Int32) (v4 : Int32) (v6 : Nat) (v7 : Nat) (s0 : Int32) (M : Mem) : Prop :=
  ∃ n30 : Nat, w_Model_differ_L117 this Q n30 v2 v4 v6 v7 s0 (0 : Int32) M
def w_Model_differ_j111 (this : Nat) (Q : Int32 → Mem → Prop) (v2 : Int32) (v4 : Int32) (v6 : Nat) (v7 : Nat) (M : Mem) : Prop :=
  w_Model_differ_j112 this Q v2 v4 v6 v7 (0 : Int32) M
def w_Model_differ_j239 (this : Nat) (Q : Int32 → Mem → Prop) (k201 : Int32 → Int32 → Nat → Nat → Int32 → Int32 → Mem → Prop) (v2 : Int32) (v4 : Int32) (v6 : Nat) (v7 : Nat) (v9 : Int32) (s0 : Int32) (s1 : Int32) (M : Mem) : Prop :=
  k201 v2 v4 v6 v7 (s1 + s0) (v9 + (1 : Int32)) M
def w_Model_differ_L201 (this : Nat) (Q : Int32 → Mem → Prop) : Nat → Int32 → Int32 → Nat → Nat → Int32 → Int32 → Mem → Prop
  | 0, _, _, _, _, _, _, _ => False
  | n + 1, v2, v4, v6, v7, v8, v9, M => vp_in v2 (mL M 135 v6) ∧ if (((8 : Int32) * v2) + (mI M 135 v6 v2.toNatClampNeg)) ≤ v9 then (Q v8 M) else (w_Model_fieldLike v6 v9 v7 v4 (fun r35 M34 => if 0 ≤ r35 then (w_Model_differ_j239 this Q (w_Model_differ_L201 this Q n) v2 v4 v6 v7 v9 (0 : Int32) v8 M34) else (w_Model_differ_j239 this Q (w_Model_differ_L201 this Q n) v2 v4 v6 v7 v9 (1 : Int32) v8 M34)) M)
def w_Model_differ_j351 (this : Nat) (Q : Int32 → Mem → Prop) (k257 : Int32 → Int32 → Int32 → Nat → Nat → Int32 → Int32 → Mem → Prop) (v2 : Int32) (v4 : Int32) (v5 : Int32) (v6 : Nat) (v7 : Nat) (v9 : Int32) (s0 : Int32) (s1 : Int32) (M : Mem) : Prop :=
  k257 v2 v4 v5 v6 v7 (s1 + s0) (v9 + (1 : Int32)) M
def w_Model_differ_j350 (this : Nat) (Q : Int32 → Mem → Prop) (k257 : Int32 → Int32 → Int32 → Nat → Nat → Int32 → Int32 → Mem → Prop) (v2 : Int32) (v4 : Int32) (v5 : Int32) (v6 : Nat) (v7 : Nat) (v9 : Int32) (s0 : Int32) (M : Mem) : Prop :=
  w_Model_differ_j351 this Q k257 v2 v4 v5 v6 v7 v9 (0 : Int32) s0 M
def w_Model_differ_L257 (this : Nat) (Q : Int32 → Mem → Prop) : Nat → Int32 → Int32 → Int32 → Nat → Nat → Int32 → Int32 → Mem → Prop
  | 0, _, _, _, _, _, _, _, _ => False
  | n + 1, v2, v4, v5, v6, v7, v8, v9, M => vp_in v2 (mL M 136 v6) ∧ if (((12 : Int32) * v2) + (mI M 136 v6 v2.toNatClampNeg)) ≤ v9 then (Q v8 M) else (vp_in v9 (mL (sR M 11 this 45 (some (12, v7))) 144 v6) ∧ vp_in v9 (mL (sR M 11 this 45 (some (12, v7))) 145 v6) ∧ w_Model_methodIn this v4 (mI (sR M 11 this 45 (some (12, v7))) 144 v6 v9.toNatClampNeg) (mI (sR M 11 this 45 (some (12, v7))) 145 v6 v9.toNatClampNeg) (fun r43 M42 => if 0 ≤ r43 then (if v5 = (3 : Int32) then (w_Model_isWrittenSo this v6 v9 v7 r43 (fun r47 M46 => if r47 = 0 then (w_Model_differ_j351 this Q (w_Model_differ_L257 this Q n) v2 v4 v5 v6 v7 v9 (1 : Int32) v8 M46) else (w_Model_differ_j350 this Q (w_Model_differ_L257 this Q n) v2 v4 v5 v6 v7 v9 v8 M46)) M42) else (w_Model_differ_j350 this Q (w_Model_differ_L257 this Q n) v2 v4 v5 v6 v7 v9 v8 M42)) else (if v5 = (2 : Int32) then (w_Model_differ_j351 this Q (w_Model_differ_L257 this Q n) v2 v4 v5 v6 v7 v9 (1 : Int32) v8 M42) else (w_Model_differ_j351 this Q (w_Model_differ_L257 this Q n) v2 v4 v5 v6 v7 v9 (0 : Int32) v8 M42))) (sR M 11 this 45 (some (12, v7))))
def w_Model_differ (this : Nat) (a1 : Int32) (a2 : Int32) (a3 : Int32) (a4 : Int32) (a5 : Int32) (Q : Int32 → Mem → Prop) (M : Mem) : Prop :=
  w_Model_isClass this a1 a2 (fun r2 M1 => if r2 = 0 then (Q (-1 : Int32) M1) else (w_Model_isClass this a3 a4 (fun r5 M4 => if r5 = 0 then (Q (-1 : Int32) M4) else (if a5 < 0 then (Q (-1 : Int32) M4) else (if a5 ≤ (3 : Int32) then (vp_in a1 (mL M4 703 0) ∧ ∃ i10, (mR M4 703 0 a1.toNatClampNeg) = some (12, i10) ∧ vp_in a3 (mL M4 703 0) ∧ ∃ i12, (mR M4 703 0 a3.toNatClampNeg) = some (12, i12) ∧ if a5 = 0 then (vp_in a2 (mL M4 132 i10) ∧ vp_in a4 (mL M4 132 i12) ∧ if (mI M4 132 i10 a2.toNatClampNeg) = (mI M4 132 i12 a4.toNatClampNeg) then (vp_in a2 (mL M4 131 i10) ∧ vp_in a4 (mL M4 131 i12) ∧ if (mI M4 131 i10 a2.toNatClampNeg) = (mI M4 131 i12 a4.toNatClampNeg) then (vp_in a2 (mL M4 134 i10) ∧ vp_in a4 (mL M4 134 i12) ∧ if (mI M4 134 i10 a2.toNatClampNeg) = (mI M4 134 i12 a4.toNatClampNeg) then (w_Model_differ_j112 this Q a2 a4 i10 i12 (1 : Int32) M4) else (w_Model_differ_j111 this Q a2 a4 i10 i12 M4)) else (w_Model_differ_j111 this Q a2 a4 i10 i12 M4)) else (w_Model_differ_j111 this Q a2 a4 i10 i12 M4)) else (if a5 = (1 : Int32) then (∃ n37 : Nat, w_Model_differ_L201 this Q n37 a2 a4 i10 i12 (0 : Int32) ((8 : Int32) * a2) M4) else (∃ n50 : Nat, w_Model_differ_L257 this Q n50 a2 a4 a5 i10 i12 (0 : Int32) ((12 : Int32) * a2) M4))) else (Q (-1 : Int32) M4)))) M1)) M
set_option maxRecDepth 4096 in
theorem lk_Model_differ_j175 {γ : Gm} (hγ : Gk γ) (this : Nat) (Q : Int32 → Mem → Prop) (v8 : Int32) (M : Mem) (h : w_Model_differ_j175 this Q v8 M) : E γ k_Model_differ 10 175 [none, none, none, none, none, none, none, none, some (vi v8), none, none] [] M (Qi Q) := by
  unfold w_Model_differ_j175 at h
  refine E_blk (lv' := [none, none, none, none, none, none, none, none, some (vi v8), none, none]) (st' := [vi v8]) (M1 := M) (pc' := 177) (tb_Model hγ) [.iload 8] (by decide +kernel) rfl rfl trivial ?_
  refine E_if_eq (off := 7) (tgt := 184) (by decide +kernel) (by decide) (fun b25 => ?_) (fun b25 => ?_)
  · rw [if_pos b25] at h
    refine E_blk (lv' := [none, none, none, none, none, none, none, none, some (vi v8), none, none]) (st' := [vi (1 : Int32)]) (M1 := M) (pc' := 185) (tb_Model hγ) [.iconst 1] (by decide +kernel) rfl rfl trivial ?_
    exact E_iret rfl (by decide +kernel) h
  · rw [if_neg b25] at h
    refine E_blk (lv' := [none, none, none, none, none, none, none, none, some (vi v8), none, none]) (st' := [vi (0 : Int32)]) (M1 := M) (pc' := 181) (tb_Model hγ) [.iconst 0] (by decide +kernel) rfl rfl trivial ?_
    refine E_goto (off := 4) (tgt := 185) (by decide +kernel) (by decide) ?_
    exact E_iret rfl (by decide +kernel) h
set_option maxRecDepth 4096 in
theorem lk_Model_differ_j167 {γ : Gm} (hγ : Gk γ) (this : Nat) (Q : Int32 → Mem → Prop) (k117 : Int32 → Int32 → Nat → Nat → Int32 → Int32 → Mem → Prop) (hk117 : ∀ (v2 : Int32) (v4 : Int32) (v6 : Nat) (v7 : Nat) (v8 : Int32) (v9 : Int32) (M : Mem), k117 v2 v4 v6 v7 v8 v9 M → E γ k_Model_differ 10 117 [none, none, some (vi v2), none, some (vi v4), none, some (vr (some (12, v6))), some (vr (some (12, v7))), some (vi v8), some (vi v9), none] [] M (Qi Q)) (v2 : Int32) (v4 : Int32) (v6 : Nat) (v7 : Nat) (v9 : Int32) (s0 : Int32) (M : Mem) (h : w_Model_differ_j167 this Q k117 v2 v4 v6 v7 v9 s0 M) : E γ k_Model_differ 10 167 [none, none, some (vi v2), none, some (vi v4), none, some (vr (some (12, v6))), some (vr (some (12, v7))), none, some (vi v9), none] [vi s0] M (Qi Q) := by
  unfold w_Model_differ_j167 at h
  refine E_blk (lv' := [none, none, some (vi v2), none, some (vi v4), none, some (vr (some (12, v6))), some (vr (some (12, v7))), some (vi s0), some (vi (v9 + (1 : Int32))), none]) (st' := []) (M1 := M) (pc' := 172) (tb_Model hγ) [.istore 8, .iinc 9 1] (by decide +kernel) rfl rfl trivial ?_
  refine E_goto (off := -55) (tgt := 117) (by decide +kernel) (by decide) ?_
  refine E_mask [false, false, true, false, true, false, true, true, true, true, false] rfl ?_
  exact hk117 v2 v4 v6 v7 s0 (v9 + (1 : Int32)) M h
set_option maxRecDepth 4096 in
theorem lk_Model_differ_L117 {γ : Gm} (hγ : Gk γ) (this : Nat) (Q : Int32 → Mem → Prop) : ∀ (n : Nat) (v2 : Int32) (v4 : Int32) (v6 : Nat) (v7 : Nat) (v8 : Int32) (v9 : Int32) (M : Mem), w_Model_differ_L117 this Q n v2 v4 v6 v7 v8 v9 M → E γ k_Model_differ 10 117 [none, none, some (vi v2), none, some (vi v4), none, some (vr (some (12, v6))), some (vr (some (12, v7))), some (vi v8), some (vi v9), none] [] M (Qi Q) := by
  intro n
  induction n with
  | zero => intro v2 v4 v6 v7 v8 v9 M h; exact h.elim
  | succ n ih =>
    intro v2 v4 v6 v7 v8 v9 M h
    unfold w_Model_differ_L117 at h
    obtain ⟨c23, h⟩ := h
    refine E_blk (lv' := [none, none, some (vi v2), none, some (vi v4), none, some (vr (some (12, v6))), some (vr (some (12, v7))), some (vi v8), some (vi v9), none]) (st' := [vi (mI M 134 v6 v2.toNatClampNeg), vi v9]) (M1 := M) (pc' := 126) (tb_Model hγ) [.iload 9, .aload 6, .getfield 432, .iload_n 2, .iaload] (by decide +kernel) rfl rfl ⟨c23, trivial⟩ ?_
    refine E_icmp_ge (off := 49) (tgt := 175) (by decide +kernel) (by decide) (fun b24 => ?_) (fun b24 => ?_)
    · rw [if_pos b24] at h
      refine E_mask [false, false, false, false, false, false, false, false, true, false, false] rfl ?_
      exact lk_Model_differ_j175 hγ this Q v8 M h
    · rw [if_neg b24] at h
      refine E_blk (lv' := [none, none, some (vi v2), none, some (vi v4), none, some (vr (some (12, v6))), some (vr (some (12, v7))), some (vi v8), some (vi v9), none]) (st' := [vi v8]) (M1 := M) (pc' := 131) (tb_Model hγ) [.iload 8] (by decide +kernel) rfl rfl trivial ?_
      refine E_if_eq (off := 44) (tgt := 175) (by decide +kernel) (by decide) (fun b26 => ?_) (fun b26 => ?_)
      · rw [if_pos b26] at h
        refine E_mask [false, false, false, false, false, false, false, false, true, false, false] rfl ?_
        exact lk_Model_differ_j175 hγ this Q v8 M h
      · rw [if_neg b26] at h
        obtain ⟨c27, c28, h⟩ := h
        refine E_blk (lv' := [none, none, some (vi v2), none, some (vi v4), none, some (vr (some (12, v6))), some (vr (some (12, v7))), some (vi v8), some (vi v9), none]) (st' := [vi (mI M 133 v7 (((4 : Int32) * v4) + v9).toNatClampNeg), vi (mI M 133 v6 (((4 : Int32) * v2) + v9).toNatClampNeg)]) (M1 := M) (pc' := 159) (tb_Model hγ) [.aload 6, .getfield 612, .iconst 4, .iload_n 2, .imul, .iload 9, .iadd, .iaload, .aload 7, .getfield 612, .iconst 4, .iload 4, .imul, .iload 9, .iadd, .iaload] (by decide +kernel) rfl rfl ⟨c27, c28, trivial⟩ ?_
        refine E_icmp_ne (off := 7) (tgt := 166) (by decide +kernel) (by decide) (fun b29 => ?_) (fun b29 => ?_)
        · rw [if_pos b29] at h
          refine E_blk (lv' := [none, none, some (vi v2), none, some (vi v4), none, some (vr (some (12, v6))), some (vr (some (12, v7))), some (vi v8), some (vi v9), none]) (st' := [vi (1 : Int32)]) (M1 := M) (pc' := 163) (tb_Model hγ) [.iconst 1] (by decide +kernel) rfl rfl trivial ?_
          refine E_goto (off := 4) (tgt := 167) (by decide +kernel) (by decide) ?_
          refine E_mask [false, false, true, false, true, false, true, true, false, true, false] rfl ?_
          exact lk_Model_differ_j167 hγ this Q (w_Model_differ_L117 this Q n) ih v2 v4 v6 v7 v9 (1 : Int32) M h
        · rw [if_neg b29] at h
          refine E_blk (lv' := [none, none, some (vi v2), none, some (vi v4), none, some (vr (some (12, v6))), some (vr (some (12, v7))), some (vi v8), some (vi v9), none]) (st' := [vi (0 : Int32)]) (M1 := M) (pc' := 167) (tb_Model hγ) [.iconst 0] (by decide +kernel) rfl rfl trivial ?_
          refine E_mask [false, false, true, false, true, false, true, true, false, true, false] rfl ?_
          exact lk_Model_differ_j167 hγ this Q (w_Model_differ_L117 this Q n) ih v2 v4 v6 v7 v9 (0 : Int32) M h
set_option maxRecDepth 4096 in
theorem lk_Model_differ_j112 {γ : Gm} (hγ : Gk γ) (this : Nat) (Q : Int32 → Mem → Prop) (v2 : Int32) (v4 : Int32) (v6 : Nat) (v7 : Nat) (s0 : Int32) (M : Mem) (h : w_Model_differ_j112 this Q v2 v4 v6 v7 s0 M) : E γ k_Model_differ 10 112 [none, none, some (vi v2), none, some (vi v4), none, some (vr (some (12, v6))), some (vr (some (12, v7))), none, none, none] [vi s0] M (Qi Q) := by
  unfold w_Model_differ_j112 at h
  refine E_blk (lv' := [none, none, some (vi v2), none, some (vi v4), none, some (vr (some (12, v6))), some (vr (some (12, v7))), some (vi s0), some (vi (0 : Int32)), none]) (st' := []) (M1 := M) (pc' := 117) (tb_Model hγ) [.istore 8, .iconst 0, .istore 9] (by decide +kernel) rfl rfl trivial ?_
  obtain ⟨n30, h⟩ := h
  refine E_mask [false, false, true, false, true, false, true, true, true, true, false] rfl ?_
  exact lk_Model_differ_L117 hγ this Q n30 v2 v4 v6 v7 s0 (0 : Int32) M h
set_option maxRecDepth 4096 in
theorem lk_Model_differ_j111 {γ : Gm} (hγ : Gk γ) (this : Nat) (Q : Int32 → Mem → Prop) (v2 : Int32) (v4 : Int32) (v6 : Nat) (v7 : Nat) (M : Mem) (h : w_Model_differ_j111 this Q v2 v4 v6 v7 M) : E γ k_Model_differ 10 111 [none, none, some (vi v2), none, some (vi v4), none, some (vr (some (12, v6))), some (vr (some (12, v7))), none, none, none] [] M (Qi Q) := by
  unfold w_Model_differ_j111 at h
  refine E_blk (lv' := [none, none, some (vi v2), none, some (vi v4), none, some (vr (some (12, v6))), some (vr (some (12, v7))), none, none, none]) (st' := [vi (0 : Int32)]) (M1 := M) (pc' := 112) (tb_Model hγ) [.iconst 0] (by decide +kernel) rfl rfl trivial ?_
  refine E_mask [false, false, true, false, true, false, true, true, false, false, false] rfl ?_
  exact lk_Model_differ_j112 hγ this Q v2 v4 v6 v7 (0 : Int32) M h
set_option maxRecDepth 4096 in
theorem lk_Model_differ_j239 {γ : Gm} (hγ : Gk γ) (this : Nat) (Q : Int32 → Mem → Prop) (k201 : Int32 → Int32 → Nat → Nat → Int32 → Int32 → Mem → Prop) (hk201 : ∀ (v2 : Int32) (v4 : Int32) (v6 : Nat) (v7 : Nat) (v8 : Int32) (v9 : Int32) (M : Mem), k201 v2 v4 v6 v7 v8 v9 M → E γ k_Model_differ 10 201 [none, none, some (vi v2), none, some (vi v4), none, some (vr (some (12, v6))), some (vr (some (12, v7))), some (vi v8), some (vi v9), none] [] M (Qi Q)) (v2 : Int32) (v4 : Int32) (v6 : Nat) (v7 : Nat) (v9 : Int32) (s0 : Int32) (s1 : Int32) (M : Mem) (h : w_Model_differ_j239 this Q k201 v2 v4 v6 v7 v9 s0 s1 M) : E γ k_Model_differ 10 239 [none, none, some (vi v2), none, some (vi v4), none, some (vr (some (12, v6))), some (vr (some (12, v7))), none, some (vi v9), none] [vi s0, vi s1] M (Qi Q) := by
  unfold w_Model_differ_j239 at h
  refine E_blk (lv' := [none, none, some (vi v2), none, some (vi v4), none, some (vr (some (12, v6))), some (vr (some (12, v7))), some (vi (s1 + s0)), some (vi (v9 + (1 : Int32))), none]) (st' := []) (M1 := M) (pc' := 245) (tb_Model hγ) [.iadd, .istore 8, .iinc 9 1] (by decide +kernel) rfl rfl trivial ?_
  refine E_goto (off := -44) (tgt := 201) (by decide +kernel) (by decide) ?_
  refine E_mask [false, false, true, false, true, false, true, true, true, true, false] rfl ?_
  exact hk201 v2 v4 v6 v7 (s1 + s0) (v9 + (1 : Int32)) M h
set_option maxRecDepth 4096 in
theorem lk_Model_differ_L201 {γ : Gm} (hγ : Gk γ) (this : Nat) (Q : Int32 → Mem → Prop) : ∀ (n : Nat) (v2 : Int32) (v4 : Int32) (v6 : Nat) (v7 : Nat) (v8 : Int32) (v9 : Int32) (M : Mem), w_Model_differ_L201 this Q n v2 v4 v6 v7 v8 v9 M → E γ k_Model_differ 10 201 [none, none, some (vi v2), none, some (vi v4), none, some (vr (some (12, v6))), some (vr (some (12, v7))), some (vi v8), some (vi v9), none] [] M (Qi Q) := by
  intro n
  induction n with
  | zero => intro v2 v4 v6 v7 v8 v9 M h; exact h.elim
  | succ n ih =>
    intro v2 v4 v6 v7 v8 v9 M h
    unfold w_Model_differ_L201 at h
    obtain ⟨c32, h⟩ := h
    refine E_blk (lv' := [none, none, some (vi v2), none, some (vi v4), none, some (vr (some (12, v6))), some (vr (some (12, v7))), some (vi v8), some (vi v9), none]) (st' := [vi (((8 : Int32) * v2) + (mI M 135 v6 v2.toNatClampNeg)), vi v9]) (M1 := M) (pc' := 215) (tb_Model hγ) [.iload 9, .bipush 8, .iload_n 2, .imul, .aload 6, .getfield 435, .iload_n 2, .iaload, .iadd] (by decide +kernel) rfl rfl ⟨c32, trivial⟩ ?_
    refine E_icmp_ge (off := 33) (tgt := 248) (by decide +kernel) (by decide) (fun b33 => ?_) (fun b33 => ?_)
    · rw [if_pos b33] at h
      refine E_blk (lv' := [none, none, some (vi v2), none, some (vi v4), none, some (vr (some (12, v6))), some (vr (some (12, v7))), some (vi v8), some (vi v9), none]) (st' := [vi v8]) (M1 := M) (pc' := 250) (tb_Model hγ) [.iload 8] (by decide +kernel) rfl rfl trivial ?_
      exact E_iret rfl (by decide +kernel) h
    · rw [if_neg b33] at h
      refine E_blk (lv' := [none, none, some (vi v2), none, some (vi v4), none, some (vr (some (12, v6))), some (vr (some (12, v7))), some (vi v8), some (vi v9), none]) (st' := [vi v4, vr (some (12, v7)), vi v9, vr (some (12, v6)), vi v8]) (M1 := M) (pc' := 228) (tb_Model hγ) [.iload 8, .aload 6, .iload 9, .aload 7, .iload 4] (by decide +kernel) rfl rfl trivial ?_
      refine E_callS (κ' := k_Model_fieldLike) (As := [vr (some (12, v6)), vi v9, vr (some (12, v7)), vi v4]) (st := [vi v8]) ms_Model_fieldLike (Or.inl (tbk_mem (j := 17) (k := 185) rfl)) rfl (by decide +kernel) (Nat.le_of_ble_eq_true rfl) (Nat.le_of_ble_eq_true rfl) rfl (by decide) (lk_Model_fieldLike hγ v6 v9 v7 v4 _ M h) (fun _ _ => Qi_r) (fun v M34 hp => Qi_k (R := fun st => E γ k_Model_differ 10 231 [none, none, some (vi v2), none, some (vi v4), none, some (vr (some (12, v6))), some (vr (some (12, v7))), some (vi v8), some (vi v9), none] st M34 (Qi Q)) hp (fun r35 h => ?_))
      refine E_if_ge (off := 7) (tgt := 238) (by decide +kernel) (by decide) (fun b36 => ?_) (fun b36 => ?_)
      · rw [if_pos b36] at h
        refine E_blk (lv' := [none, none, some (vi v2), none, some (vi v4), none, some (vr (some (12, v6))), some (vr (some (12, v7))), some (vi v8), some (vi v9), none]) (st' := [vi (0 : Int32), vi v8]) (M1 := M34) (pc' := 239) (tb_Model hγ) [.iconst 0] (by decide +kernel) rfl rfl trivial ?_
        refine E_mask [false, false, true, false, true, false, true, true, false, true, false] rfl ?_
        exact lk_Model_differ_j239 hγ this Q (w_Model_differ_L201 this Q n) ih v2 v4 v6 v7 v9 (0 : Int32) v8 M34 h
      · rw [if_neg b36] at h
        refine E_blk (lv' := [none, none, some (vi v2), none, some (vi v4), none, some (vr (some (12, v6))), some (vr (some (12, v7))), some (vi v8), some (vi v9), none]) (st' := [vi (1 : Int32), vi v8]) (M1 := M34) (pc' := 235) (tb_Model hγ) [.iconst 1] (by decide +kernel) rfl rfl trivial ?_
        refine E_goto (off := 4) (tgt := 239) (by decide +kernel) (by decide) ?_
        refine E_mask [false, false, true, false, true, false, true, true, false, true, false] rfl ?_
        exact lk_Model_differ_j239 hγ this Q (w_Model_differ_L201 this Q n) ih v2 v4 v6 v7 v9 (1 : Int32) v8 M34 h
set_option maxRecDepth 4096 in
theorem lk_Model_differ_j351 {γ : Gm} (hγ : Gk γ) (this : Nat) (Q : Int32 → Mem → Prop) (k257 : Int32 → Int32 → Int32 → Nat → Nat → Int32 → Int32 → Mem → Prop) (hk257 : ∀ (v2 : Int32) (v4 : Int32) (v5 : Int32) (v6 : Nat) (v7 : Nat) (v8 : Int32) (v9 : Int32) (M : Mem), k257 v2 v4 v5 v6 v7 v8 v9 M → E γ k_Model_differ 10 257 [some (vr (some (11, this))), none, some (vi v2), none, some (vi v4), some (vi v5), some (vr (some (12, v6))), some (vr (some (12, v7))), some (vi v8), some (vi v9), none] [] M (Qi Q)) (v2 : Int32) (v4 : Int32) (v5 : Int32) (v6 : Nat) (v7 : Nat) (v9 : Int32) (s0 : Int32) (s1 : Int32) (M : Mem) (h : w_Model_differ_j351 this Q k257 v2 v4 v5 v6 v7 v9 s0 s1 M) : E γ k_Model_differ 10 351 [some (vr (some (11, this))), none, some (vi v2), none, some (vi v4), some (vi v5), some (vr (some (12, v6))), some (vr (some (12, v7))), none, some (vi v9), none] [vi s0, vi s1] M (Qi Q) := by
  unfold w_Model_differ_j351 at h
  refine E_blk (lv' := [some (vr (some (11, this))), none, some (vi v2), none, some (vi v4), some (vi v5), some (vr (some (12, v6))), some (vr (some (12, v7))), some (vi (s1 + s0)), some (vi (v9 + (1 : Int32))), none]) (st' := []) (M1 := M) (pc' := 357) (tb_Model hγ) [.iadd, .istore 8, .iinc 9 1] (by decide +kernel) rfl rfl trivial ?_
  refine E_goto (off := -100) (tgt := 257) (by decide +kernel) (by decide) ?_
  refine E_mask [true, false, true, false, true, true, true, true, true, true, false] rfl ?_
  exact hk257 v2 v4 v5 v6 v7 (s1 + s0) (v9 + (1 : Int32)) M h
set_option maxRecDepth 4096 in
theorem lk_Model_differ_j350 {γ : Gm} (hγ : Gk γ) (this : Nat) (Q : Int32 → Mem → Prop) (k257 : Int32 → Int32 → Int32 → Nat → Nat → Int32 → Int32 → Mem → Prop) (hk257 : ∀ (v2 : Int32) (v4 : Int32) (v5 : Int32) (v6 : Nat) (v7 : Nat) (v8 : Int32) (v9 : Int32) (M : Mem), k257 v2 v4 v5 v6 v7 v8 v9 M → E γ k_Model_differ 10 257 [some (vr (some (11, this))), none, some (vi v2), none, some (vi v4), some (vi v5), some (vr (some (12, v6))), some (vr (some (12, v7))), some (vi v8), some (vi v9), none] [] M (Qi Q)) (v2 : Int32) (v4 : Int32) (v5 : Int32) (v6 : Nat) (v7 : Nat) (v9 : Int32) (s0 : Int32) (M : Mem) (h : w_Model_differ_j350 this Q k257 v2 v4 v5 v6 v7 v9 s0 M) : E γ k_Model_differ 10 350 [some (vr (some (11, this))), none, some (vi v2), none, some (vi v4), some (vi v5), some (vr (some (12, v6))), some (vr (some (12, v7))), none, some (vi v9), none] [vi s0] M (Qi Q) := by
  unfold w_Model_differ_j350 at h
  refine E_blk (lv' := [some (vr (some (11, this))), none, some (vi v2), none, some (vi v4), some (vi v5), some (vr (some (12, v6))), some (vr (some (12, v7))), none, some (vi v9), none]) (st' := [vi (0 : Int32), vi s0]) (M1 := M) (pc' := 351) (tb_Model hγ) [.iconst 0] (by decide +kernel) rfl rfl trivial ?_
  refine E_mask [true, false, true, false, true, true, true, true, false, true, false] rfl ?_
  exact lk_Model_differ_j351 hγ this Q k257 hk257 v2 v4 v5 v6 v7 v9 (0 : Int32) s0 M h
set_option maxRecDepth 4096 in
theorem lk_Model_differ_L257 {γ : Gm} (hγ : Gk γ) (this : Nat) (Q : Int32 → Mem → Prop) : ∀ (n : Nat) (v2 : Int32) (v4 : Int32) (v5 : Int32) (v6 : Nat) (v7 : Nat) (v8 : Int32) (v9 : Int32) (M : Mem), w_Model_differ_L257 this Q n v2 v4 v5 v6 v7 v8 v9 M → E γ k_Model_differ 10 257 [some (vr (some (11, this))), none, some (vi v2), none, some (vi v4), some (vi v5), some (vr (some (12, v6))), some (vr (some (12, v7))), some (vi v8), some (vi v9), none] [] M (Qi Q) := by
  intro n
  induction n with
  | zero => intro v2 v4 v5 v6 v7 v8 v9 M h; exact h.elim
  | succ n ih =>
    intro v2 v4 v5 v6 v7 v8 v9 M h
    unfold w_Model_differ_L257 at h
    obtain ⟨c38, h⟩ := h
    refine E_blk (lv' := [some (vr (some (11, this))), none, some (vi v2), none, some (vi v4), some (vi v5), some (vr (some (12, v6))), some (vr (some (12, v7))), some (vi v8), some (vi v9), none]) (st' := [vi (((12 : Int32) * v2) + (mI M 136 v6 v2.toNatClampNeg)), vi v9]) (M1 := M) (pc' := 271) (tb_Model hγ) [.iload 9, .bipush 12, .iload_n 2, .imul, .aload 6, .getfield 438, .iload_n 2, .iaload, .iadd] (by decide +kernel) rfl rfl ⟨c38, trivial⟩ ?_
    refine E_icmp_ge (off := 89) (tgt := 360) (by decide +kernel) (by decide) (fun b39 => ?_) (fun b39 => ?_)
    · rw [if_pos b39] at h
      refine E_blk (lv' := [some (vr (some (11, this))), none, some (vi v2), none, some (vi v4), some (vi v5), some (vr (some (12, v6))), some (vr (some (12, v7))), some (vi v8), some (vi v9), none]) (st' := [vi v8]) (M1 := M) (pc' := 362) (tb_Model hγ) [.iload 8] (by decide +kernel) rfl rfl trivial ?_
      exact E_iret rfl (by decide +kernel) h
    · rw [if_neg b39] at h
      obtain ⟨c40, c41, h⟩ := h
      refine E_blk (lv' := [some (vr (some (11, this))), none, some (vi v2), none, some (vi v4), some (vi v5), some (vr (some (12, v6))), some (vr (some (12, v7))), some (vi v8), some (vi v9), none]) (st' := [vi (mI (sR M 11 this 45 (some (12, v7))) 145 v6 v9.toNatClampNeg), vi (mI (sR M 11 this 45 (some (12, v7))) 144 v6 v9.toNatClampNeg), vi v4, vr (some (11, this))]) (M1 := (sR M 11 this 45 (some (12, v7)))) (pc' := 299) (tb_Model hγ) [.aload_n 0, .aload 7, .putfield 522, .aload_n 0, .iload 4, .aload 6, .getfield 447, .iload 9, .iaload, .aload 6, .getfield 450, .iload 9, .iaload] (by decide +kernel) rfl rfl ⟨c40, c41, trivial⟩ ?_
      refine E_callV (κ' := k_Model_methodIn) (As := [vi v4, vi (mI (sR M 11 this 45 (some (12, v7))) 144 v6 v9.toNatClampNeg), vi (mI (sR M 11 this 45 (some (12, v7))) 145 v6 v9.toNatClampNeg)]) (st := []) mv_Model_methodIn (Or.inl (tbk_mem (j := 15) (k := 165) rfl)) rfl (by decide +kernel) (Nat.le_of_ble_eq_true rfl) (Nat.le_of_ble_eq_true rfl) rfl (by decide) (lk_Model_methodIn hγ this v4 (mI (sR M 11 this 45 (some (12, v7))) 144 v6 v9.toNatClampNeg) (mI (sR M 11 this 45 (some (12, v7))) 145 v6 v9.toNatClampNeg) _ (sR M 11 this 45 (some (12, v7))) h) (fun _ _ => Qi_r) (fun v M42 hp => Qi_k (R := fun st => E γ k_Model_differ 10 302 [some (vr (some (11, this))), none, some (vi v2), none, some (vi v4), some (vi v5), some (vr (some (12, v6))), some (vr (some (12, v7))), some (vi v8), some (vi v9), none] st M42 (Qi Q)) hp (fun r43 h => ?_))
      refine E_blk (lv' := [some (vr (some (11, this))), none, some (vi v2), none, some (vi v4), some (vi v5), some (vr (some (12, v6))), some (vr (some (12, v7))), some (vi v8), some (vi v9), some (vi r43)]) (st' := [vi r43, vi v8]) (M1 := M42) (pc' := 308) (tb_Model hγ) [.istore 10, .iload 8, .iload 10] (by decide +kernel) rfl rfl trivial ?_
      refine E_if_ge (off := 17) (tgt := 325) (by decide +kernel) (by decide) (fun b44 => ?_) (fun b44 => ?_)
      · rw [if_pos b44] at h
        refine E_blk (lv' := [some (vr (some (11, this))), none, some (vi v2), none, some (vi v4), some (vi v5), some (vr (some (12, v6))), some (vr (some (12, v7))), some (vi v8), some (vi v9), some (vi r43)]) (st' := [vi (3 : Int32), vi v5, vi v8]) (M1 := M42) (pc' := 328) (tb_Model hγ) [.iload 5, .iconst 3] (by decide +kernel) rfl rfl trivial ?_
        refine E_icmp_ne (off := 22) (tgt := 350) (by decide +kernel) (by decide) (fun b45 => ?_) (fun b45 => ?_)
        · rw [if_pos b45] at h
          refine E_blk (lv' := [some (vr (some (11, this))), none, some (vi v2), none, some (vi v4), some (vi v5), some (vr (some (12, v6))), some (vr (some (12, v7))), some (vi v8), some (vi v9), some (vi r43)]) (st' := [vi r43, vr (some (12, v7)), vi v9, vr (some (12, v6)), vr (some (11, this)), vi v8]) (M1 := M42) (pc' := 340) (tb_Model hγ) [.aload_n 0, .aload 6, .iload 9, .aload 7, .iload 10] (by decide +kernel) rfl rfl trivial ?_
          refine E_callV (κ' := k_Model_isWrittenSo) (As := [vr (some (12, v6)), vi v9, vr (some (12, v7)), vi r43]) (st := [vi v8]) mv_Model_isWrittenSo (Or.inl (tbk_mem (j := 17) (k := 188) rfl)) rfl (by decide +kernel) (Nat.le_of_ble_eq_true rfl) (Nat.le_of_ble_eq_true rfl) rfl (by decide) (lk_Model_isWrittenSo hγ this v6 v9 v7 r43 _ M42 h) (fun _ _ => Qi_r) (fun v M46 hp => Qi_k (R := fun st => E γ k_Model_differ 10 343 [some (vr (some (11, this))), none, some (vi v2), none, some (vi v4), some (vi v5), some (vr (some (12, v6))), some (vr (some (12, v7))), some (vi v8), some (vi v9), some (vi r43)] st M46 (Qi Q)) hp (fun r47 h => ?_))
          refine E_if_ne (off := 7) (tgt := 350) (by decide +kernel) (by decide) (fun b48 => ?_) (fun b48 => ?_)
          · rw [if_pos b48] at h
            refine E_blk (lv' := [some (vr (some (11, this))), none, some (vi v2), none, some (vi v4), some (vi v5), some (vr (some (12, v6))), some (vr (some (12, v7))), some (vi v8), some (vi v9), some (vi r43)]) (st' := [vi (1 : Int32), vi v8]) (M1 := M46) (pc' := 347) (tb_Model hγ) [.iconst 1] (by decide +kernel) rfl rfl trivial ?_
            refine E_goto (off := 4) (tgt := 351) (by decide +kernel) (by decide) ?_
            refine E_mask [true, false, true, false, true, true, true, true, false, true, false] rfl ?_
            exact lk_Model_differ_j351 hγ this Q (w_Model_differ_L257 this Q n) ih v2 v4 v5 v6 v7 v9 (1 : Int32) v8 M46 h
          · rw [if_neg b48] at h
            refine E_mask [true, false, true, false, true, true, true, true, false, true, false] rfl ?_
            exact lk_Model_differ_j350 hγ this Q (w_Model_differ_L257 this Q n) ih v2 v4 v5 v6 v7 v9 v8 M46 h
        · rw [if_neg b45] at h
          refine E_mask [true, false, true, false, true, true, true, true, false, true, false] rfl ?_
          exact lk_Model_differ_j350 hγ this Q (w_Model_differ_L257 this Q n) ih v2 v4 v5 v6 v7 v9 v8 M42 h
      · rw [if_neg b44] at h
        refine E_blk (lv' := [some (vr (some (11, this))), none, some (vi v2), none, some (vi v4), some (vi v5), some (vr (some (12, v6))), some (vr (some (12, v7))), some (vi v8), some (vi v9), some (vi r43)]) (st' := [vi (2 : Int32), vi v5, vi v8]) (M1 := M42) (pc' := 314) (tb_Model hγ) [.iload 5, .iconst 2] (by decide +kernel) rfl rfl trivial ?_
        refine E_icmp_ne (off := 7) (tgt := 321) (by decide +kernel) (by decide) (fun b49 => ?_) (fun b49 => ?_)
        · rw [if_pos b49] at h
          refine E_blk (lv' := [some (vr (some (11, this))), none, some (vi v2), none, some (vi v4), some (vi v5), some (vr (some (12, v6))), some (vr (some (12, v7))), some (vi v8), some (vi v9), some (vi r43)]) (st' := [vi (1 : Int32), vi v8]) (M1 := M42) (pc' := 318) (tb_Model hγ) [.iconst 1] (by decide +kernel) rfl rfl trivial ?_
          refine E_goto (off := 33) (tgt := 351) (by decide +kernel) (by decide) ?_
          refine E_mask [true, false, true, false, true, true, true, true, false, true, false] rfl ?_
          exact lk_Model_differ_j351 hγ this Q (w_Model_differ_L257 this Q n) ih v2 v4 v5 v6 v7 v9 (1 : Int32) v8 M42 h
        · rw [if_neg b49] at h
          refine E_blk (lv' := [some (vr (some (11, this))), none, some (vi v2), none, some (vi v4), some (vi v5), some (vr (some (12, v6))), some (vr (some (12, v7))), some (vi v8), some (vi v9), some (vi r43)]) (st' := [vi (0 : Int32), vi v8]) (M1 := M42) (pc' := 322) (tb_Model hγ) [.iconst 0] (by decide +kernel) rfl rfl trivial ?_
          refine E_goto (off := 29) (tgt := 351) (by decide +kernel) (by decide) ?_
          refine E_mask [true, false, true, false, true, true, true, true, false, true, false] rfl ?_
          exact lk_Model_differ_j351 hγ this Q (w_Model_differ_L257 this Q n) ih v2 v4 v5 v6 v7 v9 (0 : Int32) v8 M42 h
set_option maxRecDepth 4096 in
theorem lk_Model_differ {γ : Gm} (hγ : Gk γ) (this : Nat) (a1 : Int32) (a2 : Int32) (a3 : Int32) (a4 : Int32) (a5 : Int32) (Q : Int32 → Mem → Prop) (M : Mem) (h : w_Model_differ this a1 a2 a3 a4 a5 Q M) : E γ k_Model_differ 10 0 [some (vr (some (11, this))), some (vi a1), some (vi a2), some (vi a3), some (vi a4), some (vi a5), none, none, none, none, none] [] M (Qi Q) := by
  unfold w_Model_differ at h
  refine E_blk (lv' := [some (vr (some (11, this))), some (vi a1), some (vi a2), some (vi a3), some (vi a4), some (vi a5), none, none, none, none, none]) (st' := [vi a2, vi a1, vr (some (11, this))]) (M1 := M) (pc' := 3) (tb_Model hγ) [.aload_n 0, .iload_n 1, .iload_n 2] (by decide +kernel) rfl rfl trivial ?_
  refine E_callV (κ' := k_Model_isClass) (As := [vi a1, vi a2]) (st := []) mv_Model_isClass (Or.inl (tbk_mem (j := 15) (k := 129) rfl)) rfl (by decide +kernel) (Nat.le_of_ble_eq_true rfl) (Nat.le_of_ble_eq_true rfl) rfl (by decide) (lk_Model_isClass hγ this a1 a2 _ M h) (fun _ _ => Qi_r) (fun v M1 hp => Qi_k (R := fun st => E γ k_Model_differ 10 6 [some (vr (some (11, this))), some (vi a1), some (vi a2), some (vi a3), some (vi a4), some (vi a5), none, none, none, none, none] st M1 (Qi Q)) hp (fun r2 h => ?_))
  refine E_if_eq (off := 24) (tgt := 30) (by decide +kernel) (by decide) (fun b3 => ?_) (fun b3 => ?_)
  · rw [if_pos b3] at h
    refine E_blk (lv' := [some (vr (some (11, this))), some (vi a1), some (vi a2), some (vi a3), some (vi a4), some (vi a5), none, none, none, none, none]) (st' := [vi (-1 : Int32)]) (M1 := M1) (pc' := 31) (tb_Model hγ) [.iconst (.negSucc 0)] (by decide +kernel) rfl rfl trivial ?_
    exact E_iret rfl (by decide +kernel) h
  · rw [if_neg b3] at h
    refine E_blk (lv' := [some (vr (some (11, this))), some (vi a1), some (vi a2), some (vi a3), some (vi a4), some (vi a5), none, none, none, none, none]) (st' := [vi a4, vi a3, vr (some (11, this))]) (M1 := M1) (pc' := 13) (tb_Model hγ) [.aload_n 0, .iload_n 3, .iload 4] (by decide +kernel) rfl rfl trivial ?_
    refine E_callV (κ' := k_Model_isClass) (As := [vi a3, vi a4]) (st := []) mv_Model_isClass (Or.inl (tbk_mem (j := 15) (k := 129) rfl)) rfl (by decide +kernel) (Nat.le_of_ble_eq_true rfl) (Nat.le_of_ble_eq_true rfl) rfl (by decide) (lk_Model_isClass hγ this a3 a4 _ M1 h) (fun _ _ => Qi_r) (fun v M4 hp => Qi_k (R := fun st => E γ k_Model_differ 10 16 [some (vr (some (11, this))), some (vi a1), some (vi a2), some (vi a3), some (vi a4), some (vi a5), none, none, none, none, none] st M4 (Qi Q)) hp (fun r5 h => ?_))
    refine E_if_eq (off := 14) (tgt := 30) (by decide +kernel) (by decide) (fun b6 => ?_) (fun b6 => ?_)
    · rw [if_pos b6] at h
      refine E_blk (lv' := [some (vr (some (11, this))), some (vi a1), some (vi a2), some (vi a3), some (vi a4), some (vi a5), none, none, none, none, none]) (st' := [vi (-1 : Int32)]) (M1 := M4) (pc' := 31) (tb_Model hγ) [.iconst (.negSucc 0)] (by decide +kernel) rfl rfl trivial ?_
      exact E_iret rfl (by decide +kernel) h
    · rw [if_neg b6] at h
      refine E_blk (lv' := [some (vr (some (11, this))), some (vi a1), some (vi a2), some (vi a3), some (vi a4), some (vi a5), none, none, none, none, none]) (st' := [vi a5]) (M1 := M4) (pc' := 21) (tb_Model hγ) [.iload 5] (by decide +kernel) rfl rfl trivial ?_
      refine E_if_lt (off := 9) (tgt := 30) (by decide +kernel) (by decide) (fun b7 => ?_) (fun b7 => ?_)
      · rw [if_pos b7] at h
        refine E_blk (lv' := [some (vr (some (11, this))), some (vi a1), some (vi a2), some (vi a3), some (vi a4), some (vi a5), none, none, none, none, none]) (st' := [vi (-1 : Int32)]) (M1 := M4) (pc' := 31) (tb_Model hγ) [.iconst (.negSucc 0)] (by decide +kernel) rfl rfl trivial ?_
        exact E_iret rfl (by decide +kernel) h
      · rw [if_neg b7] at h
        refine E_blk (lv' := [some (vr (some (11, this))), some (vi a1), some (vi a2), some (vi a3), some (vi a4), some (vi a5), none, none, none, none, none]) (st' := [vi (3 : Int32), vi a5]) (M1 := M4) (pc' := 27) (tb_Model hγ) [.iload 5, .iconst 3] (by decide +kernel) rfl rfl trivial ?_
        refine E_icmp_le (off := 5) (tgt := 32) (by decide +kernel) (by decide) (fun b8 => ?_) (fun b8 => ?_)
        · rw [if_pos b8] at h
          obtain ⟨c9, h⟩ := h
          refine E_blk (lv' := [some (vr (some (11, this))), some (vi a1), some (vi a2), some (vi a3), some (vi a4), some (vi a5), none, none, none, none, none]) (st' := [vr (mR M4 703 0 a1.toNatClampNeg)]) (M1 := M4) (pc' := 38) (tb_Model hγ) [.aload_n 0, .getfield 263, .iload_n 1, .aaload] (by decide +kernel) rfl rfl ⟨c9, trivial⟩ ?_
          obtain ⟨i10, ei10, h⟩ := h
          rw [ei10]
          obtain ⟨c11, h⟩ := h
          refine E_blk (lv' := [some (vr (some (11, this))), some (vi a1), some (vi a2), some (vi a3), some (vi a4), some (vi a5), some (vr (some (12, i10))), none, none, none, none]) (st' := [vr (mR M4 703 0 a3.toNatClampNeg)]) (M1 := M4) (pc' := 46) (tb_Model hγ) [.astore 6, .aload_n 0, .getfield 263, .iload_n 3, .aaload] (by decide +kernel) rfl rfl ⟨c11, trivial⟩ ?_
          obtain ⟨i12, ei12, h⟩ := h
          rw [ei12]
          refine E_blk (lv' := [some (vr (some (11, this))), some (vi a1), some (vi a2), some (vi a3), some (vi a4), some (vi a5), some (vr (some (12, i10))), some (vr (some (12, i12))), none, none, none]) (st' := [vi a5]) (M1 := M4) (pc' := 50) (tb_Model hγ) [.astore 7, .iload 5] (by decide +kernel) rfl rfl trivial ?_
          refine E_if_ne (off := 136) (tgt := 186) (by decide +kernel) (by decide) (fun b13 => ?_) (fun b13 => ?_)
          · rw [if_pos b13] at h
            obtain ⟨c14, c15, h⟩ := h
            refine E_blk (lv' := [some (vr (some (11, this))), some (vi a1), some (vi a2), some (vi a3), some (vi a4), some (vi a5), some (vr (some (12, i10))), some (vr (some (12, i12))), none, none, none]) (st' := [vi (mI M4 132 i12 a4.toNatClampNeg), vi (mI M4 132 i10 a2.toNatClampNeg)]) (M1 := M4) (pc' := 68) (tb_Model hγ) [.aload 6, .getfield 429, .iload_n 2, .iaload, .aload 7, .getfield 429, .iload 4, .iaload] (by decide +kernel) rfl rfl ⟨c14, c15, trivial⟩ ?_
            refine E_icmp_ne (off := 43) (tgt := 111) (by decide +kernel) (by decide) (fun b16 => ?_) (fun b16 => ?_)
            · rw [if_pos b16] at h
              obtain ⟨c17, c18, h⟩ := h
              refine E_blk (lv' := [some (vr (some (11, this))), some (vi a1), some (vi a2), some (vi a3), some (vi a4), some (vi a5), some (vr (some (12, i10))), some (vr (some (12, i12))), none, none, none]) (st' := [vi (mI M4 131 i12 a4.toNatClampNeg), vi (mI M4 131 i10 a2.toNatClampNeg)]) (M1 := M4) (pc' := 86) (tb_Model hγ) [.aload 6, .getfield 426, .iload_n 2, .iaload, .aload 7, .getfield 426, .iload 4, .iaload] (by decide +kernel) rfl rfl ⟨c17, c18, trivial⟩ ?_
              refine E_icmp_ne (off := 25) (tgt := 111) (by decide +kernel) (by decide) (fun b19 => ?_) (fun b19 => ?_)
              · rw [if_pos b19] at h
                obtain ⟨c20, c21, h⟩ := h
                refine E_blk (lv' := [some (vr (some (11, this))), some (vi a1), some (vi a2), some (vi a3), some (vi a4), some (vi a5), some (vr (some (12, i10))), some (vr (some (12, i12))), none, none, none]) (st' := [vi (mI M4 134 i12 a4.toNatClampNeg), vi (mI M4 134 i10 a2.toNatClampNeg)]) (M1 := M4) (pc' := 104) (tb_Model hγ) [.aload 6, .getfield 432, .iload_n 2, .iaload, .aload 7, .getfield 432, .iload 4, .iaload] (by decide +kernel) rfl rfl ⟨c20, c21, trivial⟩ ?_
                refine E_icmp_ne (off := 7) (tgt := 111) (by decide +kernel) (by decide) (fun b22 => ?_) (fun b22 => ?_)
                · rw [if_pos b22] at h
                  refine E_blk (lv' := [some (vr (some (11, this))), some (vi a1), some (vi a2), some (vi a3), some (vi a4), some (vi a5), some (vr (some (12, i10))), some (vr (some (12, i12))), none, none, none]) (st' := [vi (1 : Int32)]) (M1 := M4) (pc' := 108) (tb_Model hγ) [.iconst 1] (by decide +kernel) rfl rfl trivial ?_
                  refine E_goto (off := 4) (tgt := 112) (by decide +kernel) (by decide) ?_
                  refine E_mask [false, false, true, false, true, false, true, true, false, false, false] rfl ?_
                  exact lk_Model_differ_j112 hγ this Q a2 a4 i10 i12 (1 : Int32) M4 h
                · rw [if_neg b22] at h
                  refine E_mask [false, false, true, false, true, false, true, true, false, false, false] rfl ?_
                  exact lk_Model_differ_j111 hγ this Q a2 a4 i10 i12 M4 h
              · rw [if_neg b19] at h
                refine E_mask [false, false, true, false, true, false, true, true, false, false, false] rfl ?_
                exact lk_Model_differ_j111 hγ this Q a2 a4 i10 i12 M4 h
            · rw [if_neg b16] at h
              refine E_mask [false, false, true, false, true, false, true, true, false, false, false] rfl ?_
              exact lk_Model_differ_j111 hγ this Q a2 a4 i10 i12 M4 h
          · rw [if_neg b13] at h
            refine E_blk (lv' := [some (vr (some (11, this))), some (vi a1), some (vi a2), some (vi a3), some (vi a4), some (vi a5), some (vr (some (12, i10))), some (vr (some (12, i12))), some (vi (0 : Int32)), none, none]) (st' := [vi (1 : Int32), vi a5]) (M1 := M4) (pc' := 192) (tb_Model hγ) [.iconst 0, .istore 8, .iload 5, .iconst 1] (by decide +kernel) rfl rfl trivial ?_
            refine E_icmp_ne (off := 59) (tgt := 251) (by decide +kernel) (by decide) (fun b31 => ?_) (fun b31 => ?_)
            · rw [if_pos b31] at h
              refine E_blk (lv' := [some (vr (some (11, this))), some (vi a1), some (vi a2), some (vi a3), some (vi a4), some (vi a5), some (vr (some (12, i10))), some (vr (some (12, i12))), some (vi (0 : Int32)), some (vi ((8 : Int32) * a2)), none]) (st' := []) (M1 := M4) (pc' := 201) (tb_Model hγ) [.bipush 8, .iload_n 2, .imul, .istore 9] (by decide +kernel) rfl rfl trivial ?_
              obtain ⟨n37, h⟩ := h
              refine E_mask [false, false, true, false, true, false, true, true, true, true, false] rfl ?_
              exact lk_Model_differ_L201 hγ this Q n37 a2 a4 i10 i12 (0 : Int32) ((8 : Int32) * a2) M4 h
            · rw [if_neg b31] at h
              refine E_blk (lv' := [some (vr (some (11, this))), some (vi a1), some (vi a2), some (vi a3), some (vi a4), some (vi a5), some (vr (some (12, i10))), some (vr (some (12, i12))), some (vi (0 : Int32)), some (vi ((12 : Int32) * a2)), none]) (st' := []) (M1 := M4) (pc' := 257) (tb_Model hγ) [.bipush 12, .iload_n 2, .imul, .istore 9] (by decide +kernel) rfl rfl trivial ?_
              obtain ⟨n50, h⟩ := h
              refine E_mask [true, false, true, false, true, true, true, true, true, true, false] rfl ?_
              exact lk_Model_differ_L257 hγ this Q n50 a2 a4 a5 i10 i12 (0 : Int32) ((12 : Int32) * a2) M4 h
        · rw [if_neg b8] at h
          refine E_blk (lv' := [some (vr (some (11, this))), some (vi a1), some (vi a2), some (vi a3), some (vi a4), some (vi a5), none, none, none, none, none]) (st' := [vi (-1 : Int32)]) (M1 := M4) (pc' := 31) (tb_Model hγ) [.iconst (.negSucc 0)] (by decide +kernel) rfl rfl trivial ?_
          exact E_iret rfl (by decide +kernel) h
def w_Model_trace (this : Nat) (a1 : Int32) (a2 : Int32) (a3 : Int32) (Q : Int32 → Mem → Prop) (M : Mem) : Prop :=
  w_Model_isWorld this a1 (fun r2 M1 => if r2 = 0 then (Q (-1 : Int32) M1) else (if a2 < 0 then (Q (-1 : Int32) M1) else (if a3 < 0 then (Q (-1 : Int32) M1) else (if a3 ≤ (4 : Int32) then (vp_in a1 (mL M1 703 0) ∧ ∃ i8, (mR M1 703 0 a1.toNatClampNeg) = some (12, i8) ∧ if a2 < (mI M1 12 i8 70) then (vp_in a2 (mL M1 167 i8) ∧ if a3 = (0 : Int32) then (vp_in a2 (mL M1 165 i8) ∧ Q (mI M1 165 i8 a2.toNatClampNeg) M1) else (if a3 = (1 : Int32) then (vp_in a2 (mL M1 166 i8) ∧ Q (mI M1 166 i8 a2.toNatClampNeg) M1) else (if a3 = (2 : Int32) then (if 0 ≤ (mI M1 167 i8 a2.toNatClampNeg) then (¬ (12 : Int32) = 0 ∧ Q ((mI M1 167 i8 a2.toNatClampNeg) / (12 : Int32)) M1) else (Q ((-1 : Int32) - (mI M1 167 i8 a2.toNatClampNeg)) M1)) else (if a3 = (3 : Int32) then (if 0 ≤ (mI M1 167 i8 a2.toNatClampNeg) then (¬ (12 : Int32) = 0 ∧ Q ((mI M1 167 i8 a2.toNatClampNeg) - (mI M1 167 i8 a2.toNatClampNeg) / (12 : Int32) * (12 : Int32)) M1) else (Q (-2 : Int32) M1)) else (vp_in a2 (mL M1 168 i8) ∧ Q (mI M1 168 i8 a2.toNatClampNeg) M1))))) else (Q (-2 : Int32) M1)) else (Q (-1 : Int32) M1))))) M
set_option maxRecDepth 4096 in
theorem lk_Model_trace {γ : Gm} (hγ : Gk γ) (this : Nat) (a1 : Int32) (a2 : Int32) (a3 : Int32) (Q : Int32 → Mem → Prop) (M : Mem) (h : w_Model_trace this a1 a2 a3 Q M) : E γ k_Model_trace 1 0 [some (vr (some (11, this))), some (vi a1), some (vi a2), some (vi a3), none, none] [] M (Qi Q) := by
  unfold w_Model_trace at h
  refine E_blk (lv' := [some (vr (some (11, this))), some (vi a1), some (vi a2), some (vi a3), none, none]) (st' := [vi a1, vr (some (11, this))]) (M1 := M) (pc' := 2) (tb_Model hγ) [.aload_n 0, .iload_n 1] (by decide +kernel) rfl rfl trivial ?_
  refine E_callV (κ' := k_Model_isWorld) (As := [vi a1]) (st := []) mv_Model_isWorld (Or.inl (tbk_mem (j := 14) (k := 190) rfl)) rfl (by decide +kernel) (Nat.le_of_ble_eq_true rfl) (Nat.le_of_ble_eq_true rfl) rfl (by decide) (lk_Model_isWorld hγ this a1 _ M h) (fun _ _ => Qi_r) (fun v M1 hp => Qi_k (R := fun st => E γ k_Model_trace 1 5 [some (vr (some (11, this))), some (vi a1), some (vi a2), some (vi a3), none, none] st M1 (Qi Q)) hp (fun r2 h => ?_))
  refine E_if_eq (off := 16) (tgt := 21) (by decide +kernel) (by decide) (fun b3 => ?_) (fun b3 => ?_)
  · rw [if_pos b3] at h
    refine E_blk (lv' := [some (vr (some (11, this))), some (vi a1), some (vi a2), some (vi a3), none, none]) (st' := [vi (-1 : Int32)]) (M1 := M1) (pc' := 22) (tb_Model hγ) [.iconst (.negSucc 0)] (by decide +kernel) rfl rfl trivial ?_
    exact E_iret rfl (by decide +kernel) h
  · rw [if_neg b3] at h
    refine E_blk (lv' := [some (vr (some (11, this))), some (vi a1), some (vi a2), some (vi a3), none, none]) (st' := [vi a2]) (M1 := M1) (pc' := 9) (tb_Model hγ) [.iload_n 2] (by decide +kernel) rfl rfl trivial ?_
    refine E_if_lt (off := 12) (tgt := 21) (by decide +kernel) (by decide) (fun b4 => ?_) (fun b4 => ?_)
    · rw [if_pos b4] at h
      refine E_blk (lv' := [some (vr (some (11, this))), some (vi a1), some (vi a2), some (vi a3), none, none]) (st' := [vi (-1 : Int32)]) (M1 := M1) (pc' := 22) (tb_Model hγ) [.iconst (.negSucc 0)] (by decide +kernel) rfl rfl trivial ?_
      exact E_iret rfl (by decide +kernel) h
    · rw [if_neg b4] at h
      refine E_blk (lv' := [some (vr (some (11, this))), some (vi a1), some (vi a2), some (vi a3), none, none]) (st' := [vi a3]) (M1 := M1) (pc' := 13) (tb_Model hγ) [.iload_n 3] (by decide +kernel) rfl rfl trivial ?_
      refine E_if_lt (off := 8) (tgt := 21) (by decide +kernel) (by decide) (fun b5 => ?_) (fun b5 => ?_)
      · rw [if_pos b5] at h
        refine E_blk (lv' := [some (vr (some (11, this))), some (vi a1), some (vi a2), some (vi a3), none, none]) (st' := [vi (-1 : Int32)]) (M1 := M1) (pc' := 22) (tb_Model hγ) [.iconst (.negSucc 0)] (by decide +kernel) rfl rfl trivial ?_
        exact E_iret rfl (by decide +kernel) h
      · rw [if_neg b5] at h
        refine E_blk (lv' := [some (vr (some (11, this))), some (vi a1), some (vi a2), some (vi a3), none, none]) (st' := [vi (4 : Int32), vi a3]) (M1 := M1) (pc' := 18) (tb_Model hγ) [.iload_n 3, .iconst 4] (by decide +kernel) rfl rfl trivial ?_
        refine E_icmp_le (off := 5) (tgt := 23) (by decide +kernel) (by decide) (fun b6 => ?_) (fun b6 => ?_)
        · rw [if_pos b6] at h
          obtain ⟨c7, h⟩ := h
          refine E_blk (lv' := [some (vr (some (11, this))), some (vi a1), some (vi a2), some (vi a3), none, none]) (st' := [vr (mR M1 703 0 a1.toNatClampNeg)]) (M1 := M1) (pc' := 29) (tb_Model hγ) [.aload_n 0, .getfield 263, .iload_n 1, .aaload] (by decide +kernel) rfl rfl ⟨c7, trivial⟩ ?_
          obtain ⟨i8, ei8, h⟩ := h
          rw [ei8]
          refine E_blk (lv' := [some (vr (some (11, this))), some (vi a1), some (vi a2), some (vi a3), some (vr (some (12, i8))), none]) (st' := [vi (mI M1 12 i8 70), vi a2]) (M1 := M1) (pc' := 37) (tb_Model hγ) [.astore 4, .iload_n 2, .aload 4, .getfield 501] (by decide +kernel) rfl rfl trivial ?_
          refine E_icmp_lt (off := 6) (tgt := 43) (by decide +kernel) (by decide) (fun b9 => ?_) (fun b9 => ?_)
          · rw [if_pos b9] at h
            obtain ⟨c10, h⟩ := h
            refine E_blk (lv' := [some (vr (some (11, this))), some (vi a1), some (vi a2), some (vi a3), some (vr (some (12, i8))), some (vi (mI M1 167 i8 a2.toNatClampNeg))]) (st' := [vi a3]) (M1 := M1) (pc' := 53) (tb_Model hγ) [.aload 4, .getfield 911, .iload_n 2, .iaload, .istore 5, .iload_n 3] (by decide +kernel) rfl rfl ⟨c10, trivial⟩ ?_
            by_cases b12 : a3 = (0 : Int32)
            · rw [if_pos b12] at h
              refine E.up (fun _ _ hJ => J_tswI (len := 31) (dflt := 81) (lo := 0) (hi := 3) (offs := #[31, 39, 47, 65]) (off := 31) (tgt := 84) (by decide +kernel) (by rw [b12]; decide) (by rw [b12]; decide) (by rw [b12]; rfl) (by decide) hJ) ?_
              obtain ⟨c21, h⟩ := h
              refine E_blk (lv' := [some (vr (some (11, this))), some (vi a1), some (vi a2), some (vi a3), some (vr (some (12, i8))), some (vi (mI M1 167 i8 a2.toNatClampNeg))]) (st' := [vi (mI M1 165 i8 a2.toNatClampNeg)]) (M1 := M1) (pc' := 91) (tb_Model hγ) [.aload 4, .getfield 902, .iload_n 2, .iaload] (by decide +kernel) rfl rfl ⟨c21, trivial⟩ ?_
              exact E_iret rfl (by decide +kernel) h
            · rw [if_neg b12] at h
              by_cases b13 : a3 = (1 : Int32)
              · rw [if_pos b13] at h
                refine E.up (fun _ _ hJ => J_tswI (len := 31) (dflt := 81) (lo := 0) (hi := 3) (offs := #[31, 39, 47, 65]) (off := 39) (tgt := 92) (by decide +kernel) (by rw [b13]; decide) (by rw [b13]; decide) (by rw [b13]; rfl) (by decide) hJ) ?_
                obtain ⟨c20, h⟩ := h
                refine E_blk (lv' := [some (vr (some (11, this))), some (vi a1), some (vi a2), some (vi a3), some (vr (some (12, i8))), some (vi (mI M1 167 i8 a2.toNatClampNeg))]) (st' := [vi (mI M1 166 i8 a2.toNatClampNeg)]) (M1 := M1) (pc' := 99) (tb_Model hγ) [.aload 4, .getfield 905, .iload_n 2, .iaload] (by decide +kernel) rfl rfl ⟨c20, trivial⟩ ?_
                exact E_iret rfl (by decide +kernel) h
              · rw [if_neg b13] at h
                by_cases b14 : a3 = (2 : Int32)
                · rw [if_pos b14] at h
                  refine E.up (fun _ _ hJ => J_tswI (len := 31) (dflt := 81) (lo := 0) (hi := 3) (offs := #[31, 39, 47, 65]) (off := 47) (tgt := 100) (by decide +kernel) (by rw [b14]; decide) (by rw [b14]; decide) (by rw [b14]; rfl) (by decide) hJ) ?_
                  refine E_blk (lv' := [some (vr (some (11, this))), some (vi a1), some (vi a2), some (vi a3), some (vr (some (12, i8))), some (vi (mI M1 167 i8 a2.toNatClampNeg))]) (st' := [vi (mI M1 167 i8 a2.toNatClampNeg)]) (M1 := M1) (pc' := 102) (tb_Model hγ) [.iload 5] (by decide +kernel) rfl rfl trivial ?_
                  refine E_if_ge (off := 10) (tgt := 112) (by decide +kernel) (by decide) (fun b18 => ?_) (fun b18 => ?_)
                  · rw [if_pos b18] at h
                    obtain ⟨c19, h⟩ := h
                    refine E_blk (lv' := [some (vr (some (11, this))), some (vi a1), some (vi a2), some (vi a3), some (vr (some (12, i8))), some (vi (mI M1 167 i8 a2.toNatClampNeg))]) (st' := [vi ((mI M1 167 i8 a2.toNatClampNeg) / (12 : Int32))]) (M1 := M1) (pc' := 117) (tb_Model hγ) [.iload 5, .bipush 12, .idiv] (by decide +kernel) rfl rfl ⟨c19, trivial⟩ ?_
                    exact E_iret rfl (by decide +kernel) h
                  · rw [if_neg b18] at h
                    refine E_blk (lv' := [some (vr (some (11, this))), some (vi a1), some (vi a2), some (vi a3), some (vr (some (12, i8))), some (vi (mI M1 167 i8 a2.toNatClampNeg))]) (st' := [vi ((-1 : Int32) - (mI M1 167 i8 a2.toNatClampNeg))]) (M1 := M1) (pc' := 109) (tb_Model hγ) [.iconst (.negSucc 0), .iload 5, .isub] (by decide +kernel) rfl rfl trivial ?_
                    refine E_goto (off := 8) (tgt := 117) (by decide +kernel) (by decide) ?_
                    exact E_iret rfl (by decide +kernel) h
                · rw [if_neg b14] at h
                  by_cases b15 : a3 = (3 : Int32)
                  · rw [if_pos b15] at h
                    refine E.up (fun _ _ hJ => J_tswI (len := 31) (dflt := 81) (lo := 0) (hi := 3) (offs := #[31, 39, 47, 65]) (off := 65) (tgt := 118) (by decide +kernel) (by rw [b15]; decide) (by rw [b15]; decide) (by rw [b15]; rfl) (by decide) hJ) ?_
                    refine E_blk (lv' := [some (vr (some (11, this))), some (vi a1), some (vi a2), some (vi a3), some (vr (some (12, i8))), some (vi (mI M1 167 i8 a2.toNatClampNeg))]) (st' := [vi (mI M1 167 i8 a2.toNatClampNeg)]) (M1 := M1) (pc' := 120) (tb_Model hγ) [.iload 5] (by decide +kernel) rfl rfl trivial ?_
                    refine E_if_ge (off := 8) (tgt := 128) (by decide +kernel) (by decide) (fun b16 => ?_) (fun b16 => ?_)
                    · rw [if_pos b16] at h
                      obtain ⟨c17, h⟩ := h
                      refine E_blk (lv' := [some (vr (some (11, this))), some (vi a1), some (vi a2), some (vi a3), some (vr (some (12, i8))), some (vi (mI M1 167 i8 a2.toNatClampNeg))]) (st' := [vi ((mI M1 167 i8 a2.toNatClampNeg) - (mI M1 167 i8 a2.toNatClampNeg) / (12 : Int32) * (12 : Int32))]) (M1 := M1) (pc' := 133) (tb_Model hγ) [.iload 5, .bipush 12, .irem] (by decide +kernel) rfl rfl ⟨c17, trivial⟩ ?_
                      exact E_iret rfl (by decide +kernel) h
                    · rw [if_neg b16] at h
                      refine E_blk (lv' := [some (vr (some (11, this))), some (vi a1), some (vi a2), some (vi a3), some (vr (some (12, i8))), some (vi (mI M1 167 i8 a2.toNatClampNeg))]) (st' := [vi (-2 : Int32)]) (M1 := M1) (pc' := 125) (tb_Model hγ) [.bipush (.negSucc 1)] (by decide +kernel) rfl rfl trivial ?_
                      refine E_goto (off := 8) (tgt := 133) (by decide +kernel) (by decide) ?_
                      exact E_iret rfl (by decide +kernel) h
                  · rw [if_neg b15] at h
                    refine E.up (fun _ _ hJ => J_tswO (len := 31) (dflt := 81) (lo := 0) (hi := 3) (offs := #[31, 39, 47, 65]) (tgt := 134) (by decide +kernel) ?_ (by decide) hJ) ?_
                    · have q := sw0 (x := a3) 0
                      replace q : (a3).toInt < 0 ∨ 1 ≤ (a3).toInt := sw1 q b12 rfl rfl
                      replace q : (a3).toInt < 0 ∨ 2 ≤ (a3).toInt := sw1 q b13 rfl rfl
                      replace q : (a3).toInt < 0 ∨ 3 ≤ (a3).toInt := sw1 q b14 rfl rfl
                      replace q : (a3).toInt < 0 ∨ 4 ≤ (a3).toInt := sw1 q b15 rfl rfl
                      omega
                    · obtain ⟨c11, h⟩ := h
                      refine E_blk (lv' := [some (vr (some (11, this))), some (vi a1), some (vi a2), some (vi a3), some (vr (some (12, i8))), some (vi (mI M1 167 i8 a2.toNatClampNeg))]) (st' := [vi (mI M1 168 i8 a2.toNatClampNeg)]) (M1 := M1) (pc' := 141) (tb_Model hγ) [.aload 4, .getfield 914, .iload_n 2, .iaload] (by decide +kernel) rfl rfl ⟨c11, trivial⟩ ?_
                      exact E_iret rfl (by decide +kernel) h
          · rw [if_neg b9] at h
            refine E_blk (lv' := [some (vr (some (11, this))), some (vi a1), some (vi a2), some (vi a3), some (vr (some (12, i8))), none]) (st' := [vi (-2 : Int32)]) (M1 := M1) (pc' := 42) (tb_Model hγ) [.bipush (.negSucc 1)] (by decide +kernel) rfl rfl trivial ?_
            exact E_iret rfl (by decide +kernel) h
        · rw [if_neg b6] at h
          refine E_blk (lv' := [some (vr (some (11, this))), some (vi a1), some (vi a2), some (vi a3), none, none]) (st' := [vi (-1 : Int32)]) (M1 := M1) (pc' := 22) (tb_Model hγ) [.iconst (.negSucc 0)] (by decide +kernel) rfl rfl trivial ?_
          exact E_iret rfl (by decide +kernel) h
def w_Model_done (this : Nat) (a1 : Int32) (a2 : Int32) (Q : Int32 → Mem → Prop) (M : Mem) : Prop :=
  w_Model_isWorld this a1 (fun r2 M1 => if r2 = 0 then (Q (-1 : Int32) M1) else (if a2 < 0 then (Q (-1 : Int32) M1) else (if (62 : Int32) ≤ a2 then (Q (-1 : Int32) M1) else (vp_in a1 (mL M1 703 0) ∧ ∃ i7, (mR M1 703 0 a1.toNatClampNeg) = some (12, i7) ∧ vp_in a2 (mL M1 169 i7) ∧ Q (mI M1 169 i7 a2.toNatClampNeg) M1)))) M
set_option maxRecDepth 4096 in
theorem lk_Model_done {γ : Gm} (hγ : Gk γ) (this : Nat) (a1 : Int32) (a2 : Int32) (Q : Int32 → Mem → Prop) (M : Mem) (h : w_Model_done this a1 a2 Q M) : E γ k_Model_done 1 0 [some (vr (some (11, this))), some (vi a1), some (vi a2)] [] M (Qi Q) := by
  unfold w_Model_done at h
  refine E_blk (lv' := [some (vr (some (11, this))), some (vi a1), some (vi a2)]) (st' := [vi a1, vr (some (11, this))]) (M1 := M) (pc' := 2) (tb_Model hγ) [.aload_n 0, .iload_n 1] (by decide +kernel) rfl rfl trivial ?_
  refine E_callV (κ' := k_Model_isWorld) (As := [vi a1]) (st := []) mv_Model_isWorld (Or.inl (tbk_mem (j := 14) (k := 190) rfl)) rfl (by decide +kernel) (Nat.le_of_ble_eq_true rfl) (Nat.le_of_ble_eq_true rfl) rfl (by decide) (lk_Model_isWorld hγ this a1 _ M h) (fun _ _ => Qi_r) (fun v M1 hp => Qi_k (R := fun st => E γ k_Model_done 1 5 [some (vr (some (11, this))), some (vi a1), some (vi a2)] st M1 (Qi Q)) hp (fun r2 h => ?_))
  refine E_if_eq (off := 27) (tgt := 32) (by decide +kernel) (by decide) (fun b3 => ?_) (fun b3 => ?_)
  · rw [if_pos b3] at h
    refine E_blk (lv' := [some (vr (some (11, this))), some (vi a1), some (vi a2)]) (st' := [vi (-1 : Int32)]) (M1 := M1) (pc' := 33) (tb_Model hγ) [.iconst (.negSucc 0)] (by decide +kernel) rfl rfl trivial ?_
    exact E_iret rfl (by decide +kernel) h
  · rw [if_neg b3] at h
    refine E_blk (lv' := [some (vr (some (11, this))), some (vi a1), some (vi a2)]) (st' := [vi a2]) (M1 := M1) (pc' := 9) (tb_Model hγ) [.iload_n 2] (by decide +kernel) rfl rfl trivial ?_
    refine E_if_lt (off := 23) (tgt := 32) (by decide +kernel) (by decide) (fun b4 => ?_) (fun b4 => ?_)
    · rw [if_pos b4] at h
      refine E_blk (lv' := [some (vr (some (11, this))), some (vi a1), some (vi a2)]) (st' := [vi (-1 : Int32)]) (M1 := M1) (pc' := 33) (tb_Model hγ) [.iconst (.negSucc 0)] (by decide +kernel) rfl rfl trivial ?_
      exact E_iret rfl (by decide +kernel) h
    · rw [if_neg b4] at h
      refine E_blk (lv' := [some (vr (some (11, this))), some (vi a1), some (vi a2)]) (st' := [vi (62 : Int32), vi a2]) (M1 := M1) (pc' := 15) (tb_Model hγ) [.iload_n 2, .bipush 62] (by decide +kernel) rfl rfl trivial ?_
      refine E_icmp_ge (off := 17) (tgt := 32) (by decide +kernel) (by decide) (fun b5 => ?_) (fun b5 => ?_)
      · rw [if_pos b5] at h
        refine E_blk (lv' := [some (vr (some (11, this))), some (vi a1), some (vi a2)]) (st' := [vi (-1 : Int32)]) (M1 := M1) (pc' := 33) (tb_Model hγ) [.iconst (.negSucc 0)] (by decide +kernel) rfl rfl trivial ?_
        exact E_iret rfl (by decide +kernel) h
      · rw [if_neg b5] at h
        obtain ⟨c6, h⟩ := h
        refine E_blk (lv' := [some (vr (some (11, this))), some (vi a1), some (vi a2)]) (st' := [vr (mR M1 703 0 a1.toNatClampNeg)]) (M1 := M1) (pc' := 24) (tb_Model hγ) [.aload_n 0, .getfield 263, .iload_n 1, .aaload] (by decide +kernel) rfl rfl ⟨c6, trivial⟩ ?_
        obtain ⟨i7, ei7, h⟩ := h
        rw [ei7]
        obtain ⟨c8, h⟩ := h
        refine E_blk (lv' := [some (vr (some (11, this))), some (vi a1), some (vi a2)]) (st' := [vi (mI M1 169 i7 a2.toNatClampNeg)]) (M1 := M1) (pc' := 29) (tb_Model hγ) [.getfield 504, .iload_n 2, .iaload] (by decide +kernel) rfl rfl ⟨c8, trivial⟩ ?_
        refine E_goto (off := 4) (tgt := 33) (by decide +kernel) (by decide) ?_
        exact E_iret rfl (by decide +kernel) h
def w_Model_keepDraft (this : Nat) (Q : Int32 → Mem → Prop) (M : Mem) : Prop :=
  ¬ (0 : Int32) < 0 ∧ ¬ ((1204 : Int32) * (mI M 11 this 121)) < 0 ∧ ¬ (mI M 11 this 123) < 0 ∧ (0 : Int32).toNatClampNeg + (mI M 11 this 123).toNatClampNeg ≤ mL M 402 2 ∧ ((1204 : Int32) * (mI M 11 this 121)).toNatClampNeg + (mI M 11 this 123).toNatClampNeg ≤ mL M 412 this ∧ ∃ M1, M1 = cpI M 402 2 (0 : Int32).toNatClampNeg 412 this ((1204 : Int32) * (mI M 11 this 121)).toNatClampNeg (mI M 11 this 123).toNatClampNeg ∧ vp_in (mI M1 11 this 121) (mL M1 122 this) ∧ vp_in (mI (sI M1 122 this (mI M1 11 this 121).toNatClampNeg (mI M1 11 this 123)) 11 this 121) (mL (sI M1 122 this (mI M1 11 this 121).toNatClampNeg (mI M1 11 this 123)) 522 this) ∧ ∃ M9, M9 = (sI (sI M1 122 this (mI M1 11 this 121).toNatClampNeg (mI M1 11 this 123)) 522 this (mI (sI M1 122 this (mI M1 11 this 121).toNatClampNeg (mI M1 11 this 123)) 11 this 121).toNatClampNeg ((0 : Int32) &&& 1)) ∧ Q ((mI (sI M9 11 this 121 ((mI M9 11 this 121) + (1 : Int32))) 11 this 121) - (1 : Int32)) (sI M9 11 this 121 ((mI M9 11 this 121) + (1 : Int32)))
set_option maxRecDepth 4096 in
theorem lk_Model_keepDraft {γ : Gm} (hγ : Gk γ) (this : Nat) (Q : Int32 → Mem → Prop) (M : Mem) (h : w_Model_keepDraft this Q M) : E γ k_Model_keepDraft 1 0 [some (vr (some (11, this)))] [] M (Qi Q) := by
  unfold w_Model_keepDraft at h
  refine E_blk (lv' := [some (vr (some (11, this)))]) (st' := [vi (mI M 11 this 123), vi ((1204 : Int32) * (mI M 11 this 121)), vr (some (412, this)), vi (0 : Int32), vr (some (402, 2))]) (M1 := M) (pc' := 21) (tb_Model hγ) [.aload_n 0, .getfield 387, .iconst 0, .aload_n 0, .getfield 372, .sipush 1204, .aload_n 0, .getfield 1314, .imul, .aload_n 0, .getfield 1317] (by decide +kernel) rfl rfl trivial ?_
  obtain ⟨c2, c3, c4, c5, c6, M1, eM1, h⟩ := h
  refine E_copy (pc := 21) (κ := k_Model_keepDraft) (f := 402) (i := 2) (g := 412) (j := this) (sp := (0 : Int32)) (dp := ((1204 : Int32) * (mI M 11 this 121))) (n := (mI M 11 this 123)) (idx := 11) (st := []) c2 c3 c4 c5 c6 (by decide) (by decide) rfl (by decide) (tbk_mem (j := 11) (k := 65) rfl) (by decide +kernel) (Nat.le_of_ble_eq_true rfl) ?_
  rw [← eM1]
  obtain ⟨c7, c8, h⟩ := h
  refine E_blk (lv' := [some (vr (some (11, this)))]) (st' := []) (M1 := (sI (sI M1 122 this (mI M1 11 this 121).toNatClampNeg (mI M1 11 this 123)) 522 this (mI (sI M1 122 this (mI M1 11 this 121).toNatClampNeg (mI M1 11 this 123)) 11 this 121).toNatClampNeg ((0 : Int32) &&& 1))) (pc' := 47) (tb_Model hγ) [.aload_n 0, .getfield 375, .aload_n 0, .getfield 1314, .aload_n 0, .getfield 1317, .iastore, .aload_n 0, .getfield 378, .aload_n 0, .getfield 1314, .iconst 0, .bastore] (by decide +kernel) rfl rfl ⟨c7, c8, trivial⟩ ?_
  obtain ⟨M9, eM9, h⟩ := h
  rw [← eM9]
  refine E_blk (lv' := [some (vr (some (11, this)))]) (st' := [vi ((mI (sI M9 11 this 121 ((mI M9 11 this 121) + (1 : Int32))) 11 this 121) - (1 : Int32))]) (M1 := (sI M9 11 this 121 ((mI M9 11 this 121) + (1 : Int32)))) (pc' := 63) (tb_Model hγ) [.aload_n 0, .dup, .getfield 1314, .iconst 1, .iadd, .putfield 1314, .aload_n 0, .getfield 1314, .iconst 1, .isub] (by decide +kernel) rfl rfl trivial ?_
  exact E_iret rfl (by decide +kernel) h
def w_Model_trial_j229 (this : Nat) (Q : Int32 → Mem → Prop) (s0 : Nat) (M : Mem) : Prop :=
  Q (-11 : Int32) (sI M 11 this 86 (mI M 11 this 50))
def w_Model_trial_j203 (this : Nat) (Q : Int32 → Mem → Prop) (v2 : Int32) (v3 : Int32) (M : Mem) : Prop :=
  w_Model_cutLine this 1 v2 v3 (fun r8 M7 => w_Model_needWord this (mI M7 11 this 25) (fun M9 => w_Model_callWords this (fun M10 => w_Model_keepDraft this (fun r12 M11 => Q r12 M11) M10) (fun M13 => w_Model_trial_j229 this Q 0 M13) M9) (fun M14 => w_Model_trial_j229 this Q 0 M14) M7) M
def w_Model_trial_j157 (this : Nat) (Q : Int32 → Mem → Prop) (k36 : Int32 → Int32 → Int32 → Int32 → Mem → Prop) (v1 : Int32) (v2 : Int32) (v3 : Int32) (v5 : Int32) (M : Mem) : Prop :=
  k36 v1 v2 v3 (v5 + (1 : Int32)) M
def w_Model_trial_j76 (this : Nat) (Q : Int32 → Mem → Prop) (k36 : Int32 → Int32 → Int32 → Int32 → Mem → Prop) (v1 : Int32) (v2 : Int32) (v3 : Int32) (v4 : Int32) (v5 : Int32) (M : Mem) : Prop :=
  w_Model_cutLine this 1 v4 v5 (fun r18 M17 => if r18 = 0 then (w_Model_trial_j157 this Q k36 v1 v2 v3 v5 M17) else (¬ v4 < 0 ∧ ¬ (mI M17 11 this 123) < 0 ∧ ¬ (v5 - v4) < 0 ∧ v4.toNatClampNeg + (v5 - v4).toNatClampNeg ≤ mL M17 402 1 ∧ (mI M17 11 this 123).toNatClampNeg + (v5 - v4).toNatClampNeg ≤ mL M17 402 2 ∧ ∃ M20, M20 = cpI M17 402 1 v4.toNatClampNeg 402 2 (mI M17 11 this 123).toNatClampNeg (v5 - v4).toNatClampNeg ∧ vp_in (mI (sI M20 11 this 123 ((mI M20 11 this 123) + (v5 - v4))) 11 this 123) (mL (sI M20 11 this 123 ((mI M20 11 this 123) + (v5 - v4))) 402 2) ∧ ∃ M27, M27 = (sI (sI M20 11 this 123 ((mI M20 11 this 123) + (v5 - v4))) 402 2 (mI (sI M20 11 this 123 ((mI M20 11 this 123) + (v5 - v4))) 11 this 123).toNatClampNeg ((10 : Int32).toInt8.toInt32)) ∧ w_Model_trial_j157 this Q k36 (v1 + (1 : Int32)) v4 v5 v5 (sI M27 11 this 123 ((mI M27 11 this 123) + (1 : Int32))))) M
def w_Model_trial_L49 (this : Nat) (Q : Int32 → Mem → Prop) (k36 : Int32 → Int32 → Int32 → Int32 → Mem → Prop) : Nat → Int32 → Int32 → Int32 → Int32 → Int32 → Mem → Prop
  | 0, _, _, _, _, _, _ => False
  | n + 1, v1, v2, v3, v4, v5, M => if (mI M 11 this 85) ≤ v5 then (w_Model_trial_j76 this Q k36 v1 v2 v3 v4 v5 M) else (vp_in v5 (mL M 402 1) ∧ if (mI M 402 1 v5.toNatClampNeg) = (10 : Int32) then (w_Model_trial_j76 this Q k36 v1 v2 v3 v4 v5 M) else ((w_Model_trial_L49 this Q k36 n) v1 v2 v3 v4 (v5 + (1 : Int32)) M))
def w_Model_trial_L36 (this : Nat) (Q : Int32 → Mem → Prop) : Nat → Int32 → Int32 → Int32 → Int32 → Mem → Prop
  | 0, _, _, _, _, _ => False
  | n + 1, v1, v2, v3, v4, M => if (mI M 11 this 85) < v4 then (if v1 ≤ (60 : Int32) then (if v1 = 0 then (w_Model_refuse this (1 : Int32) (mI M 11 this 85) (fun M6 => w_Model_trial_j203 this Q v2 v3 M6) (fun M15 => w_Model_trial_j229 this Q 0 M15) (sI (sI M 11 this 85 (0 : Int32)) 11 this 86 (-2 : Int32))) else (w_Model_trial_j203 this Q v2 v3 (sI (sI M 11 this 85 (0 : Int32)) 11 this 86 (-2 : Int32)))) else (Q (-3 : Int32) M)) else (∃ n30 : Nat, w_Model_trial_L49 this Q (w_Model_trial_L36 this Q n) n30 v1 v2 v3 v4 v4 M)
def w_Model_trial (this : Nat) (Q : Int32 → Mem → Prop) (M : Mem) : Prop :=
  if (mI M 11 this 121) = (40 : Int32) then (Q (-3 : Int32) M) else (if (mI M 11 this 85) ≤ (1200 : Int32) then (∃ n31 : Nat, w_Model_trial_L36 this Q n31 (0 : Int32) (0 : Int32) (0 : Int32) (0 : Int32) (sI M 11 this 123 (0 : Int32))) else (Q (-3 : Int32) M))
set_option maxRecDepth 4096 in
theorem lk_Model_trial_j229 {γ : Gm} (hγ : Gk γ) (this : Nat) (Q : Int32 → Mem → Prop) (s0 : Nat) (M : Mem) (h : w_Model_trial_j229 this Q s0 M) : E γ k_Model_trial 6 229 [some (vr (some (11, this))), none, none, none, none, none, none] [vr (some (14, s0))] M (Qi Q) := by
  unfold w_Model_trial_j229 at h
  refine E_blk (lv' := [some (vr (some (11, this))), none, none, none, none, none, some (vr (some (14, s0)))]) (st' := [vi (-11 : Int32)]) (M1 := (sI M 11 this 86 (mI M 11 this 50))) (pc' := 241) (tb_Model hγ) [.astore 6, .aload_n 0, .aload_n 0, .getfield 529, .putfield 317, .bipush (.negSucc 10)] (by decide +kernel) rfl rfl trivial ?_
  exact E_iret rfl (by decide +kernel) h
set_option maxRecDepth 4096 in
theorem lk_Model_trial_j203 {γ : Gm} (hγ : Gk γ) (this : Nat) (Q : Int32 → Mem → Prop) (v2 : Int32) (v3 : Int32) (M : Mem) (h : w_Model_trial_j203 this Q v2 v3 M) : E γ k_Model_trial 6 203 [some (vr (some (11, this))), none, some (vi v2), some (vi v3), none, none, none] [] M (Qi Q) := by
  unfold w_Model_trial_j203 at h
  refine E_blk (lv' := [some (vr (some (11, this))), none, some (vi v2), some (vi v3), none, none, none]) (st' := [vi v3, vi v2, vr (some (402, 1)), vr (some (11, this))]) (M1 := M) (pc' := 210) (tb_Model hγ) [.aload_n 0, .aload_n 0, .getfield 314, .iload_n 2, .iload_n 3] (by decide +kernel) rfl rfl trivial ?_
  refine E_callV (κ' := k_Model_cutLine) (As := [vr (some (402, 1)), vi v2, vi v3]) (st := []) mv_Model_cutLine (Or.inl (tbk_mem (j := 14) (k := 202) rfl)) rfl (by decide +kernel) (Nat.le_of_ble_eq_true rfl) (Nat.le_of_ble_eq_true rfl) rfl (by decide) (lk_Model_cutLine hγ this 1 v2 v3 _ M h) (fun _ _ => Qi_r) (fun v M7 hp => Qi_k (R := fun st => E γ k_Model_trial 6 213 [some (vr (some (11, this))), none, some (vi v2), some (vi v3), none, none, none] st M7 (Qi Q)) hp (fun r8 h => ?_))
  refine E_blk (lv' := [some (vr (some (11, this))), none, some (vi v2), some (vi v3), none, none, none]) (st' := [vi (mI M7 11 this 25), vr (some (11, this))]) (M1 := M7) (pc' := 219) (tb_Model hγ) [.pop, .aload_n 0, .aload_n 0, .getfield 237] (by decide +kernel) rfl rfl trivial ?_
  refine E_callC (q := (14, 0)) (hp := 229) (ct := 267) (κ' := k_Model_needWord) (As := [vi (mI M7 11 this 25)]) (st := []) mv_Model_needWord (Or.inl (tbk_mem (j := 15) (k := 11) rfl)) rfl (by decide +kernel) (Nat.le_of_ble_eq_true rfl) (Nat.le_of_ble_eq_true rfl) rfl (by decide) rfl (Or.inr ⟨by decide, (show (14 : Nat) < 20 by decide), _, rfl, (tbk_mem (j := 11) (k := 103) rfl)⟩) (lk_Model_needWord hγ this (mI M7 11 this 25) _ _ M7 h) (fun _ _ => Qv_r) (fun M14 h => ?_) (fun v M9 hp => Qv_k (R := fun st => E γ k_Model_trial 6 222 [some (vr (some (11, this))), none, some (vi v2), some (vi v3), none, none, none] st M9 (Qi Q)) hp (fun h => ?_))
  · refine E_mask [true, false, false, false, false, false, false] rfl ?_
    exact lk_Model_trial_j229 hγ this Q 0 M14 h
  · refine E_blk (lv' := [some (vr (some (11, this))), none, some (vi v2), some (vi v3), none, none, none]) (st' := [vr (some (11, this))]) (M1 := M9) (pc' := 223) (tb_Model hγ) [.aload_n 0] (by decide +kernel) rfl rfl trivial ?_
    refine E_callC (q := (14, 0)) (hp := 229) (ct := 267) (κ' := k_Model_callWords) (As := []) (st := []) mv_Model_callWords (Or.inl (tbk_mem (j := 16) (k := 30) rfl)) rfl (by decide +kernel) (Nat.le_of_ble_eq_true rfl) (Nat.le_of_ble_eq_true rfl) rfl (by decide) rfl (Or.inr ⟨by decide, (show (14 : Nat) < 20 by decide), _, rfl, (tbk_mem (j := 11) (k := 103) rfl)⟩) (lk_Model_callWords hγ this _ _ M9 h) (fun _ _ => Qv_r) (fun M13 h => ?_) (fun v M10 hp => Qv_k (R := fun st => E γ k_Model_trial 6 226 [some (vr (some (11, this))), none, some (vi v2), some (vi v3), none, none, none] st M10 (Qi Q)) hp (fun h => ?_))
    · refine E_mask [true, false, false, false, false, false, false] rfl ?_
      exact lk_Model_trial_j229 hγ this Q 0 M13 h
    · refine E_goto (off := 16) (tgt := 242) (by decide +kernel) (by decide) ?_
      refine E_blk (lv' := [some (vr (some (11, this))), none, some (vi v2), some (vi v3), none, none, none]) (st' := [vr (some (11, this))]) (M1 := M10) (pc' := 243) (tb_Model hγ) [.aload_n 0] (by decide +kernel) rfl rfl trivial ?_
      refine E_callV (κ' := k_Model_keepDraft) (As := []) (st := []) mv_Model_keepDraft (Or.inl (tbk_mem (j := 17) (k := 204) rfl)) rfl (by decide +kernel) (Nat.le_of_ble_eq_true rfl) (Nat.le_of_ble_eq_true rfl) rfl (by decide) (lk_Model_keepDraft hγ this _ M10 h) (fun _ _ => Qi_r) (fun v M11 hp => Qi_k (R := fun st => E γ k_Model_trial 6 246 [some (vr (some (11, this))), none, some (vi v2), some (vi v3), none, none, none] st M11 (Qi Q)) hp (fun r12 h => ?_))
      exact E_iret rfl (by decide +kernel) h
set_option maxRecDepth 4096 in
theorem lk_Model_trial_j157 {γ : Gm} (hγ : Gk γ) (this : Nat) (Q : Int32 → Mem → Prop) (k36 : Int32 → Int32 → Int32 → Int32 → Mem → Prop) (hk36 : ∀ (v1 : Int32) (v2 : Int32) (v3 : Int32) (v4 : Int32) (M : Mem), k36 v1 v2 v3 v4 M → E γ k_Model_trial 6 36 [some (vr (some (11, this))), some (vi v1), some (vi v2), some (vi v3), some (vi v4), none, none] [] M (Qi Q)) (v1 : Int32) (v2 : Int32) (v3 : Int32) (v5 : Int32) (M : Mem) (h : w_Model_trial_j157 this Q k36 v1 v2 v3 v5 M) : E γ k_Model_trial 6 157 [some (vr (some (11, this))), some (vi v1), some (vi v2), some (vi v3), none, some (vi v5), none] [] M (Qi Q) := by
  unfold w_Model_trial_j157 at h
  refine E_blk (lv' := [some (vr (some (11, this))), some (vi v1), some (vi v2), some (vi v3), some (vi (v5 + (1 : Int32))), some (vi v5), none]) (st' := []) (M1 := M) (pc' := 163) (tb_Model hγ) [.iload 5, .iconst 1, .iadd, .istore 4] (by decide +kernel) rfl rfl trivial ?_
  refine E_goto (off := -127) (tgt := 36) (by decide +kernel) (by decide) ?_
  refine E_mask [true, true, true, true, true, false, false] rfl ?_
  exact hk36 v1 v2 v3 (v5 + (1 : Int32)) M h
set_option maxRecDepth 4096 in
theorem lk_Model_trial_j76 {γ : Gm} (hγ : Gk γ) (this : Nat) (Q : Int32 → Mem → Prop) (k36 : Int32 → Int32 → Int32 → Int32 → Mem → Prop) (hk36 : ∀ (v1 : Int32) (v2 : Int32) (v3 : Int32) (v4 : Int32) (M : Mem), k36 v1 v2 v3 v4 M → E γ k_Model_trial 6 36 [some (vr (some (11, this))), some (vi v1), some (vi v2), some (vi v3), some (vi v4), none, none] [] M (Qi Q)) (v1 : Int32) (v2 : Int32) (v3 : Int32) (v4 : Int32) (v5 : Int32) (M : Mem) (h : w_Model_trial_j76 this Q k36 v1 v2 v3 v4 v5 M) : E γ k_Model_trial 6 76 [some (vr (some (11, this))), some (vi v1), some (vi v2), some (vi v3), some (vi v4), some (vi v5), none] [] M (Qi Q) := by
  unfold w_Model_trial_j76 at h
  refine E_blk (lv' := [some (vr (some (11, this))), some (vi v1), some (vi v2), some (vi v3), some (vi v4), some (vi v5), none]) (st' := [vi v5, vi v4, vr (some (402, 1)), vr (some (11, this))]) (M1 := M) (pc' := 85) (tb_Model hγ) [.aload_n 0, .aload_n 0, .getfield 314, .iload 4, .iload 5] (by decide +kernel) rfl rfl trivial ?_
  refine E_callV (κ' := k_Model_cutLine) (As := [vr (some (402, 1)), vi v4, vi v5]) (st := []) mv_Model_cutLine (Or.inl (tbk_mem (j := 14) (k := 202) rfl)) rfl (by decide +kernel) (Nat.le_of_ble_eq_true rfl) (Nat.le_of_ble_eq_true rfl) rfl (by decide) (lk_Model_cutLine hγ this 1 v4 v5 _ M h) (fun _ _ => Qi_r) (fun v M17 hp => Qi_k (R := fun st => E γ k_Model_trial 6 88 [some (vr (some (11, this))), some (vi v1), some (vi v2), some (vi v3), some (vi v4), some (vi v5), none] st M17 (Qi Q)) hp (fun r18 h => ?_))
  refine E_if_eq (off := 69) (tgt := 157) (by decide +kernel) (by decide) (fun b19 => ?_) (fun b19 => ?_)
  · rw [if_pos b19] at h
    refine E_mask [true, true, true, true, false, true, false] rfl ?_
    exact lk_Model_trial_j157 hγ this Q k36 hk36 v1 v2 v3 v5 M17 h
  · rw [if_neg b19] at h
    refine E_blk (lv' := [some (vr (some (11, this))), some (vi (v1 + (1 : Int32))), some (vi v4), some (vi v5), some (vi v4), some (vi v5), none]) (st' := [vi (v5 - v4), vi (mI M17 11 this 123), vr (some (402, 2)), vi v4, vr (some (402, 1))]) (M1 := M17) (pc' := 119) (tb_Model hγ) [.iinc 1 1, .iload 4, .istore_n 2, .iload 5, .istore_n 3, .aload_n 0, .getfield 314, .iload 4, .aload_n 0, .getfield 387, .aload_n 0, .getfield 1317, .iload 5, .iload 4, .isub] (by decide +kernel) rfl rfl trivial ?_
    obtain ⟨c21, c22, c23, c24, c25, M20, eM20, h⟩ := h
    refine E_copy (pc := 119) (κ := k_Model_trial) (f := 402) (i := 1) (g := 402) (j := 2) (sp := v4) (dp := (mI M17 11 this 123)) (n := (v5 - v4)) (idx := 11) (st := []) c21 c22 c23 c24 c25 (by decide) (by decide) rfl (by decide) (tbk_mem (j := 11) (k := 65) rfl) (by decide +kernel) (Nat.le_of_ble_eq_true rfl) ?_
    rw [← eM20]
    obtain ⟨c26, h⟩ := h
    refine E_blk (lv' := [some (vr (some (11, this))), some (vi (v1 + (1 : Int32))), some (vi v4), some (vi v5), some (vi v4), some (vi v5), none]) (st' := []) (M1 := (sI (sI M20 11 this 123 ((mI M20 11 this 123) + (v5 - v4))) 402 2 (mI (sI M20 11 this 123 ((mI M20 11 this 123) + (v5 - v4))) 11 this 123).toNatClampNeg ((10 : Int32).toInt8.toInt32))) (pc' := 147) (tb_Model hγ) [.aload_n 0, .dup, .getfield 1317, .iload 5, .iload 4, .isub, .iadd, .putfield 1317, .aload_n 0, .getfield 387, .aload_n 0, .getfield 1317, .bipush 10, .bastore] (by decide +kernel) rfl rfl ⟨c26, trivial⟩ ?_
    obtain ⟨M27, eM27, h⟩ := h
    rw [← eM27]
    refine E_blk (lv' := [some (vr (some (11, this))), some (vi (v1 + (1 : Int32))), some (vi v4), some (vi v5), some (vi v4), some (vi v5), none]) (st' := []) (M1 := (sI M27 11 this 123 ((mI M27 11 this 123) + (1 : Int32)))) (pc' := 157) (tb_Model hγ) [.aload_n 0, .dup, .getfield 1317, .iconst 1, .iadd, .putfield 1317] (by decide +kernel) rfl rfl trivial ?_
    refine E_mask [true, true, true, true, false, true, false] rfl ?_
    exact lk_Model_trial_j157 hγ this Q k36 hk36 (v1 + (1 : Int32)) v4 v5 v5 (sI M27 11 this 123 ((mI M27 11 this 123) + (1 : Int32))) h
set_option maxRecDepth 4096 in
theorem lk_Model_trial_L49 {γ : Gm} (hγ : Gk γ) (this : Nat) (Q : Int32 → Mem → Prop) (k36 : Int32 → Int32 → Int32 → Int32 → Mem → Prop) (hk36 : ∀ (v1 : Int32) (v2 : Int32) (v3 : Int32) (v4 : Int32) (M : Mem), k36 v1 v2 v3 v4 M → E γ k_Model_trial 6 36 [some (vr (some (11, this))), some (vi v1), some (vi v2), some (vi v3), some (vi v4), none, none] [] M (Qi Q)) : ∀ (n : Nat) (v1 : Int32) (v2 : Int32) (v3 : Int32) (v4 : Int32) (v5 : Int32) (M : Mem), w_Model_trial_L49 this Q k36 n v1 v2 v3 v4 v5 M → E γ k_Model_trial 6 49 [some (vr (some (11, this))), some (vi v1), some (vi v2), some (vi v3), some (vi v4), some (vi v5), none] [] M (Qi Q) := by
  intro n
  induction n with
  | zero => intro v1 v2 v3 v4 v5 M h; exact h.elim
  | succ n ih =>
    intro v1 v2 v3 v4 v5 M h
    unfold w_Model_trial_L49 at h
    refine E_blk (lv' := [some (vr (some (11, this))), some (vi v1), some (vi v2), some (vi v3), some (vi v4), some (vi v5), none]) (st' := [vi (mI M 11 this 85), vi v5]) (M1 := M) (pc' := 55) (tb_Model hγ) [.iload 5, .aload_n 0, .getfield 1112] (by decide +kernel) rfl rfl trivial ?_
    refine E_icmp_ge (off := 21) (tgt := 76) (by decide +kernel) (by decide) (fun b16 => ?_) (fun b16 => ?_)
    · rw [if_pos b16] at h
      refine E_mask [true, true, true, true, true, true, false] rfl ?_
      exact lk_Model_trial_j76 hγ this Q k36 hk36 v1 v2 v3 v4 v5 M h
    · rw [if_neg b16] at h
      obtain ⟨c28, h⟩ := h
      refine E_blk (lv' := [some (vr (some (11, this))), some (vi v1), some (vi v2), some (vi v3), some (vi v4), some (vi v5), none]) (st' := [vi (10 : Int32), vi (mI M 402 1 v5.toNatClampNeg)]) (M1 := M) (pc' := 67) (tb_Model hγ) [.aload_n 0, .getfield 314, .iload 5, .baload, .bipush 10] (by decide +kernel) rfl rfl ⟨c28, trivial⟩ ?_
      refine E_icmp_eq (off := 9) (tgt := 76) (by decide +kernel) (by decide) (fun b29 => ?_) (fun b29 => ?_)
      · rw [if_pos b29] at h
        refine E_mask [true, true, true, true, true, true, false] rfl ?_
        exact lk_Model_trial_j76 hγ this Q k36 hk36 v1 v2 v3 v4 v5 M h
      · rw [if_neg b29] at h
        refine E_blk (lv' := [some (vr (some (11, this))), some (vi v1), some (vi v2), some (vi v3), some (vi v4), some (vi (v5 + (1 : Int32))), none]) (st' := []) (M1 := M) (pc' := 73) (tb_Model hγ) [.iinc 5 1] (by decide +kernel) rfl rfl trivial ?_
        refine E_goto (off := -24) (tgt := 49) (by decide +kernel) (by decide) ?_
        refine E_mask [true, true, true, true, true, true, false] rfl ?_
        exact ih v1 v2 v3 v4 (v5 + (1 : Int32)) M h
set_option maxRecDepth 4096 in
theorem lk_Model_trial_L36 {γ : Gm} (hγ : Gk γ) (this : Nat) (Q : Int32 → Mem → Prop) : ∀ (n : Nat) (v1 : Int32) (v2 : Int32) (v3 : Int32) (v4 : Int32) (M : Mem), w_Model_trial_L36 this Q n v1 v2 v3 v4 M → E γ k_Model_trial 6 36 [some (vr (some (11, this))), some (vi v1), some (vi v2), some (vi v3), some (vi v4), none, none] [] M (Qi Q) := by
  intro n
  induction n with
  | zero => intro v1 v2 v3 v4 M h; exact h.elim
  | succ n ih =>
    intro v1 v2 v3 v4 M h
    unfold w_Model_trial_L36 at h
    refine E_blk (lv' := [some (vr (some (11, this))), some (vi v1), some (vi v2), some (vi v3), some (vi v4), none, none]) (st' := [vi (mI M 11 this 85), vi v4]) (M1 := M) (pc' := 42) (tb_Model hγ) [.iload 4, .aload_n 0, .getfield 1112] (by decide +kernel) rfl rfl trivial ?_
    refine E_icmp_gt (off := 124) (tgt := 166) (by decide +kernel) (by decide) (fun b3 => ?_) (fun b3 => ?_)
    · rw [if_pos b3] at h
      refine E_blk (lv' := [some (vr (some (11, this))), some (vi v1), some (vi v2), some (vi v3), some (vi v4), none, none]) (st' := [vi (60 : Int32), vi v1]) (M1 := M) (pc' := 169) (tb_Model hγ) [.iload_n 1, .bipush 60] (by decide +kernel) rfl rfl trivial ?_
      refine E_icmp_le (off := 6) (tgt := 175) (by decide +kernel) (by decide) (fun b4 => ?_) (fun b4 => ?_)
      · rw [if_pos b4] at h
        refine E_blk (lv' := [some (vr (some (11, this))), some (vi v1), some (vi v2), some (vi v3), some (vi v4), some (vi (mI M 11 this 85)), none]) (st' := [vi v1]) (M1 := (sI (sI M 11 this 85 (0 : Int32)) 11 this 86 (-2 : Int32))) (pc' := 193) (tb_Model hγ) [.aload_n 0, .getfield 1112, .istore 5, .aload_n 0, .iconst 0, .putfield 1112, .aload_n 0, .bipush (.negSucc 1), .putfield 317, .iload_n 1] (by decide +kernel) rfl rfl trivial ?_
        refine E_if_ne (off := 10) (tgt := 203) (by decide +kernel) (by decide) (fun b5 => ?_) (fun b5 => ?_)
        · rw [if_pos b5] at h
          refine E_blk (lv' := [some (vr (some (11, this))), some (vi v1), some (vi v2), some (vi v3), some (vi v4), some (vi (mI M 11 this 85)), none]) (st' := [vi (mI M 11 this 85), vi (1 : Int32), vr (some (11, this))]) (M1 := (sI (sI M 11 this 85 (0 : Int32)) 11 this 86 (-2 : Int32))) (pc' := 200) (tb_Model hγ) [.aload_n 0, .iconst 1, .iload 5] (by decide +kernel) rfl rfl trivial ?_
          refine E_callC (q := (14, 0)) (hp := 229) (ct := 267) (κ' := k_Model_refuse) (As := [vi (1 : Int32), vi (mI M 11 this 85)]) (st := []) mv_Model_refuse (Or.inl (tbk_mem (j := 15) (k := 3) rfl)) rfl (by decide +kernel) (Nat.le_of_ble_eq_true rfl) (Nat.le_of_ble_eq_true rfl) rfl (by decide) rfl (Or.inr ⟨by decide, (show (14 : Nat) < 20 by decide), _, rfl, (tbk_mem (j := 11) (k := 103) rfl)⟩) (lk_Model_refuse hγ this (1 : Int32) (mI M 11 this 85) _ _ (sI (sI M 11 this 85 (0 : Int32)) 11 this 86 (-2 : Int32)) h) (fun _ _ => Qv_r) (fun M15 h => ?_) (fun v M6 hp => Qv_k (R := fun st => E γ k_Model_trial 6 203 [some (vr (some (11, this))), some (vi v1), some (vi v2), some (vi v3), some (vi v4), some (vi (mI M 11 this 85)), none] st M6 (Qi Q)) hp (fun h => ?_))
          · refine E_mask [true, false, false, false, false, false, false] rfl ?_
            exact lk_Model_trial_j229 hγ this Q 0 M15 h
          · refine E_mask [true, false, true, true, false, false, false] rfl ?_
            exact lk_Model_trial_j203 hγ this Q v2 v3 M6 h
        · rw [if_neg b5] at h
          refine E_mask [true, false, true, true, false, false, false] rfl ?_
          exact lk_Model_trial_j203 hγ this Q v2 v3 (sI (sI M 11 this 85 (0 : Int32)) 11 this 86 (-2 : Int32)) h
      · rw [if_neg b4] at h
        refine E_blk (lv' := [some (vr (some (11, this))), some (vi v1), some (vi v2), some (vi v3), some (vi v4), none, none]) (st' := [vi (-3 : Int32)]) (M1 := M) (pc' := 174) (tb_Model hγ) [.bipush (.negSucc 2)] (by decide +kernel) rfl rfl trivial ?_
        exact E_iret rfl (by decide +kernel) h
    · rw [if_neg b3] at h
      refine E_blk (lv' := [some (vr (some (11, this))), some (vi v1), some (vi v2), some (vi v3), some (vi v4), some (vi v4), none]) (st' := []) (M1 := M) (pc' := 49) (tb_Model hγ) [.iload 4, .istore 5] (by decide +kernel) rfl rfl trivial ?_
      obtain ⟨n30, h⟩ := h
      refine E_mask [true, true, true, true, true, true, false] rfl ?_
      exact lk_Model_trial_L49 hγ this Q (w_Model_trial_L36 this Q n) ih n30 v1 v2 v3 v4 v4 M h
set_option maxRecDepth 4096 in
theorem lk_Model_trial {γ : Gm} (hγ : Gk γ) (this : Nat) (Q : Int32 → Mem → Prop) (M : Mem) (h : w_Model_trial this Q M) : E γ k_Model_trial 6 0 [some (vr (some (11, this))), none, none, none, none, none, none] [] M (Qi Q) := by
  unfold w_Model_trial at h
  refine E_blk (lv' := [some (vr (some (11, this))), none, none, none, none, none, none]) (st' := [vi (40 : Int32), vi (mI M 11 this 121)]) (M1 := M) (pc' := 6) (tb_Model hγ) [.aload_n 0, .getfield 1314, .bipush 40] (by decide +kernel) rfl rfl trivial ?_
  refine E_icmp_eq (off := 13) (tgt := 19) (by decide +kernel) (by decide) (fun b1 => ?_) (fun b1 => ?_)
  · rw [if_pos b1] at h
    refine E_blk (lv' := [some (vr (some (11, this))), none, none, none, none, none, none]) (st' := [vi (-3 : Int32)]) (M1 := M) (pc' := 21) (tb_Model hγ) [.bipush (.negSucc 2)] (by decide +kernel) rfl rfl trivial ?_
    exact E_iret rfl (by decide +kernel) h
  · rw [if_neg b1] at h
    refine E_blk (lv' := [some (vr (some (11, this))), none, none, none, none, none, none]) (st' := [vi (1200 : Int32), vi (mI M 11 this 85)]) (M1 := M) (pc' := 16) (tb_Model hγ) [.aload_n 0, .getfield 1112, .sipush 1200] (by decide +kernel) rfl rfl trivial ?_
    refine E_icmp_le (off := 6) (tgt := 22) (by decide +kernel) (by decide) (fun b2 => ?_) (fun b2 => ?_)
    · rw [if_pos b2] at h
      refine E_blk (lv' := [some (vr (some (11, this))), some (vi (0 : Int32)), some (vi (0 : Int32)), some (vi (0 : Int32)), some (vi (0 : Int32)), none, none]) (st' := []) (M1 := (sI M 11 this 123 (0 : Int32))) (pc' := 36) (tb_Model hγ) [.iconst 0, .istore_n 1, .iconst 0, .istore_n 2, .iconst 0, .istore_n 3, .aload_n 0, .iconst 0, .putfield 1317, .iconst 0, .istore 4] (by decide +kernel) rfl rfl trivial ?_
      obtain ⟨n31, h⟩ := h
      refine E_mask [true, true, true, true, true, false, false] rfl ?_
      exact lk_Model_trial_L36 hγ this Q n31 (0 : Int32) (0 : Int32) (0 : Int32) (0 : Int32) (sI M 11 this 123 (0 : Int32)) h
    · rw [if_neg b2] at h
      refine E_blk (lv' := [some (vr (some (11, this))), none, none, none, none, none, none]) (st' := [vi (-3 : Int32)]) (M1 := M) (pc' := 21) (tb_Model hγ) [.bipush (.negSucc 2)] (by decide +kernel) rfl rfl trivial ?_
      exact E_iret rfl (by decide +kernel) h
def w_Model_tryDraft_j196 (this : Nat) (Q : Mem → Prop) (X : Mem → Prop) (s0 : Int32) (M : Mem) : Prop :=
  Q (sI M 11 this 125 s0)
def w_Model_tryDraft_j152 (this : Nat) (Q : Mem → Prop) (X : Mem → Prop) (v3 : Nat) (s0 : Int32) (M : Mem) : Prop :=
  if (mI (sI M 11 this 124 s0) 13 v3 10) = (1 : Int32) then (w_Model_tryDraft_j196 this Q X (mI (sI M 11 this 124 s0) 13 v3 11) (sI M 11 this 124 s0)) else (if (mI (sI M 11 this 124 s0) 13 v3 10) = (3 : Int32) then (w_Model_tryDraft_j196 this Q X (1 : Int32) (sI M 11 this 124 s0)) else (if (mI (sI M 11 this 124 s0) 13 v3 10) = (4 : Int32) then (w_Model_tryDraft_j196 this Q X (2 : Int32) (sI M 11 this 124 s0)) else (w_Model_tryDraft_j196 this Q X (0 : Int32) (sI M 11 this 124 s0))))
def w_Model_tryDraft_j241 (this : Nat) (Q : Mem → Prop) (X : Mem → Prop) (s0 : Int32) (s1 : Int32) (M : Mem) : Prop :=
  Q (sI M 11 this 125 (s1 + s0))
def w_Model_tryDraft_j30 (this : Nat) (Q : Mem → Prop) (X : Mem → Prop) (v1 : Int32) (v2 : Int32) (M : Mem) : Prop :=
  vp_in (3 : Int32) (mL M 703 0) ∧ ∃ i3, (mR M 703 0 (3 : Int32).toNatClampNeg) = some (12, i3) ∧ ∃ i4, (mR (sR M 11 this 45 (some (12, i3))) 11 this 45) = some (12, i4) ∧ w_Model_beginWorld this i4 v1 (fun M5 => w_Model_take this 2 v2 (fun r7 M6 => if 0 ≤ r7 then (w_Model_cutLine this 2 v2 ((mI M6 11 this 123) - (1 : Int32)) (fun r10 M9 => w_Model_needWord this (mI M9 11 this 25) (fun M11 => w_Model_callWords this (fun M12 => ∃ i13, (mR M12 11 this 45) = some (12, i13) ∧ vp_in (0 : Int32) (mL M12 704 i13) ∧ ∃ i15, (mR M12 704 i13 (0 : Int32).toNatClampNeg) = some (13, i15) ∧ w_Model_beginRun this i15 (fun M16 => w_Model_goOn this (300 : Int32) (fun r18 M17 => if (mI (sI M17 11 this 125 (0 : Int32)) 13 i15 0) = 0 then (if (mI (sI M17 11 this 125 (0 : Int32)) 13 i15 10) = (1 : Int32) then (w_Model_tryDraft_j152 this Q X i15 (2 : Int32) (sI M17 11 this 125 (0 : Int32))) else (w_Model_tryDraft_j152 this Q X i15 (3 : Int32) (sI M17 11 this 125 (0 : Int32)))) else (if (mI (sI M17 11 this 125 (0 : Int32)) 13 i15 0) = (2 : Int32) then (if (21 : Int32) ≤ (mI (sI (sI M17 11 this 125 (0 : Int32)) 11 this 124 (4 : Int32)) 13 i15 12) then (w_Model_tryDraft_j241 this Q X (99 : Int32) ((100 : Int32) * (mI (sI (sI M17 11 this 125 (0 : Int32)) 11 this 124 (4 : Int32)) 13 i15 13)) (sI (sI M17 11 this 125 (0 : Int32)) 11 this 124 (4 : Int32))) else (w_Model_tryDraft_j241 this Q X (mI (sI (sI M17 11 this 125 (0 : Int32)) 11 this 124 (4 : Int32)) 13 i15 12) ((100 : Int32) * (mI (sI (sI M17 11 this 125 (0 : Int32)) 11 this 124 (4 : Int32)) 13 i15 13)) (sI (sI M17 11 this 125 (0 : Int32)) 11 this 124 (4 : Int32)))) else (Q (sI (sI M17 11 this 125 (0 : Int32)) 11 this 124 (5 : Int32))))) M16) M12) X M11) X M9) M6) else (∃ M26, M26 = (sI (sI M6 11 this 124 (1 : Int32)) 11 this 125 (mI (sI M6 11 this 124 (1 : Int32)) 11 this 49)) ∧ Q M26)) M5) (sR M 11 this 45 (some (12, i3)))
def w_Model_tryDraft_L7 (this : Nat) (Q : Mem → Prop) (X : Mem → Prop) : Nat → Int32 → Int32 → Mem → Prop
  | 0, _, _, _ => False
  | n + 1, v1, v2, M => if v2 ≤ 0 then (w_Model_tryDraft_j30 this Q X v1 v2 M) else (vp_in (v2 - (1 : Int32)) (mL M 402 2) ∧ if (mI M 402 2 (v2 - (1 : Int32)).toNatClampNeg) = (10 : Int32) then (w_Model_tryDraft_j30 this Q X v1 v2 M) else ((w_Model_tryDraft_L7 this Q X n) v1 (v2 + (-1 : Int32)) M))
def w_Model_tryDraft (this : Nat) (a1 : Int32) (Q : Mem → Prop) (X : Mem → Prop) (M : Mem) : Prop :=
  ∃ n29 : Nat, w_Model_tryDraft_L7 this Q X n29 a1 ((mI M 11 this 123) - (1 : Int32)) M
set_option maxRecDepth 4096 in
theorem lk_Model_tryDraft_j196 {γ : Gm} (hγ : Gk γ) (this : Nat) (Q : Mem → Prop) (X : Mem → Prop) (s0 : Int32) (M : Mem) (h : w_Model_tryDraft_j196 this Q X s0 M) : E γ k_Model_tryDraft 135 196 [none, none, none, none] [vi s0, vr (some (11, this))] M (Qx (14, 0) (Qv Q) X) := by
  unfold w_Model_tryDraft_j196 at h
  refine E_blk (lv' := [none, none, none, none]) (st' := []) (M1 := (sI M 11 this 125 s0)) (pc' := 199) (tb_Model hγ) [.putfield 1326] (by decide +kernel) rfl rfl trivial ?_
  refine E_goto (off := 54) (tgt := 253) (by decide +kernel) (by decide) ?_
  exact (E_vret rfl (by decide +kernel) h).nx
set_option maxRecDepth 4096 in
theorem lk_Model_tryDraft_j152 {γ : Gm} (hγ : Gk γ) (this : Nat) (Q : Mem → Prop) (X : Mem → Prop) (v3 : Nat) (s0 : Int32) (M : Mem) (h : w_Model_tryDraft_j152 this Q X v3 s0 M) : E γ k_Model_tryDraft 135 152 [some (vr (some (11, this))), none, none, some (vr (some (13, v3)))] [vi s0, vr (some (11, this))] M (Qx (14, 0) (Qv Q) X) := by
  unfold w_Model_tryDraft_j152 at h
  refine E_blk (lv' := [some (vr (some (11, this))), none, none, some (vr (some (13, v3)))]) (st' := [vi (1 : Int32), vi (mI (sI M 11 this 124 s0) 13 v3 10), vr (some (11, this))]) (M1 := (sI M 11 this 124 s0)) (pc' := 161) (tb_Model hγ) [.putfield 1323, .aload_n 0, .aload_n 3, .getfield 974, .iconst 1] (by decide +kernel) rfl rfl trivial ?_
  refine E_icmp_ne (off := 10) (tgt := 171) (by decide +kernel) (by decide) (fun b21 => ?_) (fun b21 => ?_)
  · rw [if_pos b21] at h
    refine E_blk (lv' := [some (vr (some (11, this))), none, none, some (vr (some (13, v3)))]) (st' := [vi (mI (sI M 11 this 124 s0) 13 v3 11), vr (some (11, this))]) (M1 := (sI M 11 this 124 s0)) (pc' := 168) (tb_Model hγ) [.aload_n 3, .getfield 977] (by decide +kernel) rfl rfl trivial ?_
    refine E_goto (off := 28) (tgt := 196) (by decide +kernel) (by decide) ?_
    refine E_mask [false, false, false, false] rfl ?_
    exact lk_Model_tryDraft_j196 hγ this Q X (mI (sI M 11 this 124 s0) 13 v3 11) (sI M 11 this 124 s0) h
  · rw [if_neg b21] at h
    refine E_blk (lv' := [some (vr (some (11, this))), none, none, some (vr (some (13, v3)))]) (st' := [vi (3 : Int32), vi (mI (sI M 11 this 124 s0) 13 v3 10), vr (some (11, this))]) (M1 := (sI M 11 this 124 s0)) (pc' := 176) (tb_Model hγ) [.aload_n 3, .getfield 974, .iconst 3] (by decide +kernel) rfl rfl trivial ?_
    refine E_icmp_ne (off := 7) (tgt := 183) (by decide +kernel) (by decide) (fun b22 => ?_) (fun b22 => ?_)
    · rw [if_pos b22] at h
      refine E_blk (lv' := [some (vr (some (11, this))), none, none, some (vr (some (13, v3)))]) (st' := [vi (1 : Int32), vr (some (11, this))]) (M1 := (sI M 11 this 124 s0)) (pc' := 180) (tb_Model hγ) [.iconst 1] (by decide +kernel) rfl rfl trivial ?_
      refine E_goto (off := 16) (tgt := 196) (by decide +kernel) (by decide) ?_
      refine E_mask [false, false, false, false] rfl ?_
      exact lk_Model_tryDraft_j196 hγ this Q X (1 : Int32) (sI M 11 this 124 s0) h
    · rw [if_neg b22] at h
      refine E_blk (lv' := [some (vr (some (11, this))), none, none, some (vr (some (13, v3)))]) (st' := [vi (4 : Int32), vi (mI (sI M 11 this 124 s0) 13 v3 10), vr (some (11, this))]) (M1 := (sI M 11 this 124 s0)) (pc' := 188) (tb_Model hγ) [.aload_n 3, .getfield 974, .iconst 4] (by decide +kernel) rfl rfl trivial ?_
      refine E_icmp_ne (off := 7) (tgt := 195) (by decide +kernel) (by decide) (fun b23 => ?_) (fun b23 => ?_)
      · rw [if_pos b23] at h
        refine E_blk (lv' := [some (vr (some (11, this))), none, none, some (vr (some (13, v3)))]) (st' := [vi (2 : Int32), vr (some (11, this))]) (M1 := (sI M 11 this 124 s0)) (pc' := 192) (tb_Model hγ) [.iconst 2] (by decide +kernel) rfl rfl trivial ?_
        refine E_goto (off := 4) (tgt := 196) (by decide +kernel) (by decide) ?_
        refine E_mask [false, false, false, false] rfl ?_
        exact lk_Model_tryDraft_j196 hγ this Q X (2 : Int32) (sI M 11 this 124 s0) h
      · rw [if_neg b23] at h
        refine E_blk (lv' := [some (vr (some (11, this))), none, none, some (vr (some (13, v3)))]) (st' := [vi (0 : Int32), vr (some (11, this))]) (M1 := (sI M 11 this 124 s0)) (pc' := 196) (tb_Model hγ) [.iconst 0] (by decide +kernel) rfl rfl trivial ?_
        refine E_mask [false, false, false, false] rfl ?_
        exact lk_Model_tryDraft_j196 hγ this Q X (0 : Int32) (sI M 11 this 124 s0) h
set_option maxRecDepth 4096 in
theorem lk_Model_tryDraft_j241 {γ : Gm} (hγ : Gk γ) (this : Nat) (Q : Mem → Prop) (X : Mem → Prop) (s0 : Int32) (s1 : Int32) (M : Mem) (h : w_Model_tryDraft_j241 this Q X s0 s1 M) : E γ k_Model_tryDraft 135 241 [none, none, none, none] [vi s0, vi s1, vr (some (11, this))] M (Qx (14, 0) (Qv Q) X) := by
  unfold w_Model_tryDraft_j241 at h
  refine E_blk (lv' := [none, none, none, none]) (st' := []) (M1 := (sI M 11 this 125 (s1 + s0))) (pc' := 245) (tb_Model hγ) [.iadd, .putfield 1326] (by decide +kernel) rfl rfl trivial ?_
  refine E_goto (off := 8) (tgt := 253) (by decide +kernel) (by decide) ?_
  exact (E_vret rfl (by decide +kernel) h).nx
set_option maxRecDepth 4096 in
theorem lk_Model_tryDraft_j30 {γ : Gm} (hγ : Gk γ) (this : Nat) (Q : Mem → Prop) (X : Mem → Prop) (v1 : Int32) (v2 : Int32) (M : Mem) (h : w_Model_tryDraft_j30 this Q X v1 v2 M) : E γ k_Model_tryDraft 135 30 [some (vr (some (11, this))), some (vi v1), some (vi v2), none] [] M (Qx (14, 0) (Qv Q) X) := by
  unfold w_Model_tryDraft_j30 at h
  obtain ⟨c2, h⟩ := h
  refine E_blk (lv' := [some (vr (some (11, this))), some (vi v1), some (vi v2), none]) (st' := [vr (mR M 703 0 (3 : Int32).toNatClampNeg), vr (some (11, this))]) (M1 := M) (pc' := 37) (tb_Model hγ) [.aload_n 0, .aload_n 0, .getfield 263, .iconst 3, .aaload] (by decide +kernel) rfl rfl ⟨c2, trivial⟩ ?_
  obtain ⟨i3, ei3, h⟩ := h
  rw [ei3]
  refine E_blk (lv' := [some (vr (some (11, this))), some (vi v1), some (vi v2), none]) (st' := [vr (mR (sR M 11 this 45 (some (12, i3))) 11 this 45), vr (some (11, this))]) (M1 := (sR M 11 this 45 (some (12, i3)))) (pc' := 45) (tb_Model hγ) [.putfield 522, .aload_n 0, .aload_n 0, .getfield 522] (by decide +kernel) rfl rfl trivial ?_
  obtain ⟨i4, ei4, h⟩ := h
  rw [ei4]
  refine E_blk (lv' := [some (vr (some (11, this))), some (vi v1), some (vi v2), none]) (st' := [vi v1, vr (some (12, i4)), vr (some (11, this))]) (M1 := (sR M 11 this 45 (some (12, i3)))) (pc' := 46) (tb_Model hγ) [.iload_n 1] (by decide +kernel) rfl rfl trivial ?_
  refine E_callV (κ' := k_Model_beginWorld) (As := [vr (some (12, i4)), vi v1]) (st := []) mv_Model_beginWorld (Or.inl (tbk_mem (j := 14) (k := 182) rfl)) rfl (by decide +kernel) (Nat.le_of_ble_eq_true rfl) (Nat.le_of_ble_eq_true rfl) rfl (by decide) (lk_Model_beginWorld hγ this i4 v1 _ (sR M 11 this 45 (some (12, i3))) h) (fun _ _ => Qv_r) (fun v M5 hp => Qv_k (R := fun st => E γ k_Model_tryDraft 135 49 [some (vr (some (11, this))), some (vi v1), some (vi v2), none] st M5 (Qx (14, 0) (Qv Q) X)) hp (fun h => ?_))
  refine E_blk (lv' := [some (vr (some (11, this))), some (vi v1), some (vi v2), none]) (st' := [vi v2, vr (some (402, 2)), vr (some (11, this))]) (M1 := M5) (pc' := 55) (tb_Model hγ) [.aload_n 0, .aload_n 0, .getfield 387, .iload_n 2] (by decide +kernel) rfl rfl trivial ?_
  refine E_callV (κ' := k_Model_take) (As := [vr (some (402, 2)), vi v2]) (st := []) mv_Model_take (Or.inl (tbk_mem (j := 14) (k := 198) rfl)) rfl (by decide +kernel) (Nat.le_of_ble_eq_true rfl) (Nat.le_of_ble_eq_true rfl) rfl (by decide) (lk_Model_take hγ this 2 v2 _ M5 h) (fun _ _ => Qi_r) (fun v M6 hp => Qi_k (R := fun st => E γ k_Model_tryDraft 135 58 [some (vr (some (11, this))), some (vi v1), some (vi v2), none] st M6 (Qx (14, 0) (Qv Q) X)) hp (fun r7 h => ?_))
  refine E_if_ge (off := 17) (tgt := 75) (by decide +kernel) (by decide) (fun b8 => ?_) (fun b8 => ?_)
  · rw [if_pos b8] at h
    refine E_blk (lv' := [some (vr (some (11, this))), some (vi v1), some (vi v2), none]) (st' := [vi ((mI M6 11 this 123) - (1 : Int32)), vi v2, vr (some (402, 2)), vr (some (11, this))]) (M1 := M6) (pc' := 87) (tb_Model hγ) [.aload_n 0, .aload_n 0, .getfield 387, .iload_n 2, .aload_n 0, .getfield 1317, .iconst 1, .isub] (by decide +kernel) rfl rfl trivial ?_
    refine E_callV (κ' := k_Model_cutLine) (As := [vr (some (402, 2)), vi v2, vi ((mI M6 11 this 123) - (1 : Int32))]) (st := []) mv_Model_cutLine (Or.inl (tbk_mem (j := 14) (k := 202) rfl)) rfl (by decide +kernel) (Nat.le_of_ble_eq_true rfl) (Nat.le_of_ble_eq_true rfl) rfl (by decide) (lk_Model_cutLine hγ this 2 v2 ((mI M6 11 this 123) - (1 : Int32)) _ M6 h) (fun _ _ => Qi_r) (fun v M9 hp => Qi_k (R := fun st => E γ k_Model_tryDraft 135 90 [some (vr (some (11, this))), some (vi v1), some (vi v2), none] st M9 (Qx (14, 0) (Qv Q) X)) hp (fun r10 h => ?_))
    refine E_blk (lv' := [some (vr (some (11, this))), some (vi v1), some (vi v2), none]) (st' := [vi (mI M9 11 this 25), vr (some (11, this))]) (M1 := M9) (pc' := 96) (tb_Model hγ) [.pop, .aload_n 0, .aload_n 0, .getfield 237] (by decide +kernel) rfl rfl trivial ?_
    refine E_callX (κ' := k_Model_needWord) (As := [vi (mI M9 11 this 25)]) (st := []) mv_Model_needWord (Or.inl (tbk_mem (j := 15) (k := 11) rfl)) rfl (by decide +kernel) (Nat.le_of_ble_eq_true rfl) (Nat.le_of_ble_eq_true rfl) rfl (by decide) rfl (lk_Model_needWord hγ this (mI M9 11 this 25) _ _ M9 h) (fun _ _ => Qv_r) (fun _ h => h) (fun v M11 hp => Qv_k (R := fun st => E γ k_Model_tryDraft 135 99 [some (vr (some (11, this))), some (vi v1), some (vi v2), none] st M11 (Qx (14, 0) (Qv Q) X)) hp (fun h => ?_))
    refine E_blk (lv' := [some (vr (some (11, this))), some (vi v1), some (vi v2), none]) (st' := [vr (some (11, this))]) (M1 := M11) (pc' := 100) (tb_Model hγ) [.aload_n 0] (by decide +kernel) rfl rfl trivial ?_
    refine E_callX (κ' := k_Model_callWords) (As := []) (st := []) mv_Model_callWords (Or.inl (tbk_mem (j := 16) (k := 30) rfl)) rfl (by decide +kernel) (Nat.le_of_ble_eq_true rfl) (Nat.le_of_ble_eq_true rfl) rfl (by decide) rfl (lk_Model_callWords hγ this _ _ M11 h) (fun _ _ => Qv_r) (fun _ h => h) (fun v M12 hp => Qv_k (R := fun st => E γ k_Model_tryDraft 135 103 [some (vr (some (11, this))), some (vi v1), some (vi v2), none] st M12 (Qx (14, 0) (Qv Q) X)) hp (fun h => ?_))
    refine E_blk (lv' := [some (vr (some (11, this))), some (vi v1), some (vi v2), none]) (st' := [vr (mR M12 11 this 45)]) (M1 := M12) (pc' := 107) (tb_Model hγ) [.aload_n 0, .getfield 522] (by decide +kernel) rfl rfl trivial ?_
    obtain ⟨i13, ei13, h⟩ := h
    rw [ei13]
    obtain ⟨c14, h⟩ := h
    refine E_blk (lv' := [some (vr (some (11, this))), some (vi v1), some (vi v2), none]) (st' := [vr (mR M12 704 i13 (0 : Int32).toNatClampNeg)]) (M1 := M12) (pc' := 112) (tb_Model hγ) [.getfield 406, .iconst 0, .aaload] (by decide +kernel) rfl rfl ⟨c14, trivial⟩ ?_
    obtain ⟨i15, ei15, h⟩ := h
    rw [ei15]
    refine E_blk (lv' := [some (vr (some (11, this))), some (vi v1), some (vi v2), some (vr (some (13, i15)))]) (st' := [vr (some (13, i15)), vr (some (11, this))]) (M1 := M12) (pc' := 115) (tb_Model hγ) [.astore_n 3, .aload_n 0, .aload_n 3] (by decide +kernel) rfl rfl trivial ?_
    refine E_callV (κ' := k_Model_beginRun) (As := [vr (some (13, i15))]) (st := []) mv_Model_beginRun (Or.inl (tbk_mem (j := 16) (k := 38) rfl)) rfl (by decide +kernel) (Nat.le_of_ble_eq_true rfl) (Nat.le_of_ble_eq_true rfl) rfl (by decide) (lk_Model_beginRun hγ this i15 _ M12 h) (fun _ _ => Qv_r) (fun v M16 hp => Qv_k (R := fun st => E γ k_Model_tryDraft 135 118 [some (vr (some (11, this))), some (vi v1), some (vi v2), some (vr (some (13, i15)))] st M16 (Qx (14, 0) (Qv Q) X)) hp (fun h => ?_))
    refine E_blk (lv' := [some (vr (some (11, this))), some (vi v1), some (vi v2), some (vr (some (13, i15)))]) (st' := [vi (300 : Int32), vr (some (11, this))]) (M1 := M16) (pc' := 122) (tb_Model hγ) [.aload_n 0, .sipush 300] (by decide +kernel) rfl rfl trivial ?_
    refine E_callV (κ' := k_Model_goOn) (As := [vi (300 : Int32)]) (st := []) mv_Model_goOn (Or.inl (tbk_mem (j := 16) (k := 59) rfl)) rfl (by decide +kernel) (Nat.le_of_ble_eq_true rfl) (Nat.le_of_ble_eq_true rfl) rfl (by decide) (lk_Model_goOn hγ this (300 : Int32) _ M16 h) (fun _ _ => Qi_r) (fun v M17 hp => Qi_k (R := fun st => E γ k_Model_tryDraft 135 125 [some (vr (some (11, this))), some (vi v1), some (vi v2), some (vr (some (13, i15)))] st M17 (Qx (14, 0) (Qv Q) X)) hp (fun r18 h => ?_))
    refine E_blk (lv' := [some (vr (some (11, this))), some (vi v1), some (vi v2), some (vr (some (13, i15)))]) (st' := [vi (mI (sI M17 11 this 125 (0 : Int32)) 13 i15 0)]) (M1 := (sI M17 11 this 125 (0 : Int32))) (pc' := 135) (tb_Model hγ) [.pop, .aload_n 0, .iconst 0, .putfield 1326, .aload_n 3, .getfield 486] (by decide +kernel) rfl rfl trivial ?_
    refine E_if_ne (off := 67) (tgt := 202) (by decide +kernel) (by decide) (fun b19 => ?_) (fun b19 => ?_)
    · rw [if_pos b19] at h
      refine E_blk (lv' := [some (vr (some (11, this))), some (vi v1), some (vi v2), some (vr (some (13, i15)))]) (st' := [vi (1 : Int32), vi (mI (sI M17 11 this 125 (0 : Int32)) 13 i15 10), vr (some (11, this))]) (M1 := (sI M17 11 this 125 (0 : Int32))) (pc' := 144) (tb_Model hγ) [.aload_n 0, .aload_n 3, .getfield 974, .iconst 1] (by decide +kernel) rfl rfl trivial ?_
      refine E_icmp_ne (off := 7) (tgt := 151) (by decide +kernel) (by decide) (fun b20 => ?_) (fun b20 => ?_)
      · rw [if_pos b20] at h
        refine E_blk (lv' := [some (vr (some (11, this))), some (vi v1), some (vi v2), some (vr (some (13, i15)))]) (st' := [vi (2 : Int32), vr (some (11, this))]) (M1 := (sI M17 11 this 125 (0 : Int32))) (pc' := 148) (tb_Model hγ) [.iconst 2] (by decide +kernel) rfl rfl trivial ?_
        refine E_goto (off := 4) (tgt := 152) (by decide +kernel) (by decide) ?_
        refine E_mask [true, false, false, true] rfl ?_
        exact lk_Model_tryDraft_j152 hγ this Q X i15 (2 : Int32) (sI M17 11 this 125 (0 : Int32)) h
      · rw [if_neg b20] at h
        refine E_blk (lv' := [some (vr (some (11, this))), some (vi v1), some (vi v2), some (vr (some (13, i15)))]) (st' := [vi (3 : Int32), vr (some (11, this))]) (M1 := (sI M17 11 this 125 (0 : Int32))) (pc' := 152) (tb_Model hγ) [.iconst 3] (by decide +kernel) rfl rfl trivial ?_
        refine E_mask [true, false, false, true] rfl ?_
        exact lk_Model_tryDraft_j152 hγ this Q X i15 (3 : Int32) (sI M17 11 this 125 (0 : Int32)) h
    · rw [if_neg b19] at h
      refine E_blk (lv' := [some (vr (some (11, this))), some (vi v1), some (vi v2), some (vr (some (13, i15)))]) (st' := [vi (2 : Int32), vi (mI (sI M17 11 this 125 (0 : Int32)) 13 i15 0)]) (M1 := (sI M17 11 this 125 (0 : Int32))) (pc' := 207) (tb_Model hγ) [.aload_n 3, .getfield 486, .iconst 2] (by decide +kernel) rfl rfl trivial ?_
      refine E_icmp_ne (off := 41) (tgt := 248) (by decide +kernel) (by decide) (fun b24 => ?_) (fun b24 => ?_)
      · rw [if_pos b24] at h
        refine E_blk (lv' := [some (vr (some (11, this))), some (vi v1), some (vi v2), some (vr (some (13, i15)))]) (st' := [vi (21 : Int32), vi (mI (sI (sI M17 11 this 125 (0 : Int32)) 11 this 124 (4 : Int32)) 13 i15 12), vi ((100 : Int32) * (mI (sI (sI M17 11 this 125 (0 : Int32)) 11 this 124 (4 : Int32)) 13 i15 13)), vr (some (11, this))]) (M1 := (sI (sI M17 11 this 125 (0 : Int32)) 11 this 124 (4 : Int32))) (pc' := 229) (tb_Model hγ) [.aload_n 0, .iconst 4, .putfield 1323, .aload_n 0, .bipush 100, .aload_n 3, .getfield 983, .imul, .aload_n 3, .getfield 980, .bipush 21] (by decide +kernel) rfl rfl trivial ?_
        refine E_icmp_ge (off := 10) (tgt := 239) (by decide +kernel) (by decide) (fun b25 => ?_) (fun b25 => ?_)
        · rw [if_pos b25] at h
          refine E_blk (lv' := [some (vr (some (11, this))), some (vi v1), some (vi v2), some (vr (some (13, i15)))]) (st' := [vi (99 : Int32), vi ((100 : Int32) * (mI (sI (sI M17 11 this 125 (0 : Int32)) 11 this 124 (4 : Int32)) 13 i15 13)), vr (some (11, this))]) (M1 := (sI (sI M17 11 this 125 (0 : Int32)) 11 this 124 (4 : Int32))) (pc' := 241) (tb_Model hγ) [.bipush 99] (by decide +kernel) rfl rfl trivial ?_
          refine E_mask [false, false, false, false] rfl ?_
          exact lk_Model_tryDraft_j241 hγ this Q X (99 : Int32) ((100 : Int32) * (mI (sI (sI M17 11 this 125 (0 : Int32)) 11 this 124 (4 : Int32)) 13 i15 13)) (sI (sI M17 11 this 125 (0 : Int32)) 11 this 124 (4 : Int32)) h
        · rw [if_neg b25] at h
          refine E_blk (lv' := [some (vr (some (11, this))), some (vi v1), some (vi v2), some (vr (some (13, i15)))]) (st' := [vi (mI (sI (sI M17 11 this 125 (0 : Int32)) 11 this 124 (4 : Int32)) 13 i15 12), vi ((100 : Int32) * (mI (sI (sI M17 11 this 125 (0 : Int32)) 11 this 124 (4 : Int32)) 13 i15 13)), vr (some (11, this))]) (M1 := (sI (sI M17 11 this 125 (0 : Int32)) 11 this 124 (4 : Int32))) (pc' := 236) (tb_Model hγ) [.aload_n 3, .getfield 980] (by decide +kernel) rfl rfl trivial ?_
          refine E_goto (off := 5) (tgt := 241) (by decide +kernel) (by decide) ?_
          refine E_mask [false, false, false, false] rfl ?_
          exact lk_Model_tryDraft_j241 hγ this Q X (mI (sI (sI M17 11 this 125 (0 : Int32)) 11 this 124 (4 : Int32)) 13 i15 12) ((100 : Int32) * (mI (sI (sI M17 11 this 125 (0 : Int32)) 11 this 124 (4 : Int32)) 13 i15 13)) (sI (sI M17 11 this 125 (0 : Int32)) 11 this 124 (4 : Int32)) h
      · rw [if_neg b24] at h
        refine E_blk (lv' := [some (vr (some (11, this))), some (vi v1), some (vi v2), some (vr (some (13, i15)))]) (st' := []) (M1 := (sI (sI M17 11 this 125 (0 : Int32)) 11 this 124 (5 : Int32))) (pc' := 253) (tb_Model hγ) [.aload_n 0, .iconst 5, .putfield 1323] (by decide +kernel) rfl rfl trivial ?_
        exact (E_vret rfl (by decide +kernel) h).nx
  · rw [if_neg b8] at h
    refine E_blk (lv' := [some (vr (some (11, this))), some (vi v1), some (vi v2), none]) (st' := []) (M1 := (sI (sI M6 11 this 124 (1 : Int32)) 11 this 125 (mI (sI M6 11 this 124 (1 : Int32)) 11 this 49))) (pc' := 74) (tb_Model hγ) [.aload_n 0, .iconst 1, .putfield 1323, .aload_n 0, .aload_n 0, .getfield 526, .putfield 1326] (by decide +kernel) rfl rfl trivial ?_
    obtain ⟨M26, eM26, h⟩ := h
    rw [← eM26]
    exact (E_vret rfl (by decide +kernel) h).nx
set_option maxRecDepth 4096 in
theorem lk_Model_tryDraft_L7 {γ : Gm} (hγ : Gk γ) (this : Nat) (Q : Mem → Prop) (X : Mem → Prop) : ∀ (n : Nat) (v1 : Int32) (v2 : Int32) (M : Mem), w_Model_tryDraft_L7 this Q X n v1 v2 M → E γ k_Model_tryDraft 135 7 [some (vr (some (11, this))), some (vi v1), some (vi v2), none] [] M (Qx (14, 0) (Qv Q) X) := by
  intro n
  induction n with
  | zero => intro v1 v2 M h; exact h.elim
  | succ n ih =>
    intro v1 v2 M h
    unfold w_Model_tryDraft_L7 at h
    refine E_blk (lv' := [some (vr (some (11, this))), some (vi v1), some (vi v2), none]) (st' := [vi v2]) (M1 := M) (pc' := 8) (tb_Model hγ) [.iload_n 2] (by decide +kernel) rfl rfl trivial ?_
    refine E_if_le (off := 22) (tgt := 30) (by decide +kernel) (by decide) (fun b1 => ?_) (fun b1 => ?_)
    · rw [if_pos b1] at h
      refine E_mask [true, true, true, false] rfl ?_
      exact lk_Model_tryDraft_j30 hγ this Q X v1 v2 M h
    · rw [if_neg b1] at h
      obtain ⟨c27, h⟩ := h
      refine E_blk (lv' := [some (vr (some (11, this))), some (vi v1), some (vi v2), none]) (st' := [vi (10 : Int32), vi (mI M 402 2 (v2 - (1 : Int32)).toNatClampNeg)]) (M1 := M) (pc' := 21) (tb_Model hγ) [.aload_n 0, .getfield 387, .iload_n 2, .iconst 1, .isub, .baload, .bipush 10] (by decide +kernel) rfl rfl ⟨c27, trivial⟩ ?_
      refine E_icmp_eq (off := 9) (tgt := 30) (by decide +kernel) (by decide) (fun b28 => ?_) (fun b28 => ?_)
      · rw [if_pos b28] at h
        refine E_mask [true, true, true, false] rfl ?_
        exact lk_Model_tryDraft_j30 hγ this Q X v1 v2 M h
      · rw [if_neg b28] at h
        refine E_blk (lv' := [some (vr (some (11, this))), some (vi v1), some (vi (v2 + (-1 : Int32))), none]) (st' := []) (M1 := M) (pc' := 27) (tb_Model hγ) [.iinc 2 (.negSucc 0)] (by decide +kernel) rfl rfl trivial ?_
        refine E_goto (off := -20) (tgt := 7) (by decide +kernel) (by decide) ?_
        refine E_mask [true, true, true, false] rfl ?_
        exact ih v1 (v2 + (-1 : Int32)) M h
set_option maxRecDepth 4096 in
theorem lk_Model_tryDraft {γ : Gm} (hγ : Gk γ) (this : Nat) (a1 : Int32) (Q : Mem → Prop) (X : Mem → Prop) (M : Mem) (h : w_Model_tryDraft this a1 Q X M) : E γ k_Model_tryDraft 135 0 [some (vr (some (11, this))), some (vi a1), none, none] [] M (Qx (14, 0) (Qv Q) X) := by
  unfold w_Model_tryDraft at h
  refine E_blk (lv' := [some (vr (some (11, this))), some (vi a1), some (vi ((mI M 11 this 123) - (1 : Int32))), none]) (st' := []) (M1 := M) (pc' := 7) (tb_Model hγ) [.aload_n 0, .getfield 1317, .iconst 1, .isub, .istore_n 2] (by decide +kernel) rfl rfl trivial ?_
  obtain ⟨n29, h⟩ := h
  refine E_mask [true, true, true, false] rfl ?_
  exact lk_Model_tryDraft_L7 hγ this Q X n29 a1 ((mI M 11 this 123) - (1 : Int32)) M h
def w_Model_draftTrial (this : Nat) (a1 : Int32) (Q : Mem → Prop) (M : Mem) : Prop :=
  vp_in a1 (mL M 122 this) ∧ ¬ ((1204 : Int32) * a1) < 0 ∧ ¬ (0 : Int32) < 0 ∧ ¬ (mI (sI M 11 this 123 (mI M 122 this a1.toNatClampNeg)) 11 this 123) < 0 ∧ ((1204 : Int32) * a1).toNatClampNeg + (mI (sI M 11 this 123 (mI M 122 this a1.toNatClampNeg)) 11 this 123).toNatClampNeg ≤ mL (sI M 11 this 123 (mI M 122 this a1.toNatClampNeg)) 412 this ∧ (0 : Int32).toNatClampNeg + (mI (sI M 11 this 123 (mI M 122 this a1.toNatClampNeg)) 11 this 123).toNatClampNeg ≤ mL (sI M 11 this 123 (mI M 122 this a1.toNatClampNeg)) 402 2 ∧ ∃ M2, M2 = cpI (sI M 11 this 123 (mI M 122 this a1.toNatClampNeg)) 412 this ((1204 : Int32) * a1).toNatClampNeg 402 2 (0 : Int32).toNatClampNeg (mI (sI M 11 this 123 (mI M 122 this a1.toNatClampNeg)) 11 this 123).toNatClampNeg ∧ Q M2
set_option maxRecDepth 4096 in
theorem lk_Model_draftTrial {γ : Gm} (hγ : Gk γ) (this : Nat) (a1 : Int32) (Q : Mem → Prop) (M : Mem) (h : w_Model_draftTrial this a1 Q M) : E γ k_Model_draftTrial 1 0 [some (vr (some (11, this))), some (vi a1)] [] M (Qv Q) := by
  unfold w_Model_draftTrial at h
  obtain ⟨c1, h⟩ := h
  refine E_blk (lv' := [some (vr (some (11, this))), some (vi a1)]) (st' := [vi (mI (sI M 11 this 123 (mI M 122 this a1.toNatClampNeg)) 11 this 123), vi (0 : Int32), vr (some (402, 2)), vi ((1204 : Int32) * a1), vr (some (412, this))]) (M1 := (sI M 11 this 123 (mI M 122 this a1.toNatClampNeg))) (pc' := 28) (tb_Model hγ) [.aload_n 0, .aload_n 0, .getfield 375, .iload_n 1, .iaload, .putfield 1317, .aload_n 0, .getfield 372, .sipush 1204, .iload_n 1, .imul, .aload_n 0, .getfield 387, .iconst 0, .aload_n 0, .getfield 1317] (by decide +kernel) rfl rfl ⟨c1, trivial⟩ ?_
  obtain ⟨c3, c4, c5, c6, c7, M2, eM2, h⟩ := h
  refine E_copy (pc := 28) (κ := k_Model_draftTrial) (f := 412) (i := this) (g := 402) (j := 2) (sp := ((1204 : Int32) * a1)) (dp := (0 : Int32)) (n := (mI (sI M 11 this 123 (mI M 122 this a1.toNatClampNeg)) 11 this 123)) (idx := 11) (st := []) c3 c4 c5 c6 c7 (by decide) (by decide) rfl (by decide) (tbk_mem (j := 11) (k := 65) rfl) (by decide +kernel) (Nat.le_of_ble_eq_true rfl) ?_
  rw [← eM2]
  exact E_vret rfl (by decide +kernel) h
def w_Model_isTrial (this : Nat) (a1 : Int32) (Q : Int32 → Mem → Prop) (M : Mem) : Prop :=
  if a1 < 0 then (Q (0 : Int32) M) else (if (mI M 11 this 121) ≤ a1 then (Q (0 : Int32) M) else (Q (1 : Int32) M))
set_option maxRecDepth 4096 in
theorem lk_Model_isTrial {γ : Gm} (hγ : Gk γ) (this : Nat) (a1 : Int32) (Q : Int32 → Mem → Prop) (M : Mem) (h : w_Model_isTrial this a1 Q M) : E γ k_Model_isTrial 0 0 [some (vr (some (11, this))), some (vi a1)] [] M (Qi Q) := by
  unfold w_Model_isTrial at h
  refine E_blk (lv' := [some (vr (some (11, this))), some (vi a1)]) (st' := [vi a1]) (M1 := M) (pc' := 1) (tb_Model hγ) [.iload_n 1] (by decide +kernel) rfl rfl trivial ?_
  refine E_if_lt (off := 15) (tgt := 16) (by decide +kernel) (by decide) (fun b1 => ?_) (fun b1 => ?_)
  · rw [if_pos b1] at h
    refine E_blk (lv' := [some (vr (some (11, this))), some (vi a1)]) (st' := [vi (0 : Int32)]) (M1 := M) (pc' := 17) (tb_Model hγ) [.iconst 0] (by decide +kernel) rfl rfl trivial ?_
    exact E_zret rfl (Or.inl rfl) (by decide +kernel) h
  · rw [if_neg b1] at h
    refine E_blk (lv' := [some (vr (some (11, this))), some (vi a1)]) (st' := [vi (mI M 11 this 121), vi a1]) (M1 := M) (pc' := 9) (tb_Model hγ) [.iload_n 1, .aload_n 0, .getfield 1314] (by decide +kernel) rfl rfl trivial ?_
    refine E_icmp_ge (off := 7) (tgt := 16) (by decide +kernel) (by decide) (fun b2 => ?_) (fun b2 => ?_)
    · rw [if_pos b2] at h
      refine E_blk (lv' := [some (vr (some (11, this))), some (vi a1)]) (st' := [vi (0 : Int32)]) (M1 := M) (pc' := 17) (tb_Model hγ) [.iconst 0] (by decide +kernel) rfl rfl trivial ?_
      exact E_zret rfl (Or.inl rfl) (by decide +kernel) h
    · rw [if_neg b2] at h
      refine E_blk (lv' := [some (vr (some (11, this))), some (vi a1)]) (st' := [vi (1 : Int32)]) (M1 := M) (pc' := 13) (tb_Model hγ) [.iconst 1] (by decide +kernel) rfl rfl trivial ?_
      refine E_goto (off := 4) (tgt := 17) (by decide +kernel) (by decide) ?_
      exact E_zret rfl (Or.inr rfl) (by decide +kernel) h
def w_Model_outcome (this : Nat) (a1 : Int32) (a2 : Int32) (a3 : Int32) (Q : Int32 → Mem → Prop) (X : Mem → Prop) (M : Mem) : Prop :=
  w_Model_isTrial this a1 (fun r2 M1 => if r2 = 0 then (Q (-1 : Int32) M1) else (if a2 < 0 then (Q (-1 : Int32) M1) else (if (255 : Int32) < a2 then (Q (-1 : Int32) M1) else (if a3 < 0 then (Q (-1 : Int32) M1) else (if a3 ≤ (1 : Int32) then (w_Model_draftTrial this a1 (fun M8 => w_Model_tryDraft this a2 (fun M9 => if a3 = 0 then (Q (mI M9 11 this 124) M9) else (Q (mI M9 11 this 125) M9)) X M8) M1) else (Q (-1 : Int32) M1)))))) M
set_option maxRecDepth 4096 in
theorem lk_Model_outcome {γ : Gm} (hγ : Gk γ) (this : Nat) (a1 : Int32) (a2 : Int32) (a3 : Int32) (Q : Int32 → Mem → Prop) (X : Mem → Prop) (M : Mem) (h : w_Model_outcome this a1 a2 a3 Q X M) : E γ k_Model_outcome 136 0 [some (vr (some (11, this))), some (vi a1), some (vi a2), some (vi a3)] [] M (Qx (14, 0) (Qi Q) X) := by
  unfold w_Model_outcome at h
  refine E_blk (lv' := [some (vr (some (11, this))), some (vi a1), some (vi a2), some (vi a3)]) (st' := [vi a1, vr (some (11, this))]) (M1 := M) (pc' := 2) (tb_Model hγ) [.aload_n 0, .iload_n 1] (by decide +kernel) rfl rfl trivial ?_
  refine E_callV (κ' := k_Model_isTrial) (As := [vi a1]) (st := []) mv_Model_isTrial (Or.inl (tbk_mem (j := 17) (k := 212) rfl)) rfl (by decide +kernel) (Nat.le_of_ble_eq_true rfl) (Nat.le_of_ble_eq_true rfl) rfl (by decide) (lk_Model_isTrial hγ this a1 _ M h) (fun _ _ => Qi_r) (fun v M1 hp => Qi_k (R := fun st => E γ k_Model_outcome 136 5 [some (vr (some (11, this))), some (vi a1), some (vi a2), some (vi a3)] st M1 (Qx (14, 0) (Qi Q) X)) hp (fun r2 h => ?_))
  refine E_if_eq (off := 23) (tgt := 28) (by decide +kernel) (by decide) (fun b3 => ?_) (fun b3 => ?_)
  · rw [if_pos b3] at h
    refine E_blk (lv' := [some (vr (some (11, this))), some (vi a1), some (vi a2), some (vi a3)]) (st' := [vi (-1 : Int32)]) (M1 := M1) (pc' := 29) (tb_Model hγ) [.iconst (.negSucc 0)] (by decide +kernel) rfl rfl trivial ?_
    exact (E_iret rfl (by decide +kernel) h).nx
  · rw [if_neg b3] at h
    refine E_blk (lv' := [some (vr (some (11, this))), some (vi a1), some (vi a2), some (vi a3)]) (st' := [vi a2]) (M1 := M1) (pc' := 9) (tb_Model hγ) [.iload_n 2] (by decide +kernel) rfl rfl trivial ?_
    refine E_if_lt (off := 19) (tgt := 28) (by decide +kernel) (by decide) (fun b4 => ?_) (fun b4 => ?_)
    · rw [if_pos b4] at h
      refine E_blk (lv' := [some (vr (some (11, this))), some (vi a1), some (vi a2), some (vi a3)]) (st' := [vi (-1 : Int32)]) (M1 := M1) (pc' := 29) (tb_Model hγ) [.iconst (.negSucc 0)] (by decide +kernel) rfl rfl trivial ?_
      exact (E_iret rfl (by decide +kernel) h).nx
    · rw [if_neg b4] at h
      refine E_blk (lv' := [some (vr (some (11, this))), some (vi a1), some (vi a2), some (vi a3)]) (st' := [vi (255 : Int32), vi a2]) (M1 := M1) (pc' := 16) (tb_Model hγ) [.iload_n 2, .sipush 255] (by decide +kernel) rfl rfl trivial ?_
      refine E_icmp_gt (off := 12) (tgt := 28) (by decide +kernel) (by decide) (fun b5 => ?_) (fun b5 => ?_)
      · rw [if_pos b5] at h
        refine E_blk (lv' := [some (vr (some (11, this))), some (vi a1), some (vi a2), some (vi a3)]) (st' := [vi (-1 : Int32)]) (M1 := M1) (pc' := 29) (tb_Model hγ) [.iconst (.negSucc 0)] (by decide +kernel) rfl rfl trivial ?_
        exact (E_iret rfl (by decide +kernel) h).nx
      · rw [if_neg b5] at h
        refine E_blk (lv' := [some (vr (some (11, this))), some (vi a1), some (vi a2), some (vi a3)]) (st' := [vi a3]) (M1 := M1) (pc' := 20) (tb_Model hγ) [.iload_n 3] (by decide +kernel) rfl rfl trivial ?_
        refine E_if_lt (off := 8) (tgt := 28) (by decide +kernel) (by decide) (fun b6 => ?_) (fun b6 => ?_)
        · rw [if_pos b6] at h
          refine E_blk (lv' := [some (vr (some (11, this))), some (vi a1), some (vi a2), some (vi a3)]) (st' := [vi (-1 : Int32)]) (M1 := M1) (pc' := 29) (tb_Model hγ) [.iconst (.negSucc 0)] (by decide +kernel) rfl rfl trivial ?_
          exact (E_iret rfl (by decide +kernel) h).nx
        · rw [if_neg b6] at h
          refine E_blk (lv' := [some (vr (some (11, this))), some (vi a1), some (vi a2), some (vi a3)]) (st' := [vi (1 : Int32), vi a3]) (M1 := M1) (pc' := 25) (tb_Model hγ) [.iload_n 3, .iconst 1] (by decide +kernel) rfl rfl trivial ?_
          refine E_icmp_le (off := 5) (tgt := 30) (by decide +kernel) (by decide) (fun b7 => ?_) (fun b7 => ?_)
          · rw [if_pos b7] at h
            refine E_blk (lv' := [some (vr (some (11, this))), some (vi a1), some (vi a2), some (vi a3)]) (st' := [vi a1, vr (some (11, this))]) (M1 := M1) (pc' := 32) (tb_Model hγ) [.aload_n 0, .iload_n 1] (by decide +kernel) rfl rfl trivial ?_
            refine E_callV (κ' := k_Model_draftTrial) (As := [vi a1]) (st := []) mv_Model_draftTrial (Or.inl (tbk_mem (j := 17) (k := 216) rfl)) rfl (by decide +kernel) (Nat.le_of_ble_eq_true rfl) (Nat.le_of_ble_eq_true rfl) rfl (by decide) (lk_Model_draftTrial hγ this a1 _ M1 h) (fun _ _ => Qv_r) (fun v M8 hp => Qv_k (R := fun st => E γ k_Model_outcome 136 35 [some (vr (some (11, this))), some (vi a1), some (vi a2), some (vi a3)] st M8 (Qx (14, 0) (Qi Q) X)) hp (fun h => ?_))
            refine E_blk (lv' := [some (vr (some (11, this))), some (vi a1), some (vi a2), some (vi a3)]) (st' := [vi a2, vr (some (11, this))]) (M1 := M8) (pc' := 37) (tb_Model hγ) [.aload_n 0, .iload_n 2] (by decide +kernel) rfl rfl trivial ?_
            refine E_callX (κ' := k_Model_tryDraft) (As := [vi a2]) (st := []) mv_Model_tryDraft (Or.inl (tbk_mem (j := 17) (k := 220) rfl)) rfl (by decide +kernel) (Nat.le_of_ble_eq_true rfl) (Nat.le_of_ble_eq_true rfl) rfl (by decide) rfl (lk_Model_tryDraft hγ this a2 _ _ M8 h) (fun _ _ => Qv_r) (fun _ h => h) (fun v M9 hp => Qv_k (R := fun st => E γ k_Model_outcome 136 40 [some (vr (some (11, this))), some (vi a1), some (vi a2), some (vi a3)] st M9 (Qx (14, 0) (Qi Q) X)) hp (fun h => ?_))
            refine E_blk (lv' := [some (vr (some (11, this))), some (vi a1), some (vi a2), some (vi a3)]) (st' := [vi a3]) (M1 := M9) (pc' := 41) (tb_Model hγ) [.iload_n 3] (by decide +kernel) rfl rfl trivial ?_
            refine E_if_ne (off := 10) (tgt := 51) (by decide +kernel) (by decide) (fun b10 => ?_) (fun b10 => ?_)
            · rw [if_pos b10] at h
              refine E_blk (lv' := [some (vr (some (11, this))), some (vi a1), some (vi a2), some (vi a3)]) (st' := [vi (mI M9 11 this 124)]) (M1 := M9) (pc' := 48) (tb_Model hγ) [.aload_n 0, .getfield 1323] (by decide +kernel) rfl rfl trivial ?_
              refine E_goto (off := 7) (tgt := 55) (by decide +kernel) (by decide) ?_
              exact (E_iret rfl (by decide +kernel) h).nx
            · rw [if_neg b10] at h
              refine E_blk (lv' := [some (vr (some (11, this))), some (vi a1), some (vi a2), some (vi a3)]) (st' := [vi (mI M9 11 this 125)]) (M1 := M9) (pc' := 55) (tb_Model hγ) [.aload_n 0, .getfield 1326] (by decide +kernel) rfl rfl trivial ?_
              exact (E_iret rfl (by decide +kernel) h).nx
          · rw [if_neg b7] at h
            refine E_blk (lv' := [some (vr (some (11, this))), some (vi a1), some (vi a2), some (vi a3)]) (st' := [vi (-1 : Int32)]) (M1 := M1) (pc' := 29) (tb_Model hγ) [.iconst (.negSucc 0)] (by decide +kernel) rfl rfl trivial ?_
            exact (E_iret rfl (by decide +kernel) h).nx
def w_Model_look_j114 (this : Nat) (Q : Mem → Prop) (X : Mem → Prop) (k68 : Int32 → Int32 → Int32 → Int32 → Mem → Prop) (v1 : Int32) (v2 : Int32) (v3 : Int32) (v4 : Int32) (s0 : Int32) (s1 : Int32) (s2 : Int32) (M : Mem) : Prop :=
  vp_in s2 (mL M 124 this) ∧ k68 v1 v2 v3 (v4 + (1 : Int32)) (sI M 124 this s2.toNatClampNeg (s1 ||| s0))
def w_Model_look_j106 (this : Nat) (Q : Mem → Prop) (X : Mem → Prop) (k68 : Int32 → Int32 → Int32 → Int32 → Mem → Prop) (v1 : Int32) (v2 : Int32) (v3 : Int32) (v4 : Int32) (s0 : Int32) (s1 : Int32) (M : Mem) : Prop :=
  w_Model_look_j114 this Q X k68 v1 v2 v3 v4 ((1 : Int32) <<< (v4 &&& 31)) s0 s1 M
def w_Model_look_L68 (this : Nat) (Q : Mem → Prop) (X : Mem → Prop) : Nat → Int32 → Int32 → Int32 → Int32 → Mem → Prop
  | 0, _, _, _, _, _ => False
  | n + 1, v1, v2, v3, v4, M => if (8 : Int32) ≤ v4 then (vp_in v1 (mL M 522 this) ∧ Q (sI M 522 this v1.toNatClampNeg ((1 : Int32) &&& 1))) else (w_Model_tryDraft this ((1 : Int32) <<< (v4 &&& 31)) (fun M11 => vp_in v1 (mL M11 124 this) ∧ if (mI M11 11 this 124) = v2 then (if (mI M11 11 this 125) = v3 then (w_Model_look_j114 this Q X (w_Model_look_L68 this Q X n) v1 v2 v3 v4 (0 : Int32) (mI M11 124 this v1.toNatClampNeg) v1 M11) else (w_Model_look_j106 this Q X (w_Model_look_L68 this Q X n) v1 v2 v3 v4 (mI M11 124 this v1.toNatClampNeg) v1 M11)) else (w_Model_look_j106 this Q X (w_Model_look_L68 this Q X n) v1 v2 v3 v4 (mI M11 124 this v1.toNatClampNeg) v1 M11)) X M)
def w_Model_look_j57 (this : Nat) (Q : Mem → Prop) (X : Mem → Prop) (v1 : Int32) (v2 : Int32) (v3 : Int32) (s0 : Int32) (s1 : Int32) (M : Mem) : Prop :=
  vp_in s1 (mL M 123 this) ∧ vp_in v1 (mL (sI M 123 this s1.toNatClampNeg s0) 124 this) ∧ ∃ M8, M8 = (sI (sI M 123 this s1.toNatClampNeg s0) 124 this v1.toNatClampNeg (0 : Int32)) ∧ ∃ n16 : Nat, w_Model_look_L68 this Q X n16 v1 v2 v3 (0 : Int32) M8
def w_Model_look (this : Nat) (a1 : Int32) (Q : Mem → Prop) (X : Mem → Prop) (M : Mem) : Prop :=
  vp_in a1 (mL M 522 this) ∧ if (mI M 522 this a1.toNatClampNeg) = 0 then (w_Model_draftTrial this a1 (fun M3 => w_Model_tryDraft this (0 : Int32) (fun M4 => if (mI M4 11 this 124) = (1 : Int32) then (w_Model_look_j57 this Q X a1 (mI M4 11 this 124) (mI M4 11 this 125) (mI M4 11 this 125) a1 M4) else (if (mI M4 11 this 124) = (4 : Int32) then (¬ (100 : Int32) = 0 ∧ w_Model_look_j57 this Q X a1 (mI M4 11 this 124) (mI M4 11 this 125) ((mI M4 11 this 125) / (100 : Int32)) a1 M4) else (w_Model_look_j57 this Q X a1 (mI M4 11 this 124) (mI M4 11 this 125) (0 : Int32) a1 M4))) X M3) M) else (Q M)
set_option maxRecDepth 4096 in
theorem lk_Model_look_j114 {γ : Gm} (hγ : Gk γ) (this : Nat) (Q : Mem → Prop) (X : Mem → Prop) (k68 : Int32 → Int32 → Int32 → Int32 → Mem → Prop) (hk68 : ∀ (v1 : Int32) (v2 : Int32) (v3 : Int32) (v4 : Int32) (M : Mem), k68 v1 v2 v3 v4 M → E γ k_Model_look 136 68 [some (vr (some (11, this))), some (vi v1), some (vi v2), some (vi v3), some (vi v4)] [] M (Qx (14, 0) (Qv Q) X)) (v1 : Int32) (v2 : Int32) (v3 : Int32) (v4 : Int32) (s0 : Int32) (s1 : Int32) (s2 : Int32) (M : Mem) (h : w_Model_look_j114 this Q X k68 v1 v2 v3 v4 s0 s1 s2 M) : E γ k_Model_look 136 114 [some (vr (some (11, this))), some (vi v1), some (vi v2), some (vi v3), some (vi v4)] [vi s0, vi s1, vi s2, vr (some (124, this))] M (Qx (14, 0) (Qv Q) X) := by
  unfold w_Model_look_j114 at h
  obtain ⟨c15, h⟩ := h
  refine E_blk (lv' := [some (vr (some (11, this))), some (vi v1), some (vi v2), some (vi v3), some (vi (v4 + (1 : Int32)))]) (st' := []) (M1 := (sI M 124 this s2.toNatClampNeg (s1 ||| s0))) (pc' := 119) (tb_Model hγ) [.ior, .iastore, .iinc 4 1] (by decide +kernel) rfl rfl ⟨c15, trivial⟩ ?_
  refine E_goto (off := -51) (tgt := 68) (by decide +kernel) (by decide) ?_
  refine E_mask [true, true, true, true, true] rfl ?_
  exact hk68 v1 v2 v3 (v4 + (1 : Int32)) (sI M 124 this s2.toNatClampNeg (s1 ||| s0)) h
set_option maxRecDepth 4096 in
theorem lk_Model_look_j106 {γ : Gm} (hγ : Gk γ) (this : Nat) (Q : Mem → Prop) (X : Mem → Prop) (k68 : Int32 → Int32 → Int32 → Int32 → Mem → Prop) (hk68 : ∀ (v1 : Int32) (v2 : Int32) (v3 : Int32) (v4 : Int32) (M : Mem), k68 v1 v2 v3 v4 M → E γ k_Model_look 136 68 [some (vr (some (11, this))), some (vi v1), some (vi v2), some (vi v3), some (vi v4)] [] M (Qx (14, 0) (Qv Q) X)) (v1 : Int32) (v2 : Int32) (v3 : Int32) (v4 : Int32) (s0 : Int32) (s1 : Int32) (M : Mem) (h : w_Model_look_j106 this Q X k68 v1 v2 v3 v4 s0 s1 M) : E γ k_Model_look 136 106 [some (vr (some (11, this))), some (vi v1), some (vi v2), some (vi v3), some (vi v4)] [vi s0, vi s1, vr (some (124, this))] M (Qx (14, 0) (Qv Q) X) := by
  unfold w_Model_look_j106 at h
  refine E_blk (lv' := [some (vr (some (11, this))), some (vi v1), some (vi v2), some (vi v3), some (vi v4)]) (st' := [vi ((1 : Int32) <<< (v4 &&& 31)), vi s0, vi s1, vr (some (124, this))]) (M1 := M) (pc' := 110) (tb_Model hγ) [.iconst 1, .iload 4, .ishl] (by decide +kernel) rfl rfl trivial ?_
  refine E_goto (off := 4) (tgt := 114) (by decide +kernel) (by decide) ?_
  refine E_mask [true, true, true, true, true] rfl ?_
  exact lk_Model_look_j114 hγ this Q X k68 hk68 v1 v2 v3 v4 ((1 : Int32) <<< (v4 &&& 31)) s0 s1 M h
set_option maxRecDepth 4096 in
theorem lk_Model_look_L68 {γ : Gm} (hγ : Gk γ) (this : Nat) (Q : Mem → Prop) (X : Mem → Prop) : ∀ (n : Nat) (v1 : Int32) (v2 : Int32) (v3 : Int32) (v4 : Int32) (M : Mem), w_Model_look_L68 this Q X n v1 v2 v3 v4 M → E γ k_Model_look 136 68 [some (vr (some (11, this))), some (vi v1), some (vi v2), some (vi v3), some (vi v4)] [] M (Qx (14, 0) (Qv Q) X) := by
  intro n
  induction n with
  | zero => intro v1 v2 v3 v4 M h; exact h.elim
  | succ n ih =>
    intro v1 v2 v3 v4 M h
    unfold w_Model_look_L68 at h
    refine E_blk (lv' := [some (vr (some (11, this))), some (vi v1), some (vi v2), some (vi v3), some (vi v4)]) (st' := [vi (8 : Int32), vi v4]) (M1 := M) (pc' := 72) (tb_Model hγ) [.iload 4, .bipush 8] (by decide +kernel) rfl rfl trivial ?_
    refine E_icmp_ge (off := 50) (tgt := 122) (by decide +kernel) (by decide) (fun b9 => ?_) (fun b9 => ?_)
    · rw [if_pos b9] at h
      obtain ⟨c10, h⟩ := h
      refine E_blk (lv' := [some (vr (some (11, this))), some (vi v1), some (vi v2), some (vi v3), some (vi v4)]) (st' := []) (M1 := (sI M 522 this v1.toNatClampNeg ((1 : Int32) &&& 1))) (pc' := 129) (tb_Model hγ) [.aload_n 0, .getfield 378, .iload_n 1, .iconst 1, .bastore] (by decide +kernel) rfl rfl ⟨c10, trivial⟩ ?_
      exact (E_vret rfl (by decide +kernel) h).nx
    · rw [if_neg b9] at h
      refine E_blk (lv' := [some (vr (some (11, this))), some (vi v1), some (vi v2), some (vi v3), some (vi v4)]) (st' := [vi ((1 : Int32) <<< (v4 &&& 31)), vr (some (11, this))]) (M1 := M) (pc' := 80) (tb_Model hγ) [.aload_n 0, .iconst 1, .iload 4, .ishl] (by decide +kernel) rfl rfl trivial ?_
      refine E_callX (κ' := k_Model_tryDraft) (As := [vi ((1 : Int32) <<< (v4 &&& 31))]) (st := []) mv_Model_tryDraft (Or.inl (tbk_mem (j := 17) (k := 220) rfl)) rfl (by decide +kernel) (Nat.le_of_ble_eq_true rfl) (Nat.le_of_ble_eq_true rfl) rfl (by decide) rfl (lk_Model_tryDraft hγ this ((1 : Int32) <<< (v4 &&& 31)) _ _ M h) (fun _ _ => Qv_r) (fun _ h => h) (fun v M11 hp => Qv_k (R := fun st => E γ k_Model_look 136 83 [some (vr (some (11, this))), some (vi v1), some (vi v2), some (vi v3), some (vi v4)] st M11 (Qx (14, 0) (Qv Q) X)) hp (fun h => ?_))
      obtain ⟨c12, h⟩ := h
      refine E_blk (lv' := [some (vr (some (11, this))), some (vi v1), some (vi v2), some (vi v3), some (vi v4)]) (st' := [vi v2, vi (mI M11 11 this 124), vi (mI M11 124 this v1.toNatClampNeg), vi v1, vr (some (124, this))]) (M1 := M11) (pc' := 95) (tb_Model hγ) [.aload_n 0, .getfield 384, .iload_n 1, .dup2, .iaload, .aload_n 0, .getfield 1323, .iload_n 2] (by decide +kernel) rfl rfl ⟨c12, trivial⟩ ?_
      refine E_icmp_ne (off := 11) (tgt := 106) (by decide +kernel) (by decide) (fun b13 => ?_) (fun b13 => ?_)
      · rw [if_pos b13] at h
        refine E_blk (lv' := [some (vr (some (11, this))), some (vi v1), some (vi v2), some (vi v3), some (vi v4)]) (st' := [vi v3, vi (mI M11 11 this 125), vi (mI M11 124 this v1.toNatClampNeg), vi v1, vr (some (124, this))]) (M1 := M11) (pc' := 103) (tb_Model hγ) [.aload_n 0, .getfield 1326, .iload_n 3] (by decide +kernel) rfl rfl trivial ?_
        refine E_icmp_eq (off := 10) (tgt := 113) (by decide +kernel) (by decide) (fun b14 => ?_) (fun b14 => ?_)
        · rw [if_pos b14] at h
          refine E_blk (lv' := [some (vr (some (11, this))), some (vi v1), some (vi v2), some (vi v3), some (vi v4)]) (st' := [vi (0 : Int32), vi (mI M11 124 this v1.toNatClampNeg), vi v1, vr (some (124, this))]) (M1 := M11) (pc' := 114) (tb_Model hγ) [.iconst 0] (by decide +kernel) rfl rfl trivial ?_
          refine E_mask [true, true, true, true, true] rfl ?_
          exact lk_Model_look_j114 hγ this Q X (w_Model_look_L68 this Q X n) ih v1 v2 v3 v4 (0 : Int32) (mI M11 124 this v1.toNatClampNeg) v1 M11 h
        · rw [if_neg b14] at h
          refine E_mask [true, true, true, true, true] rfl ?_
          exact lk_Model_look_j106 hγ this Q X (w_Model_look_L68 this Q X n) ih v1 v2 v3 v4 (mI M11 124 this v1.toNatClampNeg) v1 M11 h
      · rw [if_neg b13] at h
        refine E_mask [true, true, true, true, true] rfl ?_
        exact lk_Model_look_j106 hγ this Q X (w_Model_look_L68 this Q X n) ih v1 v2 v3 v4 (mI M11 124 this v1.toNatClampNeg) v1 M11 h
set_option maxRecDepth 4096 in
theorem lk_Model_look_j57 {γ : Gm} (hγ : Gk γ) (this : Nat) (Q : Mem → Prop) (X : Mem → Prop) (v1 : Int32) (v2 : Int32) (v3 : Int32) (s0 : Int32) (s1 : Int32) (M : Mem) (h : w_Model_look_j57 this Q X v1 v2 v3 s0 s1 M) : E γ k_Model_look 136 57 [some (vr (some (11, this))), some (vi v1), some (vi v2), some (vi v3), none] [vi s0, vi s1, vr (some (123, this))] M (Qx (14, 0) (Qv Q) X) := by
  unfold w_Model_look_j57 at h
  obtain ⟨c6, c7, h⟩ := h
  refine E_blk (lv' := [some (vr (some (11, this))), some (vi v1), some (vi v2), some (vi v3), none]) (st' := []) (M1 := (sI (sI M 123 this s1.toNatClampNeg s0) 124 this v1.toNatClampNeg (0 : Int32))) (pc' := 65) (tb_Model hγ) [.iastore, .aload_n 0, .getfield 384, .iload_n 1, .iconst 0, .iastore] (by decide +kernel) rfl rfl ⟨c6, c7, trivial⟩ ?_
  obtain ⟨M8, eM8, h⟩ := h
  rw [← eM8]
  refine E_blk (lv' := [some (vr (some (11, this))), some (vi v1), some (vi v2), some (vi v3), some (vi (0 : Int32))]) (st' := []) (M1 := M8) (pc' := 68) (tb_Model hγ) [.iconst 0, .istore 4] (by decide +kernel) rfl rfl trivial ?_
  obtain ⟨n16, h⟩ := h
  refine E_mask [true, true, true, true, true] rfl ?_
  exact lk_Model_look_L68 hγ this Q X n16 v1 v2 v3 (0 : Int32) M8 h
set_option maxRecDepth 4096 in
theorem lk_Model_look {γ : Gm} (hγ : Gk γ) (this : Nat) (a1 : Int32) (Q : Mem → Prop) (X : Mem → Prop) (M : Mem) (h : w_Model_look this a1 Q X M) : E γ k_Model_look 136 0 [some (vr (some (11, this))), some (vi a1), none, none, none] [] M (Qx (14, 0) (Qv Q) X) := by
  unfold w_Model_look at h
  obtain ⟨c1, h⟩ := h
  refine E_blk (lv' := [some (vr (some (11, this))), some (vi a1), none, none, none]) (st' := [vi (mI M 522 this a1.toNatClampNeg)]) (M1 := M) (pc' := 6) (tb_Model hγ) [.aload_n 0, .getfield 378, .iload_n 1, .baload] (by decide +kernel) rfl rfl ⟨c1, trivial⟩ ?_
  refine E_if_eq (off := 4) (tgt := 10) (by decide +kernel) (by decide) (fun b2 => ?_) (fun b2 => ?_)
  · rw [if_pos b2] at h
    refine E_blk (lv' := [some (vr (some (11, this))), some (vi a1), none, none, none]) (st' := [vi a1, vr (some (11, this))]) (M1 := M) (pc' := 12) (tb_Model hγ) [.aload_n 0, .iload_n 1] (by decide +kernel) rfl rfl trivial ?_
    refine E_callV (κ' := k_Model_draftTrial) (As := [vi a1]) (st := []) mv_Model_draftTrial (Or.inl (tbk_mem (j := 17) (k := 216) rfl)) rfl (by decide +kernel) (Nat.le_of_ble_eq_true rfl) (Nat.le_of_ble_eq_true rfl) rfl (by decide) (lk_Model_draftTrial hγ this a1 _ M h) (fun _ _ => Qv_r) (fun v M3 hp => Qv_k (R := fun st => E γ k_Model_look 136 15 [some (vr (some (11, this))), some (vi a1), none, none, none] st M3 (Qx (14, 0) (Qv Q) X)) hp (fun h => ?_))
    refine E_blk (lv' := [some (vr (some (11, this))), some (vi a1), none, none, none]) (st' := [vi (0 : Int32), vr (some (11, this))]) (M1 := M3) (pc' := 17) (tb_Model hγ) [.aload_n 0, .iconst 0] (by decide +kernel) rfl rfl trivial ?_
    refine E_callX (κ' := k_Model_tryDraft) (As := [vi (0 : Int32)]) (st := []) mv_Model_tryDraft (Or.inl (tbk_mem (j := 17) (k := 220) rfl)) rfl (by decide +kernel) (Nat.le_of_ble_eq_true rfl) (Nat.le_of_ble_eq_true rfl) rfl (by decide) rfl (lk_Model_tryDraft hγ this (0 : Int32) _ _ M3 h) (fun _ _ => Qv_r) (fun _ h => h) (fun v M4 hp => Qv_k (R := fun st => E γ k_Model_look 136 20 [some (vr (some (11, this))), some (vi a1), none, none, none] st M4 (Qx (14, 0) (Qv Q) X)) hp (fun h => ?_))
    refine E_blk (lv' := [some (vr (some (11, this))), some (vi a1), some (vi (mI M4 11 this 124)), some (vi (mI M4 11 this 125)), none]) (st' := [vi (1 : Int32), vi (mI M4 11 this 124), vi a1, vr (some (123, this))]) (M1 := M4) (pc' := 37) (tb_Model hγ) [.aload_n 0, .getfield 1323, .istore_n 2, .aload_n 0, .getfield 1326, .istore_n 3, .aload_n 0, .getfield 381, .iload_n 1, .iload_n 2, .iconst 1] (by decide +kernel) rfl rfl trivial ?_
    refine E_icmp_ne (off := 7) (tgt := 44) (by decide +kernel) (by decide) (fun b5 => ?_) (fun b5 => ?_)
    · rw [if_pos b5] at h
      refine E_blk (lv' := [some (vr (some (11, this))), some (vi a1), some (vi (mI M4 11 this 124)), some (vi (mI M4 11 this 125)), none]) (st' := [vi (mI M4 11 this 125), vi a1, vr (some (123, this))]) (M1 := M4) (pc' := 41) (tb_Model hγ) [.iload_n 3] (by decide +kernel) rfl rfl trivial ?_
      refine E_goto (off := 16) (tgt := 57) (by decide +kernel) (by decide) ?_
      refine E_mask [true, true, true, true, false] rfl ?_
      exact lk_Model_look_j57 hγ this Q X a1 (mI M4 11 this 124) (mI M4 11 this 125) (mI M4 11 this 125) a1 M4 h
    · rw [if_neg b5] at h
      refine E_blk (lv' := [some (vr (some (11, this))), some (vi a1), some (vi (mI M4 11 this 124)), some (vi (mI M4 11 this 125)), none]) (st' := [vi (4 : Int32), vi (mI M4 11 this 124), vi a1, vr (some (123, this))]) (M1 := M4) (pc' := 46) (tb_Model hγ) [.iload_n 2, .iconst 4] (by decide +kernel) rfl rfl trivial ?_
      refine E_icmp_ne (off := 10) (tgt := 56) (by decide +kernel) (by decide) (fun b17 => ?_) (fun b17 => ?_)
      · rw [if_pos b17] at h
        obtain ⟨c18, h⟩ := h
        refine E_blk (lv' := [some (vr (some (11, this))), some (vi a1), some (vi (mI M4 11 this 124)), some (vi (mI M4 11 this 125)), none]) (st' := [vi ((mI M4 11 this 125) / (100 : Int32)), vi a1, vr (some (123, this))]) (M1 := M4) (pc' := 53) (tb_Model hγ) [.iload_n 3, .bipush 100, .idiv] (by decide +kernel) rfl rfl ⟨c18, trivial⟩ ?_
        refine E_goto (off := 4) (tgt := 57) (by decide +kernel) (by decide) ?_
        refine E_mask [true, true, true, true, false] rfl ?_
        exact lk_Model_look_j57 hγ this Q X a1 (mI M4 11 this 124) (mI M4 11 this 125) ((mI M4 11 this 125) / (100 : Int32)) a1 M4 h
      · rw [if_neg b17] at h
        refine E_blk (lv' := [some (vr (some (11, this))), some (vi a1), some (vi (mI M4 11 this 124)), some (vi (mI M4 11 this 125)), none]) (st' := [vi (0 : Int32), vi a1, vr (some (123, this))]) (M1 := M4) (pc' := 57) (tb_Model hγ) [.iconst 0] (by decide +kernel) rfl rfl trivial ?_
        refine E_mask [true, true, true, true, false] rfl ?_
        exact lk_Model_look_j57 hγ this Q X a1 (mI M4 11 this 124) (mI M4 11 this 125) (0 : Int32) a1 M4 h
  · rw [if_neg b2] at h
    exact (E_vret rfl (by decide +kernel) h).nx
def w_Model_meets (this : Nat) (a1 : Int32) (Q : Int32 → Mem → Prop) (X : Mem → Prop) (M : Mem) : Prop :=
  w_Model_isTrial this a1 (fun r2 M1 => if r2 = 0 then (Q (-1 : Int32) M1) else (w_Model_look this a1 (fun M4 => vp_in a1 (mL M4 123 this) ∧ Q (mI M4 123 this a1.toNatClampNeg) M4) X M1)) M
set_option maxRecDepth 4096 in
theorem lk_Model_meets {γ : Gm} (hγ : Gk γ) (this : Nat) (a1 : Int32) (Q : Int32 → Mem → Prop) (X : Mem → Prop) (M : Mem) (h : w_Model_meets this a1 Q X M) : E γ k_Model_meets 137 0 [some (vr (some (11, this))), some (vi a1)] [] M (Qx (14, 0) (Qi Q) X) := by
  unfold w_Model_meets at h
  refine E_blk (lv' := [some (vr (some (11, this))), some (vi a1)]) (st' := [vi a1, vr (some (11, this))]) (M1 := M) (pc' := 2) (tb_Model hγ) [.aload_n 0, .iload_n 1] (by decide +kernel) rfl rfl trivial ?_
  refine E_callV (κ' := k_Model_isTrial) (As := [vi a1]) (st := []) mv_Model_isTrial (Or.inl (tbk_mem (j := 17) (k := 212) rfl)) rfl (by decide +kernel) (Nat.le_of_ble_eq_true rfl) (Nat.le_of_ble_eq_true rfl) rfl (by decide) (lk_Model_isTrial hγ this a1 _ M h) (fun _ _ => Qi_r) (fun v M1 hp => Qi_k (R := fun st => E γ k_Model_meets 137 5 [some (vr (some (11, this))), some (vi a1)] st M1 (Qx (14, 0) (Qi Q) X)) hp (fun r2 h => ?_))
  refine E_if_ne (off := 5) (tgt := 10) (by decide +kernel) (by decide) (fun b3 => ?_) (fun b3 => ?_)
  · rw [if_pos b3] at h
    refine E_blk (lv' := [some (vr (some (11, this))), some (vi a1)]) (st' := [vi (-1 : Int32)]) (M1 := M1) (pc' := 9) (tb_Model hγ) [.iconst (.negSucc 0)] (by decide +kernel) rfl rfl trivial ?_
    exact (E_iret rfl (by decide +kernel) h).nx
  · rw [if_neg b3] at h
    refine E_blk (lv' := [some (vr (some (11, this))), some (vi a1)]) (st' := [vi a1, vr (some (11, this))]) (M1 := M1) (pc' := 12) (tb_Model hγ) [.aload_n 0, .iload_n 1] (by decide +kernel) rfl rfl trivial ?_
    refine E_callX (κ' := k_Model_look) (As := [vi a1]) (st := []) mv_Model_look (Or.inl (tbk_mem (j := 17) (k := 228) rfl)) rfl (by decide +kernel) (Nat.le_of_ble_eq_true rfl) (Nat.le_of_ble_eq_true rfl) rfl (by decide) rfl (lk_Model_look hγ this a1 _ _ M1 h) (fun _ _ => Qv_r) (fun _ h => h) (fun v M4 hp => Qv_k (R := fun st => E γ k_Model_meets 137 15 [some (vr (some (11, this))), some (vi a1)] st M4 (Qx (14, 0) (Qi Q) X)) hp (fun h => ?_))
    obtain ⟨c5, h⟩ := h
    refine E_blk (lv' := [some (vr (some (11, this))), some (vi a1)]) (st' := [vi (mI M4 123 this a1.toNatClampNeg)]) (M1 := M4) (pc' := 21) (tb_Model hγ) [.aload_n 0, .getfield 381, .iload_n 1, .iaload] (by decide +kernel) rfl rfl ⟨c5, trivial⟩ ?_
    exact (E_iret rfl (by decide +kernel) h).nx
def w_Model_finds (this : Nat) (a1 : Int32) (a2 : Int32) (Q : Int32 → Mem → Prop) (X : Mem → Prop) (M : Mem) : Prop :=
  w_Model_isTrial this a1 (fun r2 M1 => if r2 = 0 then (Q (-1 : Int32) M1) else (if a2 < 0 then (Q (-1 : Int32) M1) else (if a2 ≤ (255 : Int32) then (w_Model_draftTrial this a1 (fun M6 => w_Model_tryDraft this (0 : Int32) (fun M7 => w_Model_tryDraft this a2 (fun M8 => if (mI M8 11 this 124) = (mI M7 11 this 124) then (if (mI M8 11 this 125) = (mI M7 11 this 125) then (Q (0 : Int32) M8) else (Q (1 : Int32) M8)) else (Q (1 : Int32) M8)) X M7) X M6) M1) else (Q (-1 : Int32) M1)))) M
set_option maxRecDepth 4096 in
theorem lk_Model_finds {γ : Gm} (hγ : Gk γ) (this : Nat) (a1 : Int32) (a2 : Int32) (Q : Int32 → Mem → Prop) (X : Mem → Prop) (M : Mem) (h : w_Model_finds this a1 a2 Q X M) : E γ k_Model_finds 136 0 [some (vr (some (11, this))), some (vi a1), some (vi a2), none, none] [] M (Qx (14, 0) (Qi Q) X) := by
  unfold w_Model_finds at h
  refine E_blk (lv' := [some (vr (some (11, this))), some (vi a1), some (vi a2), none, none]) (st' := [vi a1, vr (some (11, this))]) (M1 := M) (pc' := 2) (tb_Model hγ) [.aload_n 0, .iload_n 1] (by decide +kernel) rfl rfl trivial ?_
  refine E_callV (κ' := k_Model_isTrial) (As := [vi a1]) (st := []) mv_Model_isTrial (Or.inl (tbk_mem (j := 17) (k := 212) rfl)) rfl (by decide +kernel) (Nat.le_of_ble_eq_true rfl) (Nat.le_of_ble_eq_true rfl) rfl (by decide) (lk_Model_isTrial hγ this a1 _ M h) (fun _ _ => Qi_r) (fun v M1 hp => Qi_k (R := fun st => E γ k_Model_finds 136 5 [some (vr (some (11, this))), some (vi a1), some (vi a2), none, none] st M1 (Qx (14, 0) (Qi Q) X)) hp (fun r2 h => ?_))
  refine E_if_eq (off := 14) (tgt := 19) (by decide +kernel) (by decide) (fun b3 => ?_) (fun b3 => ?_)
  · rw [if_pos b3] at h
    refine E_blk (lv' := [some (vr (some (11, this))), some (vi a1), some (vi a2), none, none]) (st' := [vi (-1 : Int32)]) (M1 := M1) (pc' := 20) (tb_Model hγ) [.iconst (.negSucc 0)] (by decide +kernel) rfl rfl trivial ?_
    exact (E_iret rfl (by decide +kernel) h).nx
  · rw [if_neg b3] at h
    refine E_blk (lv' := [some (vr (some (11, this))), some (vi a1), some (vi a2), none, none]) (st' := [vi a2]) (M1 := M1) (pc' := 9) (tb_Model hγ) [.iload_n 2] (by decide +kernel) rfl rfl trivial ?_
    refine E_if_lt (off := 10) (tgt := 19) (by decide +kernel) (by decide) (fun b4 => ?_) (fun b4 => ?_)
    · rw [if_pos b4] at h
      refine E_blk (lv' := [some (vr (some (11, this))), some (vi a1), some (vi a2), none, none]) (st' := [vi (-1 : Int32)]) (M1 := M1) (pc' := 20) (tb_Model hγ) [.iconst (.negSucc 0)] (by decide +kernel) rfl rfl trivial ?_
      exact (E_iret rfl (by decide +kernel) h).nx
    · rw [if_neg b4] at h
      refine E_blk (lv' := [some (vr (some (11, this))), some (vi a1), some (vi a2), none, none]) (st' := [vi (255 : Int32), vi a2]) (M1 := M1) (pc' := 16) (tb_Model hγ) [.iload_n 2, .sipush 255] (by decide +kernel) rfl rfl trivial ?_
      refine E_icmp_le (off := 5) (tgt := 21) (by decide +kernel) (by decide) (fun b5 => ?_) (fun b5 => ?_)
      · rw [if_pos b5] at h
        refine E_blk (lv' := [some (vr (some (11, this))), some (vi a1), some (vi a2), none, none]) (st' := [vi a1, vr (some (11, this))]) (M1 := M1) (pc' := 23) (tb_Model hγ) [.aload_n 0, .iload_n 1] (by decide +kernel) rfl rfl trivial ?_
        refine E_callV (κ' := k_Model_draftTrial) (As := [vi a1]) (st := []) mv_Model_draftTrial (Or.inl (tbk_mem (j := 17) (k := 216) rfl)) rfl (by decide +kernel) (Nat.le_of_ble_eq_true rfl) (Nat.le_of_ble_eq_true rfl) rfl (by decide) (lk_Model_draftTrial hγ this a1 _ M1 h) (fun _ _ => Qv_r) (fun v M6 hp => Qv_k (R := fun st => E γ k_Model_finds 136 26 [some (vr (some (11, this))), some (vi a1), some (vi a2), none, none] st M6 (Qx (14, 0) (Qi Q) X)) hp (fun h => ?_))
        refine E_blk (lv' := [some (vr (some (11, this))), some (vi a1), some (vi a2), none, none]) (st' := [vi (0 : Int32), vr (some (11, this))]) (M1 := M6) (pc' := 28) (tb_Model hγ) [.aload_n 0, .iconst 0] (by decide +kernel) rfl rfl trivial ?_
        refine E_callX (κ' := k_Model_tryDraft) (As := [vi (0 : Int32)]) (st := []) mv_Model_tryDraft (Or.inl (tbk_mem (j := 17) (k := 220) rfl)) rfl (by decide +kernel) (Nat.le_of_ble_eq_true rfl) (Nat.le_of_ble_eq_true rfl) rfl (by decide) rfl (lk_Model_tryDraft hγ this (0 : Int32) _ _ M6 h) (fun _ _ => Qv_r) (fun _ h => h) (fun v M7 hp => Qv_k (R := fun st => E γ k_Model_finds 136 31 [some (vr (some (11, this))), some (vi a1), some (vi a2), none, none] st M7 (Qx (14, 0) (Qi Q) X)) hp (fun h => ?_))
        refine E_blk (lv' := [some (vr (some (11, this))), some (vi a1), some (vi a2), some (vi (mI M7 11 this 124)), some (vi (mI M7 11 this 125))]) (st' := [vi a2, vr (some (11, this))]) (M1 := M7) (pc' := 44) (tb_Model hγ) [.aload_n 0, .getfield 1323, .istore_n 3, .aload_n 0, .getfield 1326, .istore 4, .aload_n 0, .iload_n 2] (by decide +kernel) rfl rfl trivial ?_
        refine E_callX (κ' := k_Model_tryDraft) (As := [vi a2]) (st := []) mv_Model_tryDraft (Or.inl (tbk_mem (j := 17) (k := 220) rfl)) rfl (by decide +kernel) (Nat.le_of_ble_eq_true rfl) (Nat.le_of_ble_eq_true rfl) rfl (by decide) rfl (lk_Model_tryDraft hγ this a2 _ _ M7 h) (fun _ _ => Qv_r) (fun _ h => h) (fun v M8 hp => Qv_k (R := fun st => E γ k_Model_finds 136 47 [some (vr (some (11, this))), some (vi a1), some (vi a2), some (vi (mI M7 11 this 124)), some (vi (mI M7 11 this 125))] st M8 (Qx (14, 0) (Qi Q) X)) hp (fun h => ?_))
        refine E_blk (lv' := [some (vr (some (11, this))), some (vi a1), some (vi a2), some (vi (mI M7 11 this 124)), some (vi (mI M7 11 this 125))]) (st' := [vi (mI M7 11 this 124), vi (mI M8 11 this 124)]) (M1 := M8) (pc' := 52) (tb_Model hγ) [.aload_n 0, .getfield 1323, .iload_n 3] (by decide +kernel) rfl rfl trivial ?_
        refine E_icmp_ne (off := 12) (tgt := 64) (by decide +kernel) (by decide) (fun b9 => ?_) (fun b9 => ?_)
        · rw [if_pos b9] at h
          refine E_blk (lv' := [some (vr (some (11, this))), some (vi a1), some (vi a2), some (vi (mI M7 11 this 124)), some (vi (mI M7 11 this 125))]) (st' := [vi (mI M7 11 this 125), vi (mI M8 11 this 125)]) (M1 := M8) (pc' := 61) (tb_Model hγ) [.aload_n 0, .getfield 1326, .iload 4] (by decide +kernel) rfl rfl trivial ?_
          refine E_icmp_eq (off := 7) (tgt := 68) (by decide +kernel) (by decide) (fun b10 => ?_) (fun b10 => ?_)
          · rw [if_pos b10] at h
            refine E_blk (lv' := [some (vr (some (11, this))), some (vi a1), some (vi a2), some (vi (mI M7 11 this 124)), some (vi (mI M7 11 this 125))]) (st' := [vi (0 : Int32)]) (M1 := M8) (pc' := 69) (tb_Model hγ) [.iconst 0] (by decide +kernel) rfl rfl trivial ?_
            exact (E_iret rfl (by decide +kernel) h).nx
          · rw [if_neg b10] at h
            refine E_blk (lv' := [some (vr (some (11, this))), some (vi a1), some (vi a2), some (vi (mI M7 11 this 124)), some (vi (mI M7 11 this 125))]) (st' := [vi (1 : Int32)]) (M1 := M8) (pc' := 65) (tb_Model hγ) [.iconst 1] (by decide +kernel) rfl rfl trivial ?_
            refine E_goto (off := 4) (tgt := 69) (by decide +kernel) (by decide) ?_
            exact (E_iret rfl (by decide +kernel) h).nx
        · rw [if_neg b9] at h
          refine E_blk (lv' := [some (vr (some (11, this))), some (vi a1), some (vi a2), some (vi (mI M7 11 this 124)), some (vi (mI M7 11 this 125))]) (st' := [vi (1 : Int32)]) (M1 := M8) (pc' := 65) (tb_Model hγ) [.iconst 1] (by decide +kernel) rfl rfl trivial ?_
          refine E_goto (off := 4) (tgt := 69) (by decide +kernel) (by decide) ?_
          exact (E_iret rfl (by decide +kernel) h).nx
      · rw [if_neg b5] at h
        refine E_blk (lv' := [some (vr (some (11, this))), some (vi a1), some (vi a2), none, none]) (st' := [vi (-1 : Int32)]) (M1 := M1) (pc' := 20) (tb_Model hγ) [.iconst (.negSucc 0)] (by decide +kernel) rfl rfl trivial ?_
        exact (E_iret rfl (by decide +kernel) h).nx
def w_Model_isRule_j35 (Q : Int32 → Mem → Prop) (v0 : Int32) (M : Mem) : Prop :=
  if v0 < (50 : Int32) then (Q (0 : Int32) M) else (if (59 : Int32) < v0 then (Q (0 : Int32) M) else (Q (1 : Int32) M))
def w_Model_isRule_j23 (Q : Int32 → Mem → Prop) (v0 : Int32) (M : Mem) : Prop :=
  if v0 < (30 : Int32) then (w_Model_isRule_j35 Q v0 M) else (if v0 ≤ (43 : Int32) then (Q (1 : Int32) M) else (w_Model_isRule_j35 Q v0 M))
def w_Model_isRule_j11 (Q : Int32 → Mem → Prop) (v0 : Int32) (M : Mem) : Prop :=
  if v0 < (20 : Int32) then (w_Model_isRule_j23 Q v0 M) else (if v0 ≤ (25 : Int32) then (Q (1 : Int32) M) else (w_Model_isRule_j23 Q v0 M))
def w_Model_isRule (a1 : Int32) (Q : Int32 → Mem → Prop) (M : Mem) : Prop :=
  if a1 < (1 : Int32) then (w_Model_isRule_j11 Q a1 M) else (if a1 ≤ (14 : Int32) then (Q (1 : Int32) M) else (w_Model_isRule_j11 Q a1 M))
set_option maxRecDepth 4096 in
theorem lk_Model_isRule_j35 {γ : Gm} (hγ : Gk γ) (Q : Int32 → Mem → Prop) (v0 : Int32) (M : Mem) (h : w_Model_isRule_j35 Q v0 M) : E γ k_Model_isRule 0 35 [some (vi v0)] [] M (Qi Q) := by
  unfold w_Model_isRule_j35 at h
  refine E_blk (lv' := [some (vi v0)]) (st' := [vi (50 : Int32), vi v0]) (M1 := M) (pc' := 38) (tb_Model hγ) [.iload_n 0, .bipush 50] (by decide +kernel) rfl rfl trivial ?_
  refine E_icmp_lt (off := 13) (tgt := 51) (by decide +kernel) (by decide) (fun b4 => ?_) (fun b4 => ?_)
  · rw [if_pos b4] at h
    refine E_blk (lv' := [some (vi v0)]) (st' := [vi (0 : Int32)]) (M1 := M) (pc' := 52) (tb_Model hγ) [.iconst 0] (by decide +kernel) rfl rfl trivial ?_
    exact E_zret rfl (Or.inl rfl) (by decide +kernel) h
  · rw [if_neg b4] at h
    refine E_blk (lv' := [some (vi v0)]) (st' := [vi (59 : Int32), vi v0]) (M1 := M) (pc' := 44) (tb_Model hγ) [.iload_n 0, .bipush 59] (by decide +kernel) rfl rfl trivial ?_
    refine E_icmp_gt (off := 7) (tgt := 51) (by decide +kernel) (by decide) (fun b5 => ?_) (fun b5 => ?_)
    · rw [if_pos b5] at h
      refine E_blk (lv' := [some (vi v0)]) (st' := [vi (0 : Int32)]) (M1 := M) (pc' := 52) (tb_Model hγ) [.iconst 0] (by decide +kernel) rfl rfl trivial ?_
      exact E_zret rfl (Or.inl rfl) (by decide +kernel) h
    · rw [if_neg b5] at h
      refine E_blk (lv' := [some (vi v0)]) (st' := [vi (1 : Int32)]) (M1 := M) (pc' := 48) (tb_Model hγ) [.iconst 1] (by decide +kernel) rfl rfl trivial ?_
      refine E_goto (off := 4) (tgt := 52) (by decide +kernel) (by decide) ?_
      exact E_zret rfl (Or.inr rfl) (by decide +kernel) h
set_option maxRecDepth 4096 in
theorem lk_Model_isRule_j23 {γ : Gm} (hγ : Gk γ) (Q : Int32 → Mem → Prop) (v0 : Int32) (M : Mem) (h : w_Model_isRule_j23 Q v0 M) : E γ k_Model_isRule 0 23 [some (vi v0)] [] M (Qi Q) := by
  unfold w_Model_isRule_j23 at h
  refine E_blk (lv' := [some (vi v0)]) (st' := [vi (30 : Int32), vi v0]) (M1 := M) (pc' := 26) (tb_Model hγ) [.iload_n 0, .bipush 30] (by decide +kernel) rfl rfl trivial ?_
  refine E_icmp_lt (off := 9) (tgt := 35) (by decide +kernel) (by decide) (fun b3 => ?_) (fun b3 => ?_)
  · rw [if_pos b3] at h
    refine E_mask [true] rfl ?_
    exact lk_Model_isRule_j35 hγ Q v0 M h
  · rw [if_neg b3] at h
    refine E_blk (lv' := [some (vi v0)]) (st' := [vi (43 : Int32), vi v0]) (M1 := M) (pc' := 32) (tb_Model hγ) [.iload_n 0, .bipush 43] (by decide +kernel) rfl rfl trivial ?_
    refine E_icmp_le (off := 15) (tgt := 47) (by decide +kernel) (by decide) (fun b6 => ?_) (fun b6 => ?_)
    · rw [if_pos b6] at h
      refine E_blk (lv' := [some (vi v0)]) (st' := [vi (1 : Int32)]) (M1 := M) (pc' := 48) (tb_Model hγ) [.iconst 1] (by decide +kernel) rfl rfl trivial ?_
      refine E_goto (off := 4) (tgt := 52) (by decide +kernel) (by decide) ?_
      exact E_zret rfl (Or.inr rfl) (by decide +kernel) h
    · rw [if_neg b6] at h
      refine E_mask [true] rfl ?_
      exact lk_Model_isRule_j35 hγ Q v0 M h
set_option maxRecDepth 4096 in
theorem lk_Model_isRule_j11 {γ : Gm} (hγ : Gk γ) (Q : Int32 → Mem → Prop) (v0 : Int32) (M : Mem) (h : w_Model_isRule_j11 Q v0 M) : E γ k_Model_isRule 0 11 [some (vi v0)] [] M (Qi Q) := by
  unfold w_Model_isRule_j11 at h
  refine E_blk (lv' := [some (vi v0)]) (st' := [vi (20 : Int32), vi v0]) (M1 := M) (pc' := 14) (tb_Model hγ) [.iload_n 0, .bipush 20] (by decide +kernel) rfl rfl trivial ?_
  refine E_icmp_lt (off := 9) (tgt := 23) (by decide +kernel) (by decide) (fun b2 => ?_) (fun b2 => ?_)
  · rw [if_pos b2] at h
    refine E_mask [true] rfl ?_
    exact lk_Model_isRule_j23 hγ Q v0 M h
  · rw [if_neg b2] at h
    refine E_blk (lv' := [some (vi v0)]) (st' := [vi (25 : Int32), vi v0]) (M1 := M) (pc' := 20) (tb_Model hγ) [.iload_n 0, .bipush 25] (by decide +kernel) rfl rfl trivial ?_
    refine E_icmp_le (off := 27) (tgt := 47) (by decide +kernel) (by decide) (fun b7 => ?_) (fun b7 => ?_)
    · rw [if_pos b7] at h
      refine E_blk (lv' := [some (vi v0)]) (st' := [vi (1 : Int32)]) (M1 := M) (pc' := 48) (tb_Model hγ) [.iconst 1] (by decide +kernel) rfl rfl trivial ?_
      refine E_goto (off := 4) (tgt := 52) (by decide +kernel) (by decide) ?_
      exact E_zret rfl (Or.inr rfl) (by decide +kernel) h
    · rw [if_neg b7] at h
      refine E_mask [true] rfl ?_
      exact lk_Model_isRule_j23 hγ Q v0 M h
set_option maxRecDepth 4096 in
theorem lk_Model_isRule {γ : Gm} (hγ : Gk γ) (a1 : Int32) (Q : Int32 → Mem → Prop) (M : Mem) (h : w_Model_isRule a1 Q M) : E γ k_Model_isRule 0 0 [some (vi a1)] [] M (Qi Q) := by
  unfold w_Model_isRule at h
  refine E_blk (lv' := [some (vi a1)]) (st' := [vi (1 : Int32), vi a1]) (M1 := M) (pc' := 2) (tb_Model hγ) [.iload_n 0, .iconst 1] (by decide +kernel) rfl rfl trivial ?_
  refine E_icmp_lt (off := 9) (tgt := 11) (by decide +kernel) (by decide) (fun b1 => ?_) (fun b1 => ?_)
  · rw [if_pos b1] at h
    refine E_mask [true] rfl ?_
    exact lk_Model_isRule_j11 hγ Q a1 M h
  · rw [if_neg b1] at h
    refine E_blk (lv' := [some (vi a1)]) (st' := [vi (14 : Int32), vi a1]) (M1 := M) (pc' := 8) (tb_Model hγ) [.iload_n 0, .bipush 14] (by decide +kernel) rfl rfl trivial ?_
    refine E_icmp_le (off := 39) (tgt := 47) (by decide +kernel) (by decide) (fun b8 => ?_) (fun b8 => ?_)
    · rw [if_pos b8] at h
      refine E_blk (lv' := [some (vi a1)]) (st' := [vi (1 : Int32)]) (M1 := M) (pc' := 48) (tb_Model hγ) [.iconst 1] (by decide +kernel) rfl rfl trivial ?_
      refine E_goto (off := 4) (tgt := 52) (by decide +kernel) (by decide) ?_
      exact E_zret rfl (Or.inr rfl) (by decide +kernel) h
    · rw [if_neg b8] at h
      refine E_mask [true] rfl ?_
      exact lk_Model_isRule_j11 hγ Q a1 M h
def w_Model_hole_j87 (this : Nat) (Q : Int32 → Mem → Prop) (X : Mem → Prop) (k50 : Int64 → Int32 → Int32 → Mem → Prop) (v2 : Int64) (v4 : Int32) (v5 : Int32) (M : Mem) : Prop :=
  k50 v2 v4 (v5 + (1 : Int32)) M
def w_Model_hole_L50 (this : Nat) (Q : Int32 → Mem → Prop) (X : Mem → Prop) : Nat → Int64 → Int32 → Int32 → Mem → Prop
  | 0, _, _, _, _ => False
  | n + 1, v2, v4, v5, M => if (60 : Int32) ≤ v5 then (Q (-2 : Int32) M) else (w_Model_isRule v5 (fun r5 M4 => if r5 = 0 then (w_Model_hole_j87 this Q X (w_Model_hole_L50 this Q X n) v2 v4 v5 M4) else (if (lg_cmp ((v2 >>> (v5.toInt64 &&& 63)) &&& (1 : Int64)) (0 : Int64)) = 0 then (if v4 = 0 then (Q v5 M4) else (w_Model_hole_j87 this Q X (w_Model_hole_L50 this Q X n) v2 (v4 + (-1 : Int32)) v5 M4)) else (w_Model_hole_j87 this Q X (w_Model_hole_L50 this Q X n) v2 v4 v5 M4))) M)
def w_Model_hole_L11 (this : Nat) (Q : Int32 → Mem → Prop) (X : Mem → Prop) : Nat → Int32 → Int64 → Int32 → Mem → Prop
  | 0, _, _, _, _ => False
  | n + 1, v1, v2, v4, M => if (mI M 11 this 121) ≤ v4 then (∃ n9 : Nat, w_Model_hole_L50 this Q X n9 v2 v1 (1 : Int32) M) else (w_Model_look this v4 (fun M10 => vp_in v4 (mL M10 123 this) ∧ ∃ x12 : Int64, x12 = (v2 ||| ((1 : Int64) <<< ((mI M10 123 this v4.toNatClampNeg).toInt64 &&& 63))) ∧ (w_Model_hole_L11 this Q X n) v1 x12 (v4 + (1 : Int32)) M10) X M)
def w_Model_hole (this : Nat) (a1 : Int32) (Q : Int32 → Mem → Prop) (X : Mem → Prop) (M : Mem) : Prop :=
  if 0 ≤ a1 then (∃ n13 : Nat, w_Model_hole_L11 this Q X n13 a1 (0 : Int64) (0 : Int32) M) else (Q (-1 : Int32) M)
set_option maxRecDepth 4096 in
theorem lk_Model_hole_j87 {γ : Gm} (hγ : Gk γ) (this : Nat) (Q : Int32 → Mem → Prop) (X : Mem → Prop) (k50 : Int64 → Int32 → Int32 → Mem → Prop) (hk50 : ∀ (v2 : Int64) (v4 : Int32) (v5 : Int32) (M : Mem), k50 v2 v4 v5 M → E γ k_Model_hole 137 50 [none, none, some (vl v2), none, some (vi v4), some (vi v5)] [] M (Qx (14, 0) (Qi Q) X)) (v2 : Int64) (v4 : Int32) (v5 : Int32) (M : Mem) (h : w_Model_hole_j87 this Q X k50 v2 v4 v5 M) : E γ k_Model_hole 137 87 [none, none, some (vl v2), none, some (vi v4), some (vi v5)] [] M (Qx (14, 0) (Qi Q) X) := by
  unfold w_Model_hole_j87 at h
  refine E_blk (lv' := [none, none, some (vl v2), none, some (vi v4), some (vi (v5 + (1 : Int32)))]) (st' := []) (M1 := M) (pc' := 90) (tb_Model hγ) [.iinc 5 1] (by decide +kernel) rfl rfl trivial ?_
  refine E_goto (off := -40) (tgt := 50) (by decide +kernel) (by decide) ?_
  refine E_mask [false, false, true, false, true, true] rfl ?_
  exact hk50 v2 v4 (v5 + (1 : Int32)) M h
set_option maxRecDepth 4096 in
theorem lk_Model_hole_L50 {γ : Gm} (hγ : Gk γ) (this : Nat) (Q : Int32 → Mem → Prop) (X : Mem → Prop) : ∀ (n : Nat) (v2 : Int64) (v4 : Int32) (v5 : Int32) (M : Mem), w_Model_hole_L50 this Q X n v2 v4 v5 M → E γ k_Model_hole 137 50 [none, none, some (vl v2), none, some (vi v4), some (vi v5)] [] M (Qx (14, 0) (Qi Q) X) := by
  intro n
  induction n with
  | zero => intro v2 v4 v5 M h; exact h.elim
  | succ n ih =>
    intro v2 v4 v5 M h
    unfold w_Model_hole_L50 at h
    refine E_blk (lv' := [none, none, some (vl v2), none, some (vi v4), some (vi v5)]) (st' := [vi (60 : Int32), vi v5]) (M1 := M) (pc' := 54) (tb_Model hγ) [.iload 5, .bipush 60] (by decide +kernel) rfl rfl trivial ?_
    refine E_icmp_ge (off := 39) (tgt := 93) (by decide +kernel) (by decide) (fun b3 => ?_) (fun b3 => ?_)
    · rw [if_pos b3] at h
      refine E_blk (lv' := [none, none, some (vl v2), none, some (vi v4), some (vi v5)]) (st' := [vi (-2 : Int32)]) (M1 := M) (pc' := 95) (tb_Model hγ) [.bipush (.negSucc 1)] (by decide +kernel) rfl rfl trivial ?_
      exact (E_iret rfl (by decide +kernel) h).nx
    · rw [if_neg b3] at h
      refine E_blk (lv' := [none, none, some (vl v2), none, some (vi v4), some (vi v5)]) (st' := [vi v5]) (M1 := M) (pc' := 59) (tb_Model hγ) [.iload 5] (by decide +kernel) rfl rfl trivial ?_
      refine E_callS (κ' := k_Model_isRule) (As := [vi v5]) (st := []) ms_Model_isRule (Or.inl (tbk_mem (j := 18) (k := 0) rfl)) rfl (by decide +kernel) (Nat.le_of_ble_eq_true rfl) (Nat.le_of_ble_eq_true rfl) rfl (by decide) (lk_Model_isRule hγ v5 _ M h) (fun _ _ => Qi_r) (fun v M4 hp => Qi_k (R := fun st => E γ k_Model_hole 137 62 [none, none, some (vl v2), none, some (vi v4), some (vi v5)] st M4 (Qx (14, 0) (Qi Q) X)) hp (fun r5 h => ?_))
      refine E_if_eq (off := 25) (tgt := 87) (by decide +kernel) (by decide) (fun b6 => ?_) (fun b6 => ?_)
      · rw [if_pos b6] at h
        refine E_mask [false, false, true, false, true, true] rfl ?_
        exact lk_Model_hole_j87 hγ this Q X (w_Model_hole_L50 this Q X n) ih v2 v4 v5 M4 h
      · rw [if_neg b6] at h
        refine E_blk (lv' := [none, none, some (vl v2), none, some (vi v4), some (vi v5)]) (st' := [vi (lg_cmp ((v2 >>> (v5.toInt64 &&& 63)) &&& (1 : Int64)) (0 : Int64))]) (M1 := M4) (pc' := 73) (tb_Model hγ) [.lload_n 2, .iload 5, .lshr, .lconst 1, .land, .lconst 0, .lcmp] (by decide +kernel) rfl rfl trivial ?_
        refine E_if_ne (off := 14) (tgt := 87) (by decide +kernel) (by decide) (fun b7 => ?_) (fun b7 => ?_)
        · rw [if_pos b7] at h
          refine E_blk (lv' := [none, none, some (vl v2), none, some (vi v4), some (vi v5)]) (st' := [vi v4]) (M1 := M4) (pc' := 78) (tb_Model hγ) [.iload 4] (by decide +kernel) rfl rfl trivial ?_
          refine E_if_ne (off := 6) (tgt := 84) (by decide +kernel) (by decide) (fun b8 => ?_) (fun b8 => ?_)
          · rw [if_pos b8] at h
            refine E_blk (lv' := [none, none, some (vl v2), none, some (vi v4), some (vi v5)]) (st' := [vi v5]) (M1 := M4) (pc' := 83) (tb_Model hγ) [.iload 5] (by decide +kernel) rfl rfl trivial ?_
            exact (E_iret rfl (by decide +kernel) h).nx
          · rw [if_neg b8] at h
            refine E_blk (lv' := [none, none, some (vl v2), none, some (vi (v4 + (-1 : Int32))), some (vi v5)]) (st' := []) (M1 := M4) (pc' := 87) (tb_Model hγ) [.iinc 4 (.negSucc 0)] (by decide +kernel) rfl rfl trivial ?_
            refine E_mask [false, false, true, false, true, true] rfl ?_
            exact lk_Model_hole_j87 hγ this Q X (w_Model_hole_L50 this Q X n) ih v2 (v4 + (-1 : Int32)) v5 M4 h
        · rw [if_neg b7] at h
          refine E_mask [false, false, true, false, true, true] rfl ?_
          exact lk_Model_hole_j87 hγ this Q X (w_Model_hole_L50 this Q X n) ih v2 v4 v5 M4 h
set_option maxRecDepth 4096 in
theorem lk_Model_hole_L11 {γ : Gm} (hγ : Gk γ) (this : Nat) (Q : Int32 → Mem → Prop) (X : Mem → Prop) : ∀ (n : Nat) (v1 : Int32) (v2 : Int64) (v4 : Int32) (M : Mem), w_Model_hole_L11 this Q X n v1 v2 v4 M → E γ k_Model_hole 137 11 [some (vr (some (11, this))), some (vi v1), some (vl v2), none, some (vi v4), none] [] M (Qx (14, 0) (Qi Q) X) := by
  intro n
  induction n with
  | zero => intro v1 v2 v4 M h; exact h.elim
  | succ n ih =>
    intro v1 v2 v4 M h
    unfold w_Model_hole_L11 at h
    refine E_blk (lv' := [some (vr (some (11, this))), some (vi v1), some (vl v2), none, some (vi v4), none]) (st' := [vi (mI M 11 this 121), vi v4]) (M1 := M) (pc' := 17) (tb_Model hγ) [.iload 4, .aload_n 0, .getfield 1314] (by decide +kernel) rfl rfl trivial ?_
    refine E_icmp_ge (off := 27) (tgt := 44) (by decide +kernel) (by decide) (fun b2 => ?_) (fun b2 => ?_)
    · rw [if_pos b2] at h
      refine E_blk (lv' := [some (vr (some (11, this))), some (vi v1), some (vl v2), none, some (vi v1), some (vi (1 : Int32))]) (st' := []) (M1 := M) (pc' := 50) (tb_Model hγ) [.iload_n 1, .istore 4, .iconst 1, .istore 5] (by decide +kernel) rfl rfl trivial ?_
      obtain ⟨n9, h⟩ := h
      refine E_mask [false, false, true, false, true, true] rfl ?_
      exact lk_Model_hole_L50 hγ this Q X n9 v2 v1 (1 : Int32) M h
    · rw [if_neg b2] at h
      refine E_blk (lv' := [some (vr (some (11, this))), some (vi v1), some (vl v2), none, some (vi v4), none]) (st' := [vi v4, vr (some (11, this))]) (M1 := M) (pc' := 23) (tb_Model hγ) [.aload_n 0, .iload 4] (by decide +kernel) rfl rfl trivial ?_
      refine E_callX (κ' := k_Model_look) (As := [vi v4]) (st := []) mv_Model_look (Or.inl (tbk_mem (j := 17) (k := 228) rfl)) rfl (by decide +kernel) (Nat.le_of_ble_eq_true rfl) (Nat.le_of_ble_eq_true rfl) rfl (by decide) rfl (lk_Model_look hγ this v4 _ _ M h) (fun _ _ => Qv_r) (fun _ h => h) (fun v M10 hp => Qv_k (R := fun st => E γ k_Model_hole 137 26 [some (vr (some (11, this))), some (vi v1), some (vl v2), none, some (vi v4), none] st M10 (Qx (14, 0) (Qi Q) X)) hp (fun h => ?_))
      obtain ⟨c11, h⟩ := h
      refine E_blk (lv' := [some (vr (some (11, this))), some (vi v1), some (vl (v2 ||| ((1 : Int64) <<< ((mI M10 123 this v4.toNatClampNeg).toInt64 &&& 63)))), none, some (vi v4), none]) (st' := []) (M1 := M10) (pc' := 38) (tb_Model hγ) [.lload_n 2, .lconst 1, .aload_n 0, .getfield 381, .iload 4, .iaload, .lshl, .lor, .lstore_n 2] (by decide +kernel) rfl rfl ⟨c11, trivial⟩ ?_
      obtain ⟨x12, ex12, h⟩ := h
      rw [← ex12]
      refine E_blk (lv' := [some (vr (some (11, this))), some (vi v1), some (vl x12), none, some (vi (v4 + (1 : Int32))), none]) (st' := []) (M1 := M10) (pc' := 41) (tb_Model hγ) [.iinc 4 1] (by decide +kernel) rfl rfl trivial ?_
      refine E_goto (off := -30) (tgt := 11) (by decide +kernel) (by decide) ?_
      refine E_mask [true, true, true, false, true, false] rfl ?_
      exact ih v1 x12 (v4 + (1 : Int32)) M10 h
set_option maxRecDepth 4096 in
theorem lk_Model_hole {γ : Gm} (hγ : Gk γ) (this : Nat) (a1 : Int32) (Q : Int32 → Mem → Prop) (X : Mem → Prop) (M : Mem) (h : w_Model_hole this a1 Q X M) : E γ k_Model_hole 137 0 [some (vr (some (11, this))), some (vi a1), none, none, none, none] [] M (Qx (14, 0) (Qi Q) X) := by
  unfold w_Model_hole at h
  refine E_blk (lv' := [some (vr (some (11, this))), some (vi a1), none, none, none, none]) (st' := [vi a1]) (M1 := M) (pc' := 1) (tb_Model hγ) [.iload_n 1] (by decide +kernel) rfl rfl trivial ?_
  refine E_if_ge (off := 5) (tgt := 6) (by decide +kernel) (by decide) (fun b1 => ?_) (fun b1 => ?_)
  · rw [if_pos b1] at h
    refine E_blk (lv' := [some (vr (some (11, this))), some (vi a1), some (vl (0 : Int64)), none, some (vi (0 : Int32)), none]) (st' := []) (M1 := M) (pc' := 11) (tb_Model hγ) [.lconst 0, .lstore_n 2, .iconst 0, .istore 4] (by decide +kernel) rfl rfl trivial ?_
    obtain ⟨n13, h⟩ := h
    refine E_mask [true, true, true, false, true, false] rfl ?_
    exact lk_Model_hole_L11 hγ this Q X n13 a1 (0 : Int64) (0 : Int32) M h
  · rw [if_neg b1] at h
    refine E_blk (lv' := [some (vr (some (11, this))), some (vi a1), none, none, none, none]) (st' := [vi (-1 : Int32)]) (M1 := M) (pc' := 5) (tb_Model hγ) [.iconst (.negSucc 0)] (by decide +kernel) rfl rfl trivial ?_
    exact (E_iret rfl (by decide +kernel) h).nx
def w_Model_together_j61 (this : Nat) (Q : Int64 → Mem → Prop) (k5 : Int32 → Int32 → Int64 → Int32 → Mem → Prop) (v1 : Int32) (v2 : Int32) (v3 : Int64) (v5 : Int32) (M : Mem) : Prop :=
  k5 v1 v2 v3 (v5 + (1 : Int32)) M
def w_Model_together_j59 (this : Nat) (Q : Int64 → Mem → Prop) (k5 : Int32 → Int32 → Int64 → Int32 → Mem → Prop) (v1 : Int32) (v2 : Int32) (v5 : Int32) (s0 : Int64) (s1 : Int64) (M : Mem) : Prop :=
  w_Model_together_j61 this Q k5 v1 v2 (s1 ||| s0) v5 M
def w_Model_together_L5 (this : Nat) (Q : Int64 → Mem → Prop) : Nat → Int32 → Int32 → Int64 → Int32 → Mem → Prop
  | 0, _, _, _, _, _ => False
  | n + 1, v1, v2, v3, v5, M => if (mI M 11 this 121) ≤ v5 then (Q v3 M) else (if v5 = v1 then (w_Model_together_j61 this Q (w_Model_together_L5 this Q n) v1 v2 v3 v5 M) else (if v2 = 0 then (vp_in v5 (mL M 123 this) ∧ if (mI M 123 this v5.toNatClampNeg) ≤ 0 then (w_Model_together_j59 this Q (w_Model_together_L5 this Q n) v1 v2 v5 (0 : Int64) v3 M) else (vp_in v5 (mL M 123 this) ∧ w_Model_together_j59 this Q (w_Model_together_L5 this Q n) v1 v2 v5 ((1 : Int64) <<< ((mI M 123 this v5.toNatClampNeg).toInt64 &&& 63)) v3 M)) else (vp_in v5 (mL M 124 this) ∧ w_Model_together_j59 this Q (w_Model_together_L5 this Q n) v1 v2 v5 ((mI M 124 this v5.toNatClampNeg).toInt64) v3 M)))
def w_Model_together (this : Nat) (a1 : Int32) (a2 : Int32) (Q : Int64 → Mem → Prop) (M : Mem) : Prop :=
  ∃ n8 : Nat, w_Model_together_L5 this Q n8 a1 a2 (0 : Int64) (0 : Int32) M
set_option maxRecDepth 4096 in
theorem lk_Model_together_j61 {γ : Gm} (hγ : Gk γ) (this : Nat) (Q : Int64 → Mem → Prop) (k5 : Int32 → Int32 → Int64 → Int32 → Mem → Prop) (hk5 : ∀ (v1 : Int32) (v2 : Int32) (v3 : Int64) (v5 : Int32) (M : Mem), k5 v1 v2 v3 v5 M → E γ k_Model_together 0 5 [some (vr (some (11, this))), some (vi v1), some (vi v2), some (vl v3), none, some (vi v5)] [] M (Ql Q)) (v1 : Int32) (v2 : Int32) (v3 : Int64) (v5 : Int32) (M : Mem) (h : w_Model_together_j61 this Q k5 v1 v2 v3 v5 M) : E γ k_Model_together 0 61 [some (vr (some (11, this))), some (vi v1), some (vi v2), some (vl v3), none, some (vi v5)] [] M (Ql Q) := by
  unfold w_Model_together_j61 at h
  refine E_blk (lv' := [some (vr (some (11, this))), some (vi v1), some (vi v2), some (vl v3), none, some (vi (v5 + (1 : Int32)))]) (st' := []) (M1 := M) (pc' := 64) (tb_Model hγ) [.iinc 5 1] (by decide +kernel) rfl rfl trivial ?_
  refine E_goto (off := -59) (tgt := 5) (by decide +kernel) (by decide) ?_
  refine E_mask [true, true, true, true, false, true] rfl ?_
  exact hk5 v1 v2 v3 (v5 + (1 : Int32)) M h
set_option maxRecDepth 4096 in
theorem lk_Model_together_j59 {γ : Gm} (hγ : Gk γ) (this : Nat) (Q : Int64 → Mem → Prop) (k5 : Int32 → Int32 → Int64 → Int32 → Mem → Prop) (hk5 : ∀ (v1 : Int32) (v2 : Int32) (v3 : Int64) (v5 : Int32) (M : Mem), k5 v1 v2 v3 v5 M → E γ k_Model_together 0 5 [some (vr (some (11, this))), some (vi v1), some (vi v2), some (vl v3), none, some (vi v5)] [] M (Ql Q)) (v1 : Int32) (v2 : Int32) (v5 : Int32) (s0 : Int64) (s1 : Int64) (M : Mem) (h : w_Model_together_j59 this Q k5 v1 v2 v5 s0 s1 M) : E γ k_Model_together 0 59 [some (vr (some (11, this))), some (vi v1), some (vi v2), none, none, some (vi v5)] [vl s0, vl s1] M (Ql Q) := by
  unfold w_Model_together_j59 at h
  refine E_blk (lv' := [some (vr (some (11, this))), some (vi v1), some (vi v2), some (vl (s1 ||| s0)), none, some (vi v5)]) (st' := []) (M1 := M) (pc' := 61) (tb_Model hγ) [.lor, .lstore_n 3] (by decide +kernel) rfl rfl trivial ?_
  refine E_mask [true, true, true, true, false, true] rfl ?_
  exact lk_Model_together_j61 hγ this Q k5 hk5 v1 v2 (s1 ||| s0) v5 M h
set_option maxRecDepth 4096 in
theorem lk_Model_together_L5 {γ : Gm} (hγ : Gk γ) (this : Nat) (Q : Int64 → Mem → Prop) : ∀ (n : Nat) (v1 : Int32) (v2 : Int32) (v3 : Int64) (v5 : Int32) (M : Mem), w_Model_together_L5 this Q n v1 v2 v3 v5 M → E γ k_Model_together 0 5 [some (vr (some (11, this))), some (vi v1), some (vi v2), some (vl v3), none, some (vi v5)] [] M (Ql Q) := by
  intro n
  induction n with
  | zero => intro v1 v2 v3 v5 M h; exact h.elim
  | succ n ih =>
    intro v1 v2 v3 v5 M h
    unfold w_Model_together_L5 at h
    refine E_blk (lv' := [some (vr (some (11, this))), some (vi v1), some (vi v2), some (vl v3), none, some (vi v5)]) (st' := [vi (mI M 11 this 121), vi v5]) (M1 := M) (pc' := 11) (tb_Model hγ) [.iload 5, .aload_n 0, .getfield 1314] (by decide +kernel) rfl rfl trivial ?_
    refine E_icmp_ge (off := 56) (tgt := 67) (by decide +kernel) (by decide) (fun b1 => ?_) (fun b1 => ?_)
    · rw [if_pos b1] at h
      refine E_blk (lv' := [some (vr (some (11, this))), some (vi v1), some (vi v2), some (vl v3), none, some (vi v5)]) (st' := [vl v3]) (M1 := M) (pc' := 68) (tb_Model hγ) [.lload_n 3] (by decide +kernel) rfl rfl trivial ?_
      exact E_lret rfl (by decide +kernel) h
    · rw [if_neg b1] at h
      refine E_blk (lv' := [some (vr (some (11, this))), some (vi v1), some (vi v2), some (vl v3), none, some (vi v5)]) (st' := [vi v1, vi v5]) (M1 := M) (pc' := 17) (tb_Model hγ) [.iload 5, .iload_n 1] (by decide +kernel) rfl rfl trivial ?_
      refine E_icmp_eq (off := 44) (tgt := 61) (by decide +kernel) (by decide) (fun b2 => ?_) (fun b2 => ?_)
      · rw [if_pos b2] at h
        refine E_mask [true, true, true, true, false, true] rfl ?_
        exact lk_Model_together_j61 hγ this Q (w_Model_together_L5 this Q n) ih v1 v2 v3 v5 M h
      · rw [if_neg b2] at h
        refine E_blk (lv' := [some (vr (some (11, this))), some (vi v1), some (vi v2), some (vl v3), none, some (vi v5)]) (st' := [vi v2, vl v3]) (M1 := M) (pc' := 22) (tb_Model hγ) [.lload_n 3, .iload_n 2] (by decide +kernel) rfl rfl trivial ?_
        refine E_if_eq (off := 14) (tgt := 36) (by decide +kernel) (by decide) (fun b3 => ?_) (fun b3 => ?_)
        · rw [if_pos b3] at h
          obtain ⟨c4, h⟩ := h
          refine E_blk (lv' := [some (vr (some (11, this))), some (vi v1), some (vi v2), some (vl v3), none, some (vi v5)]) (st' := [vi (mI M 123 this v5.toNatClampNeg), vl v3]) (M1 := M) (pc' := 43) (tb_Model hγ) [.aload_n 0, .getfield 381, .iload 5, .iaload] (by decide +kernel) rfl rfl ⟨c4, trivial⟩ ?_
          refine E_if_le (off := 15) (tgt := 58) (by decide +kernel) (by decide) (fun b5 => ?_) (fun b5 => ?_)
          · rw [if_pos b5] at h
            refine E_blk (lv' := [some (vr (some (11, this))), some (vi v1), some (vi v2), some (vl v3), none, some (vi v5)]) (st' := [vl (0 : Int64), vl v3]) (M1 := M) (pc' := 59) (tb_Model hγ) [.lconst 0] (by decide +kernel) rfl rfl trivial ?_
            refine E_mask [true, true, true, false, false, true] rfl ?_
            exact lk_Model_together_j59 hγ this Q (w_Model_together_L5 this Q n) ih v1 v2 v5 (0 : Int64) v3 M h
          · rw [if_neg b5] at h
            obtain ⟨c6, h⟩ := h
            refine E_blk (lv' := [some (vr (some (11, this))), some (vi v1), some (vi v2), some (vl v3), none, some (vi v5)]) (st' := [vl ((1 : Int64) <<< ((mI M 123 this v5.toNatClampNeg).toInt64 &&& 63)), vl v3]) (M1 := M) (pc' := 55) (tb_Model hγ) [.lconst 1, .aload_n 0, .getfield 381, .iload 5, .iaload, .lshl] (by decide +kernel) rfl rfl ⟨c6, trivial⟩ ?_
            refine E_goto (off := 4) (tgt := 59) (by decide +kernel) (by decide) ?_
            refine E_mask [true, true, true, false, false, true] rfl ?_
            exact lk_Model_together_j59 hγ this Q (w_Model_together_L5 this Q n) ih v1 v2 v5 ((1 : Int64) <<< ((mI M 123 this v5.toNatClampNeg).toInt64 &&& 63)) v3 M h
        · rw [if_neg b3] at h
          obtain ⟨c7, h⟩ := h
          refine E_blk (lv' := [some (vr (some (11, this))), some (vi v1), some (vi v2), some (vl v3), none, some (vi v5)]) (st' := [vl ((mI M 124 this v5.toNatClampNeg).toInt64), vl v3]) (M1 := M) (pc' := 33) (tb_Model hγ) [.aload_n 0, .getfield 384, .iload 5, .iaload, .i2l] (by decide +kernel) rfl rfl ⟨c7, trivial⟩ ?_
          refine E_goto (off := 26) (tgt := 59) (by decide +kernel) (by decide) ?_
          refine E_mask [true, true, true, false, false, true] rfl ?_
          exact lk_Model_together_j59 hγ this Q (w_Model_together_L5 this Q n) ih v1 v2 v5 ((mI M 124 this v5.toNatClampNeg).toInt64) v3 M h
set_option maxRecDepth 4096 in
theorem lk_Model_together {γ : Gm} (hγ : Gk γ) (this : Nat) (a1 : Int32) (a2 : Int32) (Q : Int64 → Mem → Prop) (M : Mem) (h : w_Model_together this a1 a2 Q M) : E γ k_Model_together 0 0 [some (vr (some (11, this))), some (vi a1), some (vi a2), none, none, none] [] M (Ql Q) := by
  unfold w_Model_together at h
  refine E_blk (lv' := [some (vr (some (11, this))), some (vi a1), some (vi a2), some (vl (0 : Int64)), none, some (vi (0 : Int32))]) (st' := []) (M1 := M) (pc' := 5) (tb_Model hγ) [.lconst 0, .lstore_n 3, .iconst 0, .istore 5] (by decide +kernel) rfl rfl trivial ?_
  obtain ⟨n8, h⟩ := h
  refine E_mask [true, true, true, true, false, true] rfl ?_
  exact lk_Model_together_L5 hγ this Q n8 a1 a2 (0 : Int64) (0 : Int32) M h
def w_Model_least_j187 (this : Nat) (Q : Int32 → Mem → Prop) (X : Mem → Prop) (k45 : Int64 → Int64 → Int32 → Mem → Prop) (v1 : Int64) (v3 : Int64) (v5 : Int32) (M : Mem) : Prop :=
  k45 v1 v3 (v5 + (-1 : Int32)) M
def w_Model_least_L78 (this : Nat) (Q : Int32 → Mem → Prop) (X : Mem → Prop) (k45 : Int64 → Int64 → Int32 → Mem → Prop) : Nat → Int64 → Int64 → Int32 → Int32 → Mem → Prop
  | 0, _, _, _, _, _ => False
  | n + 1, v1, v3, v5, v6, M => if ((mI M 11 this 121) - (1 : Int32)) ≤ v6 then (w_Model_least_j187 this Q X k45 v1 v3 v5 (sI M 11 this 121 ((mI M 11 this 121) - (1 : Int32)))) else (vp_in (v6 + (1 : Int32)) (mL M 122 this) ∧ ¬ ((1204 : Int32) * (v6 + (1 : Int32))) < 0 ∧ ¬ ((1204 : Int32) * v6) < 0 ∧ ¬ (mI M 122 this (v6 + (1 : Int32)).toNatClampNeg) < 0 ∧ ((1204 : Int32) * (v6 + (1 : Int32))).toNatClampNeg + (mI M 122 this (v6 + (1 : Int32)).toNatClampNeg).toNatClampNeg ≤ mL M 412 this ∧ ((1204 : Int32) * v6).toNatClampNeg + (mI M 122 this (v6 + (1 : Int32)).toNatClampNeg).toNatClampNeg ≤ mL M 412 this ∧ ∃ M15, M15 = cpI M 412 this ((1204 : Int32) * (v6 + (1 : Int32))).toNatClampNeg 412 this ((1204 : Int32) * v6).toNatClampNeg (mI M 122 this (v6 + (1 : Int32)).toNatClampNeg).toNatClampNeg ∧ vp_in (v6 + (1 : Int32)) (mL M15 122 this) ∧ vp_in v6 (mL M15 122 this) ∧ ∃ M23, M23 = (sI M15 122 this v6.toNatClampNeg (mI M15 122 this (v6 + (1 : Int32)).toNatClampNeg)) ∧ vp_in (v6 + (1 : Int32)) (mL M23 123 this) ∧ vp_in v6 (mL M23 123 this) ∧ ∃ M26, M26 = (sI M23 123 this v6.toNatClampNeg (mI M23 123 this (v6 + (1 : Int32)).toNatClampNeg)) ∧ vp_in (v6 + (1 : Int32)) (mL M26 124 this) ∧ vp_in v6 (mL M26 124 this) ∧ ∃ M29, M29 = (sI M26 124 this v6.toNatClampNeg (mI M26 124 this (v6 + (1 : Int32)).toNatClampNeg)) ∧ (w_Model_least_L78 this Q X k45 n) v1 v3 v5 (v6 + (1 : Int32)) M29)
def w_Model_least_L45 (this : Nat) (Q : Int32 → Mem → Prop) (X : Mem → Prop) : Nat → Int64 → Int64 → Int32 → Mem → Prop
  | 0, _, _, _, _ => False
  | n + 1, v1, v3, v5, M => if v5 < 0 then (Q (mI M 11 this 121) M) else (w_Model_together this v5 (0 : Int32) (fun r8 M7 => if (lg_cmp r8 v1) = 0 then (w_Model_together this v5 (1 : Int32) (fun r11 M10 => if (lg_cmp r11 v3) = 0 then (∃ n30 : Nat, w_Model_least_L78 this Q X (w_Model_least_L45 this Q X n) n30 v1 v3 v5 v5 M10) else (w_Model_least_j187 this Q X (w_Model_least_L45 this Q X n) v1 v3 v5 M10)) M7) else (w_Model_least_j187 this Q X (w_Model_least_L45 this Q X n) v1 v3 v5 M7)) M)
def w_Model_least_L2 (this : Nat) (Q : Int32 → Mem → Prop) (X : Mem → Prop) : Nat → Int32 → Mem → Prop
  | 0, _, _ => False
  | n + 1, v1, M => if (mI M 11 this 121) ≤ v1 then (w_Model_together this (-2 : Int32) (0 : Int32) (fun r3 M2 => w_Model_together this (-2 : Int32) (1 : Int32) (fun r5 M4 => ∃ n31 : Nat, w_Model_least_L45 this Q X n31 r3 r5 ((mI M4 11 this 121) - (1 : Int32)) M4) M2) M) else (w_Model_look this v1 (fun M32 => (w_Model_least_L2 this Q X n) (v1 + (1 : Int32)) M32) X M)
def w_Model_least (this : Nat) (Q : Int32 → Mem → Prop) (X : Mem → Prop) (M : Mem) : Prop :=
  ∃ n33 : Nat, w_Model_least_L2 this Q X n33 (0 : Int32) M
set_option maxRecDepth 4096 in
theorem lk_Model_least_j187 {γ : Gm} (hγ : Gk γ) (this : Nat) (Q : Int32 → Mem → Prop) (X : Mem → Prop) (k45 : Int64 → Int64 → Int32 → Mem → Prop) (hk45 : ∀ (v1 : Int64) (v3 : Int64) (v5 : Int32) (M : Mem), k45 v1 v3 v5 M → E γ k_Model_least 137 45 [some (vr (some (11, this))), some (vl v1), none, some (vl v3), none, some (vi v5), none] [] M (Qx (14, 0) (Qi Q) X)) (v1 : Int64) (v3 : Int64) (v5 : Int32) (M : Mem) (h : w_Model_least_j187 this Q X k45 v1 v3 v5 M) : E γ k_Model_least 137 187 [some (vr (some (11, this))), some (vl v1), none, some (vl v3), none, some (vi v5), none] [] M (Qx (14, 0) (Qi Q) X) := by
  unfold w_Model_least_j187 at h
  refine E_blk (lv' := [some (vr (some (11, this))), some (vl v1), none, some (vl v3), none, some (vi (v5 + (-1 : Int32))), none]) (st' := []) (M1 := M) (pc' := 190) (tb_Model hγ) [.iinc 5 (.negSucc 0)] (by decide +kernel) rfl rfl trivial ?_
  refine E_goto (off := -145) (tgt := 45) (by decide +kernel) (by decide) ?_
  refine E_mask [true, true, false, true, false, true, false] rfl ?_
  exact hk45 v1 v3 (v5 + (-1 : Int32)) M h
set_option maxRecDepth 4096 in
theorem lk_Model_least_L78 {γ : Gm} (hγ : Gk γ) (this : Nat) (Q : Int32 → Mem → Prop) (X : Mem → Prop) (k45 : Int64 → Int64 → Int32 → Mem → Prop) (hk45 : ∀ (v1 : Int64) (v3 : Int64) (v5 : Int32) (M : Mem), k45 v1 v3 v5 M → E γ k_Model_least 137 45 [some (vr (some (11, this))), some (vl v1), none, some (vl v3), none, some (vi v5), none] [] M (Qx (14, 0) (Qi Q) X)) : ∀ (n : Nat) (v1 : Int64) (v3 : Int64) (v5 : Int32) (v6 : Int32) (M : Mem), w_Model_least_L78 this Q X k45 n v1 v3 v5 v6 M → E γ k_Model_least 137 78 [some (vr (some (11, this))), some (vl v1), none, some (vl v3), none, some (vi v5), some (vi v6)] [] M (Qx (14, 0) (Qi Q) X) := by
  intro n
  induction n with
  | zero => intro v1 v3 v5 v6 M h; exact h.elim
  | succ n ih =>
    intro v1 v3 v5 v6 M h
    unfold w_Model_least_L78 at h
    refine E_blk (lv' := [some (vr (some (11, this))), some (vl v1), none, some (vl v3), none, some (vi v5), some (vi v6)]) (st' := [vi ((mI M 11 this 121) - (1 : Int32)), vi v6]) (M1 := M) (pc' := 86) (tb_Model hγ) [.iload 6, .aload_n 0, .getfield 1314, .iconst 1, .isub] (by decide +kernel) rfl rfl trivial ?_
    refine E_icmp_ge (off := 91) (tgt := 177) (by decide +kernel) (by decide) (fun b13 => ?_) (fun b13 => ?_)
    · rw [if_pos b13] at h
      refine E_blk (lv' := [some (vr (some (11, this))), some (vl v1), none, some (vl v3), none, some (vi v5), some (vi v6)]) (st' := []) (M1 := (sI M 11 this 121 ((mI M 11 this 121) - (1 : Int32)))) (pc' := 187) (tb_Model hγ) [.aload_n 0, .dup, .getfield 1314, .iconst 1, .isub, .putfield 1314] (by decide +kernel) rfl rfl trivial ?_
      refine E_mask [true, true, false, true, false, true, false] rfl ?_
      exact lk_Model_least_j187 hγ this Q X k45 hk45 v1 v3 v5 (sI M 11 this 121 ((mI M 11 this 121) - (1 : Int32))) h
    · rw [if_neg b13] at h
      obtain ⟨c14, h⟩ := h
      refine E_blk (lv' := [some (vr (some (11, this))), some (vl v1), none, some (vl v3), none, some (vi v5), some (vi v6)]) (st' := [vi (mI M 122 this (v6 + (1 : Int32)).toNatClampNeg), vi ((1204 : Int32) * v6), vr (some (412, this)), vi ((1204 : Int32) * (v6 + (1 : Int32))), vr (some (412, this))]) (M1 := M) (pc' := 120) (tb_Model hγ) [.aload_n 0, .getfield 372, .sipush 1204, .iload 6, .iconst 1, .iadd, .imul, .aload_n 0, .getfield 372, .sipush 1204, .iload 6, .imul, .aload_n 0, .getfield 375, .iload 6, .iconst 1, .iadd, .iaload] (by decide +kernel) rfl rfl ⟨c14, trivial⟩ ?_
      obtain ⟨c16, c17, c18, c19, c20, M15, eM15, h⟩ := h
      refine E_copy (pc := 120) (κ := k_Model_least) (f := 412) (i := this) (g := 412) (j := this) (sp := ((1204 : Int32) * (v6 + (1 : Int32)))) (dp := ((1204 : Int32) * v6)) (n := (mI M 122 this (v6 + (1 : Int32)).toNatClampNeg)) (idx := 11) (st := []) c16 c17 c18 c19 c20 (by decide) (by decide) rfl (by decide) (tbk_mem (j := 11) (k := 65) rfl) (by decide +kernel) (Nat.le_of_ble_eq_true rfl) ?_
      rw [← eM15]
      obtain ⟨c21, c22, h⟩ := h
      refine E_blk (lv' := [some (vr (some (11, this))), some (vl v1), none, some (vl v3), none, some (vi v5), some (vi v6)]) (st' := []) (M1 := (sI M15 122 this v6.toNatClampNeg (mI M15 122 this (v6 + (1 : Int32)).toNatClampNeg))) (pc' := 139) (tb_Model hγ) [.aload_n 0, .getfield 375, .iload 6, .aload_n 0, .getfield 375, .iload 6, .iconst 1, .iadd, .iaload, .iastore] (by decide +kernel) rfl rfl ⟨c21, c22, trivial⟩ ?_
      obtain ⟨M23, eM23, h⟩ := h
      rw [← eM23]
      obtain ⟨c24, c25, h⟩ := h
      refine E_blk (lv' := [some (vr (some (11, this))), some (vl v1), none, some (vl v3), none, some (vi v5), some (vi v6)]) (st' := []) (M1 := (sI M23 123 this v6.toNatClampNeg (mI M23 123 this (v6 + (1 : Int32)).toNatClampNeg))) (pc' := 155) (tb_Model hγ) [.aload_n 0, .getfield 381, .iload 6, .aload_n 0, .getfield 381, .iload 6, .iconst 1, .iadd, .iaload, .iastore] (by decide +kernel) rfl rfl ⟨c24, c25, trivial⟩ ?_
      obtain ⟨M26, eM26, h⟩ := h
      rw [← eM26]
      obtain ⟨c27, c28, h⟩ := h
      refine E_blk (lv' := [some (vr (some (11, this))), some (vl v1), none, some (vl v3), none, some (vi v5), some (vi v6)]) (st' := []) (M1 := (sI M26 124 this v6.toNatClampNeg (mI M26 124 this (v6 + (1 : Int32)).toNatClampNeg))) (pc' := 171) (tb_Model hγ) [.aload_n 0, .getfield 384, .iload 6, .aload_n 0, .getfield 384, .iload 6, .iconst 1, .iadd, .iaload, .iastore] (by decide +kernel) rfl rfl ⟨c27, c28, trivial⟩ ?_
      obtain ⟨M29, eM29, h⟩ := h
      rw [← eM29]
      refine E_blk (lv' := [some (vr (some (11, this))), some (vl v1), none, some (vl v3), none, some (vi v5), some (vi (v6 + (1 : Int32)))]) (st' := []) (M1 := M29) (pc' := 174) (tb_Model hγ) [.iinc 6 1] (by decide +kernel) rfl rfl trivial ?_
      refine E_goto (off := -96) (tgt := 78) (by decide +kernel) (by decide) ?_
      refine E_mask [true, true, false, true, false, true, true] rfl ?_
      exact ih v1 v3 v5 (v6 + (1 : Int32)) M29 h
set_option maxRecDepth 4096 in
theorem lk_Model_least_L45 {γ : Gm} (hγ : Gk γ) (this : Nat) (Q : Int32 → Mem → Prop) (X : Mem → Prop) : ∀ (n : Nat) (v1 : Int64) (v3 : Int64) (v5 : Int32) (M : Mem), w_Model_least_L45 this Q X n v1 v3 v5 M → E γ k_Model_least 137 45 [some (vr (some (11, this))), some (vl v1), none, some (vl v3), none, some (vi v5), none] [] M (Qx (14, 0) (Qi Q) X) := by
  intro n
  induction n with
  | zero => intro v1 v3 v5 M h; exact h.elim
  | succ n ih =>
    intro v1 v3 v5 M h
    unfold w_Model_least_L45 at h
    refine E_blk (lv' := [some (vr (some (11, this))), some (vl v1), none, some (vl v3), none, some (vi v5), none]) (st' := [vi v5]) (M1 := M) (pc' := 47) (tb_Model hγ) [.iload 5] (by decide +kernel) rfl rfl trivial ?_
    refine E_if_lt (off := 146) (tgt := 193) (by decide +kernel) (by decide) (fun b6 => ?_) (fun b6 => ?_)
    · rw [if_pos b6] at h
      refine E_blk (lv' := [some (vr (some (11, this))), some (vl v1), none, some (vl v3), none, some (vi v5), none]) (st' := [vi (mI M 11 this 121)]) (M1 := M) (pc' := 197) (tb_Model hγ) [.aload_n 0, .getfield 1314] (by decide +kernel) rfl rfl trivial ?_
      exact (E_iret rfl (by decide +kernel) h).nx
    · rw [if_neg b6] at h
      refine E_blk (lv' := [some (vr (some (11, this))), some (vl v1), none, some (vl v3), none, some (vi v5), none]) (st' := [vi (0 : Int32), vi v5, vr (some (11, this))]) (M1 := M) (pc' := 54) (tb_Model hγ) [.aload_n 0, .iload 5, .iconst 0] (by decide +kernel) rfl rfl trivial ?_
      refine E_callV (κ' := k_Model_together) (As := [vi v5, vi (0 : Int32)]) (st := []) mv_Model_together (Or.inl (tbk_mem (j := 18) (k := 7) rfl)) rfl (by decide +kernel) (Nat.le_of_ble_eq_true rfl) (Nat.le_of_ble_eq_true rfl) rfl (by decide) (lk_Model_together hγ this v5 (0 : Int32) _ M h) (fun _ _ => Ql_r) (fun v M7 hp => Ql_k (R := fun st => E γ k_Model_least 137 57 [some (vr (some (11, this))), some (vl v1), none, some (vl v3), none, some (vi v5), none] st M7 (Qx (14, 0) (Qi Q) X)) hp (fun r8 h => ?_))
      refine E_blk (lv' := [some (vr (some (11, this))), some (vl v1), none, some (vl v3), none, some (vi v5), none]) (st' := [vi (lg_cmp r8 v1)]) (M1 := M7) (pc' := 59) (tb_Model hγ) [.lload_n 1, .lcmp] (by decide +kernel) rfl rfl trivial ?_
      refine E_if_ne (off := 128) (tgt := 187) (by decide +kernel) (by decide) (fun b9 => ?_) (fun b9 => ?_)
      · rw [if_pos b9] at h
        refine E_blk (lv' := [some (vr (some (11, this))), some (vl v1), none, some (vl v3), none, some (vi v5), none]) (st' := [vi (1 : Int32), vi v5, vr (some (11, this))]) (M1 := M7) (pc' := 66) (tb_Model hγ) [.aload_n 0, .iload 5, .iconst 1] (by decide +kernel) rfl rfl trivial ?_
        refine E_callV (κ' := k_Model_together) (As := [vi v5, vi (1 : Int32)]) (st := []) mv_Model_together (Or.inl (tbk_mem (j := 18) (k := 7) rfl)) rfl (by decide +kernel) (Nat.le_of_ble_eq_true rfl) (Nat.le_of_ble_eq_true rfl) rfl (by decide) (lk_Model_together hγ this v5 (1 : Int32) _ M7 h) (fun _ _ => Ql_r) (fun v M10 hp => Ql_k (R := fun st => E γ k_Model_least 137 69 [some (vr (some (11, this))), some (vl v1), none, some (vl v3), none, some (vi v5), none] st M10 (Qx (14, 0) (Qi Q) X)) hp (fun r11 h => ?_))
        refine E_blk (lv' := [some (vr (some (11, this))), some (vl v1), none, some (vl v3), none, some (vi v5), none]) (st' := [vi (lg_cmp r11 v3)]) (M1 := M10) (pc' := 71) (tb_Model hγ) [.lload_n 3, .lcmp] (by decide +kernel) rfl rfl trivial ?_
        refine E_if_ne (off := 116) (tgt := 187) (by decide +kernel) (by decide) (fun b12 => ?_) (fun b12 => ?_)
        · rw [if_pos b12] at h
          refine E_blk (lv' := [some (vr (some (11, this))), some (vl v1), none, some (vl v3), none, some (vi v5), some (vi v5)]) (st' := []) (M1 := M10) (pc' := 78) (tb_Model hγ) [.iload 5, .istore 6] (by decide +kernel) rfl rfl trivial ?_
          obtain ⟨n30, h⟩ := h
          refine E_mask [true, true, false, true, false, true, true] rfl ?_
          exact lk_Model_least_L78 hγ this Q X (w_Model_least_L45 this Q X n) ih n30 v1 v3 v5 v5 M10 h
        · rw [if_neg b12] at h
          refine E_mask [true, true, false, true, false, true, false] rfl ?_
          exact lk_Model_least_j187 hγ this Q X (w_Model_least_L45 this Q X n) ih v1 v3 v5 M10 h
      · rw [if_neg b9] at h
        refine E_mask [true, true, false, true, false, true, false] rfl ?_
        exact lk_Model_least_j187 hγ this Q X (w_Model_least_L45 this Q X n) ih v1 v3 v5 M7 h
set_option maxRecDepth 4096 in
theorem lk_Model_least_L2 {γ : Gm} (hγ : Gk γ) (this : Nat) (Q : Int32 → Mem → Prop) (X : Mem → Prop) : ∀ (n : Nat) (v1 : Int32) (M : Mem), w_Model_least_L2 this Q X n v1 M → E γ k_Model_least 137 2 [some (vr (some (11, this))), some (vi v1), none, none, none, none, none] [] M (Qx (14, 0) (Qi Q) X) := by
  intro n
  induction n with
  | zero => intro v1 M h; exact h.elim
  | succ n ih =>
    intro v1 M h
    unfold w_Model_least_L2 at h
    refine E_blk (lv' := [some (vr (some (11, this))), some (vi v1), none, none, none, none, none]) (st' := [vi (mI M 11 this 121), vi v1]) (M1 := M) (pc' := 7) (tb_Model hγ) [.iload_n 1, .aload_n 0, .getfield 1314] (by decide +kernel) rfl rfl trivial ?_
    refine E_icmp_ge (off := 14) (tgt := 21) (by decide +kernel) (by decide) (fun b1 => ?_) (fun b1 => ?_)
    · rw [if_pos b1] at h
      refine E_blk (lv' := [some (vr (some (11, this))), some (vi v1), none, none, none, none, none]) (st' := [vi (0 : Int32), vi (-2 : Int32), vr (some (11, this))]) (M1 := M) (pc' := 25) (tb_Model hγ) [.aload_n 0, .bipush (.negSucc 1), .iconst 0] (by decide +kernel) rfl rfl trivial ?_
      refine E_callV (κ' := k_Model_together) (As := [vi (-2 : Int32), vi (0 : Int32)]) (st := []) mv_Model_together (Or.inl (tbk_mem (j := 18) (k := 7) rfl)) rfl (by decide +kernel) (Nat.le_of_ble_eq_true rfl) (Nat.le_of_ble_eq_true rfl) rfl (by decide) (lk_Model_together hγ this (-2 : Int32) (0 : Int32) _ M h) (fun _ _ => Ql_r) (fun v M2 hp => Ql_k (R := fun st => E γ k_Model_least 137 28 [some (vr (some (11, this))), some (vi v1), none, none, none, none, none] st M2 (Qx (14, 0) (Qi Q) X)) hp (fun r3 h => ?_))
      refine E_blk (lv' := [some (vr (some (11, this))), some (vl r3), none, none, none, none, none]) (st' := [vi (1 : Int32), vi (-2 : Int32), vr (some (11, this))]) (M1 := M2) (pc' := 33) (tb_Model hγ) [.lstore_n 1, .aload_n 0, .bipush (.negSucc 1), .iconst 1] (by decide +kernel) rfl rfl trivial ?_
      refine E_callV (κ' := k_Model_together) (As := [vi (-2 : Int32), vi (1 : Int32)]) (st := []) mv_Model_together (Or.inl (tbk_mem (j := 18) (k := 7) rfl)) rfl (by decide +kernel) (Nat.le_of_ble_eq_true rfl) (Nat.le_of_ble_eq_true rfl) rfl (by decide) (lk_Model_together hγ this (-2 : Int32) (1 : Int32) _ M2 h) (fun _ _ => Ql_r) (fun v M4 hp => Ql_k (R := fun st => E γ k_Model_least 137 36 [some (vr (some (11, this))), some (vl r3), none, none, none, none, none] st M4 (Qx (14, 0) (Qi Q) X)) hp (fun r5 h => ?_))
      refine E_blk (lv' := [some (vr (some (11, this))), some (vl r3), none, some (vl r5), none, some (vi ((mI M4 11 this 121) - (1 : Int32))), none]) (st' := []) (M1 := M4) (pc' := 45) (tb_Model hγ) [.lstore_n 3, .aload_n 0, .getfield 1314, .iconst 1, .isub, .istore 5] (by decide +kernel) rfl rfl trivial ?_
      obtain ⟨n31, h⟩ := h
      refine E_mask [true, true, false, true, false, true, false] rfl ?_
      exact lk_Model_least_L45 hγ this Q X n31 r3 r5 ((mI M4 11 this 121) - (1 : Int32)) M4 h
    · rw [if_neg b1] at h
      refine E_blk (lv' := [some (vr (some (11, this))), some (vi v1), none, none, none, none, none]) (st' := [vi v1, vr (some (11, this))]) (M1 := M) (pc' := 12) (tb_Model hγ) [.aload_n 0, .iload_n 1] (by decide +kernel) rfl rfl trivial ?_
      refine E_callX (κ' := k_Model_look) (As := [vi v1]) (st := []) mv_Model_look (Or.inl (tbk_mem (j := 17) (k := 228) rfl)) rfl (by decide +kernel) (Nat.le_of_ble_eq_true rfl) (Nat.le_of_ble_eq_true rfl) rfl (by decide) rfl (lk_Model_look hγ this v1 _ _ M h) (fun _ _ => Qv_r) (fun _ h => h) (fun v M32 hp => Qv_k (R := fun st => E γ k_Model_least 137 15 [some (vr (some (11, this))), some (vi v1), none, none, none, none, none] st M32 (Qx (14, 0) (Qi Q) X)) hp (fun h => ?_))
      refine E_blk (lv' := [some (vr (some (11, this))), some (vi (v1 + (1 : Int32))), none, none, none, none, none]) (st' := []) (M1 := M32) (pc' := 18) (tb_Model hγ) [.iinc 1 1] (by decide +kernel) rfl rfl trivial ?_
      refine E_goto (off := -16) (tgt := 2) (by decide +kernel) (by decide) ?_
      refine E_mask [true, true, false, false, false, false, false] rfl ?_
      exact ih (v1 + (1 : Int32)) M32 h
set_option maxRecDepth 4096 in
theorem lk_Model_least {γ : Gm} (hγ : Gk γ) (this : Nat) (Q : Int32 → Mem → Prop) (X : Mem → Prop) (M : Mem) (h : w_Model_least this Q X M) : E γ k_Model_least 137 0 [some (vr (some (11, this))), none, none, none, none, none, none] [] M (Qx (14, 0) (Qi Q) X) := by
  unfold w_Model_least at h
  refine E_blk (lv' := [some (vr (some (11, this))), some (vi (0 : Int32)), none, none, none, none, none]) (st' := []) (M1 := M) (pc' := 2) (tb_Model hγ) [.iconst 0, .istore_n 1] (by decide +kernel) rfl rfl trivial ?_
  obtain ⟨n33, h⟩ := h
  refine E_mask [true, true, false, false, false, false, false] rfl ?_
  exact lk_Model_least_L2 hγ this Q X n33 (0 : Int32) M h
def w_Model_addTrial_L18 (this : Nat) (Q : Mem → Prop) : Nat → Int32 → Int32 → Mem → Prop
  | 0, _, _, _ => False
  | n + 1, v1, v2, M => if (256 : Int32) ≤ v2 then (¬ (0 : Int32) < 0 ∧ ¬ (0 : Int32) < 0 ∧ ¬ (256 : Int32) < 0 ∧ (0 : Int32).toNatClampNeg + (256 : Int32).toNatClampNeg ≤ mL M 128 this ∧ (0 : Int32).toNatClampNeg + (256 : Int32).toNatClampNeg ≤ mL M 127 this ∧ ∃ M8, M8 = cpI M 128 this (0 : Int32).toNatClampNeg 127 this (0 : Int32).toNatClampNeg (256 : Int32).toNatClampNeg ∧ Q M8) else (vp_in (v2 ||| v1) (mL M 128 this) ∧ vp_in v2 (mL M 126 this) ∧ vp_in v2 (mL M 127 this) ∧ w_JMath_min (mI M 126 this v2.toNatClampNeg) (mI M 127 this v2.toNatClampNeg) (fun r18 M17 => w_JMath_min (mI M 128 this (v2 ||| v1).toNatClampNeg) ((1 : Int32) + r18) (fun r20 M19 => vp_in (v2 ||| v1) (mL M19 128 this) ∧ (w_Model_addTrial_L18 this Q n) v1 (v2 + (1 : Int32)) (sI M19 128 this (v2 ||| v1).toNatClampNeg r20)) M17) M)
def w_Model_addTrial (this : Nat) (a1 : Int32) (Q : Mem → Prop) (M : Mem) : Prop :=
  ¬ (0 : Int32) < 0 ∧ ¬ (0 : Int32) < 0 ∧ ¬ (256 : Int32) < 0 ∧ (0 : Int32).toNatClampNeg + (256 : Int32).toNatClampNeg ≤ mL M 127 this ∧ (0 : Int32).toNatClampNeg + (256 : Int32).toNatClampNeg ≤ mL M 128 this ∧ ∃ M1, M1 = cpI M 127 this (0 : Int32).toNatClampNeg 128 this (0 : Int32).toNatClampNeg (256 : Int32).toNatClampNeg ∧ ∃ n22 : Nat, w_Model_addTrial_L18 this Q n22 a1 (0 : Int32) M1
set_option maxRecDepth 4096 in
theorem lk_Model_addTrial_L18 {γ : Gm} (hγ : Gk γ) (this : Nat) (Q : Mem → Prop) : ∀ (n : Nat) (v1 : Int32) (v2 : Int32) (M : Mem), w_Model_addTrial_L18 this Q n v1 v2 M → E γ k_Model_addTrial 1 18 [some (vr (some (11, this))), some (vi v1), some (vi v2), none] [] M (Qv Q) := by
  intro n
  induction n with
  | zero => intro v1 v2 M h; exact h.elim
  | succ n ih =>
    intro v1 v2 M h
    unfold w_Model_addTrial_L18 at h
    refine E_blk (lv' := [some (vr (some (11, this))), some (vi v1), some (vi v2), none]) (st' := [vi (256 : Int32), vi v2]) (M1 := M) (pc' := 22) (tb_Model hγ) [.iload_n 2, .sipush 256] (by decide +kernel) rfl rfl trivial ?_
    refine E_icmp_ge (off := 45) (tgt := 67) (by decide +kernel) (by decide) (fun b7 => ?_) (fun b7 => ?_)
    · rw [if_pos b7] at h
      refine E_blk (lv' := [some (vr (some (11, this))), some (vi v1), some (vi v2), none]) (st' := [vi (256 : Int32), vi (0 : Int32), vr (some (127, this)), vi (0 : Int32), vr (some (128, this))]) (M1 := M) (pc' := 80) (tb_Model hγ) [.aload_n 0, .getfield 399, .iconst 0, .aload_n 0, .getfield 396, .iconst 0, .sipush 256] (by decide +kernel) rfl rfl trivial ?_
      obtain ⟨c9, c10, c11, c12, c13, M8, eM8, h⟩ := h
      refine E_copy (pc := 80) (κ := k_Model_addTrial) (f := 128) (i := this) (g := 127) (j := this) (sp := (0 : Int32)) (dp := (0 : Int32)) (n := (256 : Int32)) (idx := 11) (st := []) c9 c10 c11 c12 c13 (by decide) (by decide) rfl (by decide) (tbk_mem (j := 11) (k := 65) rfl) (by decide +kernel) (Nat.le_of_ble_eq_true rfl) ?_
      rw [← eM8]
      exact E_vret rfl (by decide +kernel) h
    · rw [if_neg b7] at h
      obtain ⟨c14, c15, c16, h⟩ := h
      refine E_blk (lv' := [some (vr (some (11, this))), some (vi v1), some (vi v2), some (vi (v2 ||| v1))]) (st' := [vi (mI M 127 this v2.toNatClampNeg), vi (mI M 126 this v2.toNatClampNeg), vi (1 : Int32), vi (mI M 128 this (v2 ||| v1).toNatClampNeg), vi (v2 ||| v1), vr (some (128, this))]) (M1 := M) (pc' := 53) (tb_Model hγ) [.iload_n 2, .iload_n 1, .ior, .istore_n 3, .aload_n 0, .getfield 399, .iload_n 3, .aload_n 0, .getfield 399, .iload_n 3, .iaload, .iconst 1, .aload_n 0, .getfield 393, .iload_n 2, .iaload, .aload_n 0, .getfield 396, .iload_n 2, .iaload] (by decide +kernel) rfl rfl ⟨c14, c15, c16, trivial⟩ ?_
      refine E_callS (κ' := k_JMath_min) (As := [vi (mI M 126 this v2.toNatClampNeg), vi (mI M 127 this v2.toNatClampNeg)]) (st := [vi (1 : Int32), vi (mI M 128 this (v2 ||| v1).toNatClampNeg), vi (v2 ||| v1), vr (some (128, this))]) ms_JMath_min (Or.inl (tbk_mem (j := 15) (k := 108) rfl)) rfl (by decide +kernel) (Nat.le_of_ble_eq_true rfl) (Nat.le_of_ble_eq_true rfl) rfl (by decide) (lk_JMath_min hγ (mI M 126 this v2.toNatClampNeg) (mI M 127 this v2.toNatClampNeg) _ M h) (fun _ _ => Qi_r) (fun v M17 hp => Qi_k (R := fun st => E γ k_Model_addTrial 1 56 [some (vr (some (11, this))), some (vi v1), some (vi v2), some (vi (v2 ||| v1))] st M17 (Qv Q)) hp (fun r18 h => ?_))
      refine E_blk (lv' := [some (vr (some (11, this))), some (vi v1), some (vi v2), some (vi (v2 ||| v1))]) (st' := [vi ((1 : Int32) + r18), vi (mI M 128 this (v2 ||| v1).toNatClampNeg), vi (v2 ||| v1), vr (some (128, this))]) (M1 := M17) (pc' := 57) (tb_Model hγ) [.iadd] (by decide +kernel) rfl rfl trivial ?_
      refine E_callS (κ' := k_JMath_min) (As := [vi (mI M 128 this (v2 ||| v1).toNatClampNeg), vi ((1 : Int32) + r18)]) (st := [vi (v2 ||| v1), vr (some (128, this))]) ms_JMath_min (Or.inl (tbk_mem (j := 15) (k := 108) rfl)) rfl (by decide +kernel) (Nat.le_of_ble_eq_true rfl) (Nat.le_of_ble_eq_true rfl) rfl (by decide) (lk_JMath_min hγ (mI M 128 this (v2 ||| v1).toNatClampNeg) ((1 : Int32) + r18) _ M17 h) (fun _ _ => Qi_r) (fun v M19 hp => Qi_k (R := fun st => E γ k_Model_addTrial 1 60 [some (vr (some (11, this))), some (vi v1), some (vi v2), some (vi (v2 ||| v1))] st M19 (Qv Q)) hp (fun r20 h => ?_))
      obtain ⟨c21, h⟩ := h
      refine E_blk (lv' := [some (vr (some (11, this))), some (vi v1), some (vi (v2 + (1 : Int32))), some (vi (v2 ||| v1))]) (st' := []) (M1 := (sI M19 128 this (v2 ||| v1).toNatClampNeg r20)) (pc' := 64) (tb_Model hγ) [.iastore, .iinc 2 1] (by decide +kernel) rfl rfl ⟨c21, trivial⟩ ?_
      refine E_goto (off := -46) (tgt := 18) (by decide +kernel) (by decide) ?_
      refine E_mask [true, true, true, false] rfl ?_
      exact ih v1 (v2 + (1 : Int32)) (sI M19 128 this (v2 ||| v1).toNatClampNeg r20) h
set_option maxRecDepth 4096 in
theorem lk_Model_addTrial {γ : Gm} (hγ : Gk γ) (this : Nat) (a1 : Int32) (Q : Mem → Prop) (M : Mem) (h : w_Model_addTrial this a1 Q M) : E γ k_Model_addTrial 1 0 [some (vr (some (11, this))), some (vi a1), none, none] [] M (Qv Q) := by
  unfold w_Model_addTrial at h
  refine E_blk (lv' := [some (vr (some (11, this))), some (vi a1), none, none]) (st' := [vi (256 : Int32), vi (0 : Int32), vr (some (128, this)), vi (0 : Int32), vr (some (127, this))]) (M1 := M) (pc' := 13) (tb_Model hγ) [.aload_n 0, .getfield 396, .iconst 0, .aload_n 0, .getfield 399, .iconst 0, .sipush 256] (by decide +kernel) rfl rfl trivial ?_
  obtain ⟨c2, c3, c4, c5, c6, M1, eM1, h⟩ := h
  refine E_copy (pc := 13) (κ := k_Model_addTrial) (f := 127) (i := this) (g := 128) (j := this) (sp := (0 : Int32)) (dp := (0 : Int32)) (n := (256 : Int32)) (idx := 11) (st := []) c2 c3 c4 c5 c6 (by decide) (by decide) rfl (by decide) (tbk_mem (j := 11) (k := 65) rfl) (by decide +kernel) (Nat.le_of_ble_eq_true rfl) ?_
  rw [← eM1]
  refine E_blk (lv' := [some (vr (some (11, this))), some (vi a1), some (vi (0 : Int32)), none]) (st' := []) (M1 := M1) (pc' := 18) (tb_Model hγ) [.iconst 0, .istore_n 2] (by decide +kernel) rfl rfl trivial ?_
  obtain ⟨n22, h⟩ := h
  refine E_mask [true, true, true, false] rfl ?_
  exact lk_Model_addTrial_L18 hγ this Q n22 a1 (0 : Int32) M1 h
def w_Model_fewest_j214 (this : Nat) (Q : Int32 → Mem → Prop) (X : Mem → Prop) (k64 : Int32 → Int32 → Mem → Prop) (v1 : Int32) (v2 : Int32) (M : Mem) : Prop :=
  k64 v1 (v2 + (1 : Int32)) M
def w_Model_fewest_j207 (this : Nat) (Q : Int32 → Mem → Prop) (X : Mem → Prop) (k64 : Int32 → Int32 → Mem → Prop) (k158 : Int32 → Int32 → Int32 → Int32 → Mem → Prop) (v1 : Int32) (v2 : Int32) (v3 : Int32) (v4 : Int32) (s0 : Int32) (s1 : Int32) (M : Mem) : Prop :=
  vp_in s1 (mL M 125 this) ∧ k158 v1 v2 v3 (v4 + (1 : Int32)) (sI M 125 this s1.toNatClampNeg s0)
def w_Model_fewest_L158 (this : Nat) (Q : Int32 → Mem → Prop) (X : Mem → Prop) (k64 : Int32 → Int32 → Mem → Prop) : Nat → Int32 → Int32 → Int32 → Int32 → Mem → Prop
  | 0, _, _, _, _, _ => False
  | n + 1, v1, v2, v3, v4, M => if (256 : Int32) ≤ v4 then (w_Model_fewest_j214 this Q X k64 v1 v2 M) else (if v3 = 0 then (w_Model_fewest_j214 this Q X k64 v1 v2 M) else (if v2 = 0 then (vp_in v4 (mL M 126 this) ∧ vp_in v4 (mL M 127 this) ∧ w_JMath_min (mI M 126 this v4.toNatClampNeg) (mI M 127 this v4.toNatClampNeg) (fun r15 M14 => w_Model_fewest_j207 this Q X k64 (w_Model_fewest_L158 this Q X k64 n) v1 v2 v3 v4 r15 v4 M14) M) else (vp_in v4 (mL M 127 this) ∧ w_Model_fewest_j207 this Q X k64 (w_Model_fewest_L158 this Q X k64 n) v1 v2 v3 v4 (mI M 127 this v4.toNatClampNeg) v4 M)))
def w_Model_fewest_j149 (this : Nat) (Q : Int32 → Mem → Prop) (X : Mem → Prop) (k64 : Int32 → Int32 → Mem → Prop) (k116 : Int32 → Int32 → Int32 → Int32 → Mem → Prop) (v1 : Int32) (v2 : Int32) (v3 : Int32) (v4 : Int32) (M : Mem) : Prop :=
  k116 v1 v2 v3 (v4 + (1 : Int32)) M
def w_Model_fewest_L116 (this : Nat) (Q : Int32 → Mem → Prop) (X : Mem → Prop) (k64 : Int32 → Int32 → Mem → Prop) : Nat → Int32 → Int32 → Int32 → Int32 → Mem → Prop
  | 0, _, _, _, _, _ => False
  | n + 1, v1, v2, v3, v4, M => if (mI M 11 this 121) ≤ v4 then (∃ n18 : Nat, w_Model_fewest_L158 this Q X k64 n18 v1 v2 v3 (0 : Int32) M) else (vp_in v4 (mL M 123 this) ∧ if (mI M 123 this v4.toNatClampNeg) = v2 then (vp_in v4 (mL M 124 this) ∧ w_Model_addTrial this (mI M 124 this v4.toNatClampNeg) (fun M22 => w_Model_fewest_j149 this Q X k64 (w_Model_fewest_L116 this Q X k64 n) v1 v2 (1 : Int32) v4 M22) M) else (w_Model_fewest_j149 this Q X k64 (w_Model_fewest_L116 this Q X k64 n) v1 v2 v3 v4 M))
def w_Model_fewest_L75 (this : Nat) (Q : Int32 → Mem → Prop) (X : Mem → Prop) (k64 : Int32 → Int32 → Mem → Prop) : Nat → Int32 → Int32 → Int32 → Int32 → Mem → Prop
  | 0, _, _, _, _, _ => False
  | n + 1, v1, v2, v3, v4, M => if (256 : Int32) ≤ v4 then (∃ n23 : Nat, w_Model_fewest_L116 this Q X k64 n23 v1 v2 v3 (0 : Int32) M) else (vp_in v4 (mL M 125 this) ∧ vp_in v4 (mL M 126 this) ∧ vp_in v4 (mL (sI M 126 this v4.toNatClampNeg (mI M 125 this v4.toNatClampNeg)) 127 this) ∧ ∃ M27, M27 = (sI (sI M 126 this v4.toNatClampNeg (mI M 125 this v4.toNatClampNeg)) 127 this v4.toNatClampNeg (1000 : Int32)) ∧ (w_Model_fewest_L75 this Q X k64 n) v1 v2 v3 (v4 + (1 : Int32)) M27)
def w_Model_fewest_L64 (this : Nat) (Q : Int32 → Mem → Prop) (X : Mem → Prop) : Nat → Int32 → Int32 → Mem → Prop
  | 0, _, _, _ => False
  | n + 1, v1, v2, M => if (60 : Int32) ≤ v2 then (vp_in v1 (mL M 125 this) ∧ Q (mI M 125 this v1.toNatClampNeg) M) else (∃ n28 : Nat, w_Model_fewest_L75 this Q X (w_Model_fewest_L64 this Q X n) n28 v1 v2 (0 : Int32) (0 : Int32) M)
def w_Model_fewest_j55 (this : Nat) (Q : Int32 → Mem → Prop) (X : Mem → Prop) (k32 : Int32 → Int32 → Mem → Prop) (v1 : Int32) (v2 : Int32) (s0 : Int32) (s1 : Int32) (M : Mem) : Prop :=
  vp_in s1 (mL M 125 this) ∧ k32 v1 (v2 + (1 : Int32)) (sI M 125 this s1.toNatClampNeg s0)
def w_Model_fewest_L32 (this : Nat) (Q : Int32 → Mem → Prop) (X : Mem → Prop) : Nat → Int32 → Int32 → Mem → Prop
  | 0, _, _, _ => False
  | n + 1, v1, v2, M => if (256 : Int32) ≤ v2 then (∃ n29 : Nat, w_Model_fewest_L64 this Q X n29 v1 (0 : Int32) M) else (if v2 = 0 then (w_Model_fewest_j55 this Q X (w_Model_fewest_L32 this Q X n) v1 v2 (0 : Int32) v2 M) else (w_Model_fewest_j55 this Q X (w_Model_fewest_L32 this Q X n) v1 v2 (1000 : Int32) v2 M))
def w_Model_fewest_L2 (this : Nat) (Q : Int32 → Mem → Prop) (X : Mem → Prop) : Nat → Int32 → Mem → Prop
  | 0, _, _ => False
  | n + 1, v1, M => if (mI M 11 this 121) ≤ v1 then (w_Model_together this (-2 : Int32) (1 : Int32) (fun r3 M2 => ∃ n32 : Nat, w_Model_fewest_L32 this Q X n32 r3.toInt32 (0 : Int32) M2) M) else (w_Model_look this v1 (fun M33 => (w_Model_fewest_L2 this Q X n) (v1 + (1 : Int32)) M33) X M)
def w_Model_fewest (this : Nat) (Q : Int32 → Mem → Prop) (X : Mem → Prop) (M : Mem) : Prop :=
  ∃ n34 : Nat, w_Model_fewest_L2 this Q X n34 (0 : Int32) M
set_option maxRecDepth 4096 in
theorem lk_Model_fewest_j214 {γ : Gm} (hγ : Gk γ) (this : Nat) (Q : Int32 → Mem → Prop) (X : Mem → Prop) (k64 : Int32 → Int32 → Mem → Prop) (hk64 : ∀ (v1 : Int32) (v2 : Int32) (M : Mem), k64 v1 v2 M → E γ k_Model_fewest 137 64 [some (vr (some (11, this))), some (vi v1), some (vi v2), none, none] [] M (Qx (14, 0) (Qi Q) X)) (v1 : Int32) (v2 : Int32) (M : Mem) (h : w_Model_fewest_j214 this Q X k64 v1 v2 M) : E γ k_Model_fewest 137 214 [some (vr (some (11, this))), some (vi v1), some (vi v2), none, none] [] M (Qx (14, 0) (Qi Q) X) := by
  unfold w_Model_fewest_j214 at h
  refine E_blk (lv' := [some (vr (some (11, this))), some (vi v1), some (vi (v2 + (1 : Int32))), none, none]) (st' := []) (M1 := M) (pc' := 217) (tb_Model hγ) [.iinc 2 1] (by decide +kernel) rfl rfl trivial ?_
  refine E_goto (off := -153) (tgt := 64) (by decide +kernel) (by decide) ?_
  refine E_mask [true, true, true, false, false] rfl ?_
  exact hk64 v1 (v2 + (1 : Int32)) M h
set_option maxRecDepth 4096 in
theorem lk_Model_fewest_j207 {γ : Gm} (hγ : Gk γ) (this : Nat) (Q : Int32 → Mem → Prop) (X : Mem → Prop) (k64 : Int32 → Int32 → Mem → Prop) (k158 : Int32 → Int32 → Int32 → Int32 → Mem → Prop) (hk64 : ∀ (v1 : Int32) (v2 : Int32) (M : Mem), k64 v1 v2 M → E γ k_Model_fewest 137 64 [some (vr (some (11, this))), some (vi v1), some (vi v2), none, none] [] M (Qx (14, 0) (Qi Q) X)) (hk158 : ∀ (v1 : Int32) (v2 : Int32) (v3 : Int32) (v4 : Int32) (M : Mem), k158 v1 v2 v3 v4 M → E γ k_Model_fewest 137 158 [some (vr (some (11, this))), some (vi v1), some (vi v2), some (vi v3), some (vi v4)] [] M (Qx (14, 0) (Qi Q) X)) (v1 : Int32) (v2 : Int32) (v3 : Int32) (v4 : Int32) (s0 : Int32) (s1 : Int32) (M : Mem) (h : w_Model_fewest_j207 this Q X k64 k158 v1 v2 v3 v4 s0 s1 M) : E γ k_Model_fewest 137 207 [some (vr (some (11, this))), some (vi v1), some (vi v2), some (vi v3), some (vi v4)] [vi s0, vi s1, vr (some (125, this))] M (Qx (14, 0) (Qi Q) X) := by
  unfold w_Model_fewest_j207 at h
  obtain ⟨c16, h⟩ := h
  refine E_blk (lv' := [some (vr (some (11, this))), some (vi v1), some (vi v2), some (vi v3), some (vi (v4 + (1 : Int32)))]) (st' := []) (M1 := (sI M 125 this s1.toNatClampNeg s0)) (pc' := 211) (tb_Model hγ) [.iastore, .iinc 4 1] (by decide +kernel) rfl rfl ⟨c16, trivial⟩ ?_
  refine E_goto (off := -53) (tgt := 158) (by decide +kernel) (by decide) ?_
  refine E_mask [true, true, true, true, true] rfl ?_
  exact hk158 v1 v2 v3 (v4 + (1 : Int32)) (sI M 125 this s1.toNatClampNeg s0) h
set_option maxRecDepth 4096 in
theorem lk_Model_fewest_L158 {γ : Gm} (hγ : Gk γ) (this : Nat) (Q : Int32 → Mem → Prop) (X : Mem → Prop) (k64 : Int32 → Int32 → Mem → Prop) (hk64 : ∀ (v1 : Int32) (v2 : Int32) (M : Mem), k64 v1 v2 M → E γ k_Model_fewest 137 64 [some (vr (some (11, this))), some (vi v1), some (vi v2), none, none] [] M (Qx (14, 0) (Qi Q) X)) : ∀ (n : Nat) (v1 : Int32) (v2 : Int32) (v3 : Int32) (v4 : Int32) (M : Mem), w_Model_fewest_L158 this Q X k64 n v1 v2 v3 v4 M → E γ k_Model_fewest 137 158 [some (vr (some (11, this))), some (vi v1), some (vi v2), some (vi v3), some (vi v4)] [] M (Qx (14, 0) (Qi Q) X) := by
  intro n
  induction n with
  | zero => intro v1 v2 v3 v4 M h; exact h.elim
  | succ n ih =>
    intro v1 v2 v3 v4 M h
    unfold w_Model_fewest_L158 at h
    refine E_blk (lv' := [some (vr (some (11, this))), some (vi v1), some (vi v2), some (vi v3), some (vi v4)]) (st' := [vi (256 : Int32), vi v4]) (M1 := M) (pc' := 163) (tb_Model hγ) [.iload 4, .sipush 256] (by decide +kernel) rfl rfl trivial ?_
    refine E_icmp_ge (off := 51) (tgt := 214) (by decide +kernel) (by decide) (fun b9 => ?_) (fun b9 => ?_)
    · rw [if_pos b9] at h
      refine E_mask [true, true, true, false, false] rfl ?_
      exact lk_Model_fewest_j214 hγ this Q X k64 hk64 v1 v2 M h
    · rw [if_neg b9] at h
      refine E_blk (lv' := [some (vr (some (11, this))), some (vi v1), some (vi v2), some (vi v3), some (vi v4)]) (st' := [vi v3]) (M1 := M) (pc' := 167) (tb_Model hγ) [.iload_n 3] (by decide +kernel) rfl rfl trivial ?_
      refine E_if_eq (off := 47) (tgt := 214) (by decide +kernel) (by decide) (fun b10 => ?_) (fun b10 => ?_)
      · rw [if_pos b10] at h
        refine E_mask [true, true, true, false, false] rfl ?_
        exact lk_Model_fewest_j214 hγ this Q X k64 hk64 v1 v2 M h
      · rw [if_neg b10] at h
        refine E_blk (lv' := [some (vr (some (11, this))), some (vi v1), some (vi v2), some (vi v3), some (vi v4)]) (st' := [vi v2, vi v4, vr (some (125, this))]) (M1 := M) (pc' := 177) (tb_Model hγ) [.aload_n 0, .getfield 390, .iload 4, .iload_n 2] (by decide +kernel) rfl rfl trivial ?_
        refine E_if_ne (off := 23) (tgt := 200) (by decide +kernel) (by decide) (fun b11 => ?_) (fun b11 => ?_)
        · rw [if_pos b11] at h
          obtain ⟨c12, c13, h⟩ := h
          refine E_blk (lv' := [some (vr (some (11, this))), some (vi v1), some (vi v2), some (vi v3), some (vi v4)]) (st' := [vi (mI M 127 this v4.toNatClampNeg), vi (mI M 126 this v4.toNatClampNeg), vi v4, vr (some (125, this))]) (M1 := M) (pc' := 194) (tb_Model hγ) [.aload_n 0, .getfield 393, .iload 4, .iaload, .aload_n 0, .getfield 396, .iload 4, .iaload] (by decide +kernel) rfl rfl ⟨c12, c13, trivial⟩ ?_
          refine E_callS (κ' := k_JMath_min) (As := [vi (mI M 126 this v4.toNatClampNeg), vi (mI M 127 this v4.toNatClampNeg)]) (st := [vi v4, vr (some (125, this))]) ms_JMath_min (Or.inl (tbk_mem (j := 15) (k := 108) rfl)) rfl (by decide +kernel) (Nat.le_of_ble_eq_true rfl) (Nat.le_of_ble_eq_true rfl) rfl (by decide) (lk_JMath_min hγ (mI M 126 this v4.toNatClampNeg) (mI M 127 this v4.toNatClampNeg) _ M h) (fun _ _ => Qi_r) (fun v M14 hp => Qi_k (R := fun st => E γ k_Model_fewest 137 197 [some (vr (some (11, this))), some (vi v1), some (vi v2), some (vi v3), some (vi v4)] st M14 (Qx (14, 0) (Qi Q) X)) hp (fun r15 h => ?_))
          refine E_goto (off := 10) (tgt := 207) (by decide +kernel) (by decide) ?_
          refine E_mask [true, true, true, true, true] rfl ?_
          exact lk_Model_fewest_j207 hγ this Q X k64 (w_Model_fewest_L158 this Q X k64 n) hk64 ih v1 v2 v3 v4 r15 v4 M14 h
        · rw [if_neg b11] at h
          obtain ⟨c17, h⟩ := h
          refine E_blk (lv' := [some (vr (some (11, this))), some (vi v1), some (vi v2), some (vi v3), some (vi v4)]) (st' := [vi (mI M 127 this v4.toNatClampNeg), vi v4, vr (some (125, this))]) (M1 := M) (pc' := 207) (tb_Model hγ) [.aload_n 0, .getfield 396, .iload 4, .iaload] (by decide +kernel) rfl rfl ⟨c17, trivial⟩ ?_
          refine E_mask [true, true, true, true, true] rfl ?_
          exact lk_Model_fewest_j207 hγ this Q X k64 (w_Model_fewest_L158 this Q X k64 n) hk64 ih v1 v2 v3 v4 (mI M 127 this v4.toNatClampNeg) v4 M h
set_option maxRecDepth 4096 in
theorem lk_Model_fewest_j149 {γ : Gm} (hγ : Gk γ) (this : Nat) (Q : Int32 → Mem → Prop) (X : Mem → Prop) (k64 : Int32 → Int32 → Mem → Prop) (k116 : Int32 → Int32 → Int32 → Int32 → Mem → Prop) (hk64 : ∀ (v1 : Int32) (v2 : Int32) (M : Mem), k64 v1 v2 M → E γ k_Model_fewest 137 64 [some (vr (some (11, this))), some (vi v1), some (vi v2), none, none] [] M (Qx (14, 0) (Qi Q) X)) (hk116 : ∀ (v1 : Int32) (v2 : Int32) (v3 : Int32) (v4 : Int32) (M : Mem), k116 v1 v2 v3 v4 M → E γ k_Model_fewest 137 116 [some (vr (some (11, this))), some (vi v1), some (vi v2), some (vi v3), some (vi v4)] [] M (Qx (14, 0) (Qi Q) X)) (v1 : Int32) (v2 : Int32) (v3 : Int32) (v4 : Int32) (M : Mem) (h : w_Model_fewest_j149 this Q X k64 k116 v1 v2 v3 v4 M) : E γ k_Model_fewest 137 149 [some (vr (some (11, this))), some (vi v1), some (vi v2), some (vi v3), some (vi v4)] [] M (Qx (14, 0) (Qi Q) X) := by
  unfold w_Model_fewest_j149 at h
  refine E_blk (lv' := [some (vr (some (11, this))), some (vi v1), some (vi v2), some (vi v3), some (vi (v4 + (1 : Int32)))]) (st' := []) (M1 := M) (pc' := 152) (tb_Model hγ) [.iinc 4 1] (by decide +kernel) rfl rfl trivial ?_
  refine E_goto (off := -36) (tgt := 116) (by decide +kernel) (by decide) ?_
  refine E_mask [true, true, true, true, true] rfl ?_
  exact hk116 v1 v2 v3 (v4 + (1 : Int32)) M h
set_option maxRecDepth 4096 in
theorem lk_Model_fewest_L116 {γ : Gm} (hγ : Gk γ) (this : Nat) (Q : Int32 → Mem → Prop) (X : Mem → Prop) (k64 : Int32 → Int32 → Mem → Prop) (hk64 : ∀ (v1 : Int32) (v2 : Int32) (M : Mem), k64 v1 v2 M → E γ k_Model_fewest 137 64 [some (vr (some (11, this))), some (vi v1), some (vi v2), none, none] [] M (Qx (14, 0) (Qi Q) X)) : ∀ (n : Nat) (v1 : Int32) (v2 : Int32) (v3 : Int32) (v4 : Int32) (M : Mem), w_Model_fewest_L116 this Q X k64 n v1 v2 v3 v4 M → E γ k_Model_fewest 137 116 [some (vr (some (11, this))), some (vi v1), some (vi v2), some (vi v3), some (vi v4)] [] M (Qx (14, 0) (Qi Q) X) := by
  intro n
  induction n with
  | zero => intro v1 v2 v3 v4 M h; exact h.elim
  | succ n ih =>
    intro v1 v2 v3 v4 M h
    unfold w_Model_fewest_L116 at h
    refine E_blk (lv' := [some (vr (some (11, this))), some (vi v1), some (vi v2), some (vi v3), some (vi v4)]) (st' := [vi (mI M 11 this 121), vi v4]) (M1 := M) (pc' := 122) (tb_Model hγ) [.iload 4, .aload_n 0, .getfield 1314] (by decide +kernel) rfl rfl trivial ?_
    refine E_icmp_ge (off := 33) (tgt := 155) (by decide +kernel) (by decide) (fun b8 => ?_) (fun b8 => ?_)
    · rw [if_pos b8] at h
      refine E_blk (lv' := [some (vr (some (11, this))), some (vi v1), some (vi v2), some (vi v3), some (vi (0 : Int32))]) (st' := []) (M1 := M) (pc' := 158) (tb_Model hγ) [.iconst 0, .istore 4] (by decide +kernel) rfl rfl trivial ?_
      obtain ⟨n18, h⟩ := h
      refine E_mask [true, true, true, true, true] rfl ?_
      exact lk_Model_fewest_L158 hγ this Q X k64 hk64 n18 v1 v2 v3 (0 : Int32) M h
    · rw [if_neg b8] at h
      obtain ⟨c19, h⟩ := h
      refine E_blk (lv' := [some (vr (some (11, this))), some (vi v1), some (vi v2), some (vi v3), some (vi v4)]) (st' := [vi v2, vi (mI M 123 this v4.toNatClampNeg)]) (M1 := M) (pc' := 133) (tb_Model hγ) [.aload_n 0, .getfield 381, .iload 4, .iaload, .iload_n 2] (by decide +kernel) rfl rfl ⟨c19, trivial⟩ ?_
      refine E_icmp_ne (off := 16) (tgt := 149) (by decide +kernel) (by decide) (fun b20 => ?_) (fun b20 => ?_)
      · rw [if_pos b20] at h
        obtain ⟨c21, h⟩ := h
        refine E_blk (lv' := [some (vr (some (11, this))), some (vi v1), some (vi v2), some (vi (1 : Int32)), some (vi v4)]) (st' := [vi (mI M 124 this v4.toNatClampNeg), vr (some (11, this))]) (M1 := M) (pc' := 146) (tb_Model hγ) [.iconst 1, .istore_n 3, .aload_n 0, .aload_n 0, .getfield 384, .iload 4, .iaload] (by decide +kernel) rfl rfl ⟨c21, trivial⟩ ?_
        refine E_callV (κ' := k_Model_addTrial) (As := [vi (mI M 124 this v4.toNatClampNeg)]) (st := []) mv_Model_addTrial (Or.inl (tbk_mem (j := 18) (k := 15) rfl)) rfl (by decide +kernel) (Nat.le_of_ble_eq_true rfl) (Nat.le_of_ble_eq_true rfl) rfl (by decide) (lk_Model_addTrial hγ this (mI M 124 this v4.toNatClampNeg) _ M h) (fun _ _ => Qv_r) (fun v M22 hp => Qv_k (R := fun st => E γ k_Model_fewest 137 149 [some (vr (some (11, this))), some (vi v1), some (vi v2), some (vi (1 : Int32)), some (vi v4)] st M22 (Qx (14, 0) (Qi Q) X)) hp (fun h => ?_))
        refine E_mask [true, true, true, true, true] rfl ?_
        exact lk_Model_fewest_j149 hγ this Q X k64 (w_Model_fewest_L116 this Q X k64 n) hk64 ih v1 v2 (1 : Int32) v4 M22 h
      · rw [if_neg b20] at h
        refine E_mask [true, true, true, true, true] rfl ?_
        exact lk_Model_fewest_j149 hγ this Q X k64 (w_Model_fewest_L116 this Q X k64 n) hk64 ih v1 v2 v3 v4 M h
set_option maxRecDepth 4096 in
theorem lk_Model_fewest_L75 {γ : Gm} (hγ : Gk γ) (this : Nat) (Q : Int32 → Mem → Prop) (X : Mem → Prop) (k64 : Int32 → Int32 → Mem → Prop) (hk64 : ∀ (v1 : Int32) (v2 : Int32) (M : Mem), k64 v1 v2 M → E γ k_Model_fewest 137 64 [some (vr (some (11, this))), some (vi v1), some (vi v2), none, none] [] M (Qx (14, 0) (Qi Q) X)) : ∀ (n : Nat) (v1 : Int32) (v2 : Int32) (v3 : Int32) (v4 : Int32) (M : Mem), w_Model_fewest_L75 this Q X k64 n v1 v2 v3 v4 M → E γ k_Model_fewest 137 75 [some (vr (some (11, this))), some (vi v1), some (vi v2), some (vi v3), some (vi v4)] [] M (Qx (14, 0) (Qi Q) X) := by
  intro n
  induction n with
  | zero => intro v1 v2 v3 v4 M h; exact h.elim
  | succ n ih =>
    intro v1 v2 v3 v4 M h
    unfold w_Model_fewest_L75 at h
    refine E_blk (lv' := [some (vr (some (11, this))), some (vi v1), some (vi v2), some (vi v3), some (vi v4)]) (st' := [vi (256 : Int32), vi v4]) (M1 := M) (pc' := 80) (tb_Model hγ) [.iload 4, .sipush 256] (by decide +kernel) rfl rfl trivial ?_
    refine E_icmp_ge (off := 33) (tgt := 113) (by decide +kernel) (by decide) (fun b7 => ?_) (fun b7 => ?_)
    · rw [if_pos b7] at h
      refine E_blk (lv' := [some (vr (some (11, this))), some (vi v1), some (vi v2), some (vi v3), some (vi (0 : Int32))]) (st' := []) (M1 := M) (pc' := 116) (tb_Model hγ) [.iconst 0, .istore 4] (by decide +kernel) rfl rfl trivial ?_
      obtain ⟨n23, h⟩ := h
      refine E_mask [true, true, true, true, true] rfl ?_
      exact lk_Model_fewest_L116 hγ this Q X k64 hk64 n23 v1 v2 v3 (0 : Int32) M h
    · rw [if_neg b7] at h
      obtain ⟨c24, c25, c26, h⟩ := h
      refine E_blk (lv' := [some (vr (some (11, this))), some (vi v1), some (vi v2), some (vi v3), some (vi v4)]) (st' := []) (M1 := (sI (sI M 126 this v4.toNatClampNeg (mI M 125 this v4.toNatClampNeg)) 127 this v4.toNatClampNeg (1000 : Int32))) (pc' := 107) (tb_Model hγ) [.aload_n 0, .getfield 393, .iload 4, .aload_n 0, .getfield 390, .iload 4, .iaload, .iastore, .aload_n 0, .getfield 396, .iload 4, .sipush 1000, .iastore] (by decide +kernel) rfl rfl ⟨c24, c25, c26, trivial⟩ ?_
      obtain ⟨M27, eM27, h⟩ := h
      rw [← eM27]
      refine E_blk (lv' := [some (vr (some (11, this))), some (vi v1), some (vi v2), some (vi v3), some (vi (v4 + (1 : Int32)))]) (st' := []) (M1 := M27) (pc' := 110) (tb_Model hγ) [.iinc 4 1] (by decide +kernel) rfl rfl trivial ?_
      refine E_goto (off := -35) (tgt := 75) (by decide +kernel) (by decide) ?_
      refine E_mask [true, true, true, true, true] rfl ?_
      exact ih v1 v2 v3 (v4 + (1 : Int32)) M27 h
set_option maxRecDepth 4096 in
theorem lk_Model_fewest_L64 {γ : Gm} (hγ : Gk γ) (this : Nat) (Q : Int32 → Mem → Prop) (X : Mem → Prop) : ∀ (n : Nat) (v1 : Int32) (v2 : Int32) (M : Mem), w_Model_fewest_L64 this Q X n v1 v2 M → E γ k_Model_fewest 137 64 [some (vr (some (11, this))), some (vi v1), some (vi v2), none, none] [] M (Qx (14, 0) (Qi Q) X) := by
  intro n
  induction n with
  | zero => intro v1 v2 M h; exact h.elim
  | succ n ih =>
    intro v1 v2 M h
    unfold w_Model_fewest_L64 at h
    refine E_blk (lv' := [some (vr (some (11, this))), some (vi v1), some (vi v2), none, none]) (st' := [vi (60 : Int32), vi v2]) (M1 := M) (pc' := 67) (tb_Model hγ) [.iload_n 2, .bipush 60] (by decide +kernel) rfl rfl trivial ?_
    refine E_icmp_ge (off := 153) (tgt := 220) (by decide +kernel) (by decide) (fun b5 => ?_) (fun b5 => ?_)
    · rw [if_pos b5] at h
      obtain ⟨c6, h⟩ := h
      refine E_blk (lv' := [some (vr (some (11, this))), some (vi v1), some (vi v2), none, none]) (st' := [vi (mI M 125 this v1.toNatClampNeg)]) (M1 := M) (pc' := 226) (tb_Model hγ) [.aload_n 0, .getfield 390, .iload_n 1, .iaload] (by decide +kernel) rfl rfl ⟨c6, trivial⟩ ?_
      exact (E_iret rfl (by decide +kernel) h).nx
    · rw [if_neg b5] at h
      refine E_blk (lv' := [some (vr (some (11, this))), some (vi v1), some (vi v2), some (vi (0 : Int32)), some (vi (0 : Int32))]) (st' := []) (M1 := M) (pc' := 75) (tb_Model hγ) [.iconst 0, .istore_n 3, .iconst 0, .istore 4] (by decide +kernel) rfl rfl trivial ?_
      obtain ⟨n28, h⟩ := h
      refine E_mask [true, true, true, true, true] rfl ?_
      exact lk_Model_fewest_L75 hγ this Q X (w_Model_fewest_L64 this Q X n) ih n28 v1 v2 (0 : Int32) (0 : Int32) M h
set_option maxRecDepth 4096 in
theorem lk_Model_fewest_j55 {γ : Gm} (hγ : Gk γ) (this : Nat) (Q : Int32 → Mem → Prop) (X : Mem → Prop) (k32 : Int32 → Int32 → Mem → Prop) (hk32 : ∀ (v1 : Int32) (v2 : Int32) (M : Mem), k32 v1 v2 M → E γ k_Model_fewest 137 32 [some (vr (some (11, this))), some (vi v1), some (vi v2), none, none] [] M (Qx (14, 0) (Qi Q) X)) (v1 : Int32) (v2 : Int32) (s0 : Int32) (s1 : Int32) (M : Mem) (h : w_Model_fewest_j55 this Q X k32 v1 v2 s0 s1 M) : E γ k_Model_fewest 137 55 [some (vr (some (11, this))), some (vi v1), some (vi v2), none, none] [vi s0, vi s1, vr (some (125, this))] M (Qx (14, 0) (Qi Q) X) := by
  unfold w_Model_fewest_j55 at h
  obtain ⟨c31, h⟩ := h
  refine E_blk (lv' := [some (vr (some (11, this))), some (vi v1), some (vi (v2 + (1 : Int32))), none, none]) (st' := []) (M1 := (sI M 125 this s1.toNatClampNeg s0)) (pc' := 59) (tb_Model hγ) [.iastore, .iinc 2 1] (by decide +kernel) rfl rfl ⟨c31, trivial⟩ ?_
  refine E_goto (off := -27) (tgt := 32) (by decide +kernel) (by decide) ?_
  refine E_mask [true, true, true, false, false] rfl ?_
  exact hk32 v1 (v2 + (1 : Int32)) (sI M 125 this s1.toNatClampNeg s0) h
set_option maxRecDepth 4096 in
theorem lk_Model_fewest_L32 {γ : Gm} (hγ : Gk γ) (this : Nat) (Q : Int32 → Mem → Prop) (X : Mem → Prop) : ∀ (n : Nat) (v1 : Int32) (v2 : Int32) (M : Mem), w_Model_fewest_L32 this Q X n v1 v2 M → E γ k_Model_fewest 137 32 [some (vr (some (11, this))), some (vi v1), some (vi v2), none, none] [] M (Qx (14, 0) (Qi Q) X) := by
  intro n
  induction n with
  | zero => intro v1 v2 M h; exact h.elim
  | succ n ih =>
    intro v1 v2 M h
    unfold w_Model_fewest_L32 at h
    refine E_blk (lv' := [some (vr (some (11, this))), some (vi v1), some (vi v2), none, none]) (st' := [vi (256 : Int32), vi v2]) (M1 := M) (pc' := 36) (tb_Model hγ) [.iload_n 2, .sipush 256] (by decide +kernel) rfl rfl trivial ?_
    refine E_icmp_ge (off := 26) (tgt := 62) (by decide +kernel) (by decide) (fun b4 => ?_) (fun b4 => ?_)
    · rw [if_pos b4] at h
      refine E_blk (lv' := [some (vr (some (11, this))), some (vi v1), some (vi (0 : Int32)), none, none]) (st' := []) (M1 := M) (pc' := 64) (tb_Model hγ) [.iconst 0, .istore_n 2] (by decide +kernel) rfl rfl trivial ?_
      obtain ⟨n29, h⟩ := h
      refine E_mask [true, true, true, false, false] rfl ?_
      exact lk_Model_fewest_L64 hγ this Q X n29 v1 (0 : Int32) M h
    · rw [if_neg b4] at h
      refine E_blk (lv' := [some (vr (some (11, this))), some (vi v1), some (vi v2), none, none]) (st' := [vi v2, vi v2, vr (some (125, this))]) (M1 := M) (pc' := 45) (tb_Model hγ) [.aload_n 0, .getfield 390, .iload_n 2, .iload_n 2] (by decide +kernel) rfl rfl trivial ?_
      refine E_if_ne (off := 7) (tgt := 52) (by decide +kernel) (by decide) (fun b30 => ?_) (fun b30 => ?_)
      · rw [if_pos b30] at h
        refine E_blk (lv' := [some (vr (some (11, this))), some (vi v1), some (vi v2), none, none]) (st' := [vi (0 : Int32), vi v2, vr (some (125, this))]) (M1 := M) (pc' := 49) (tb_Model hγ) [.iconst 0] (by decide +kernel) rfl rfl trivial ?_
        refine E_goto (off := 6) (tgt := 55) (by decide +kernel) (by decide) ?_
        refine E_mask [true, true, true, false, false] rfl ?_
        exact lk_Model_fewest_j55 hγ this Q X (w_Model_fewest_L32 this Q X n) ih v1 v2 (0 : Int32) v2 M h
      · rw [if_neg b30] at h
        refine E_blk (lv' := [some (vr (some (11, this))), some (vi v1), some (vi v2), none, none]) (st' := [vi (1000 : Int32), vi v2, vr (some (125, this))]) (M1 := M) (pc' := 55) (tb_Model hγ) [.sipush 1000] (by decide +kernel) rfl rfl trivial ?_
        refine E_mask [true, true, true, false, false] rfl ?_
        exact lk_Model_fewest_j55 hγ this Q X (w_Model_fewest_L32 this Q X n) ih v1 v2 (1000 : Int32) v2 M h
set_option maxRecDepth 4096 in
theorem lk_Model_fewest_L2 {γ : Gm} (hγ : Gk γ) (this : Nat) (Q : Int32 → Mem → Prop) (X : Mem → Prop) : ∀ (n : Nat) (v1 : Int32) (M : Mem), w_Model_fewest_L2 this Q X n v1 M → E γ k_Model_fewest 137 2 [some (vr (some (11, this))), some (vi v1), none, none, none] [] M (Qx (14, 0) (Qi Q) X) := by
  intro n
  induction n with
  | zero => intro v1 M h; exact h.elim
  | succ n ih =>
    intro v1 M h
    unfold w_Model_fewest_L2 at h
    refine E_blk (lv' := [some (vr (some (11, this))), some (vi v1), none, none, none]) (st' := [vi (mI M 11 this 121), vi v1]) (M1 := M) (pc' := 7) (tb_Model hγ) [.iload_n 1, .aload_n 0, .getfield 1314] (by decide +kernel) rfl rfl trivial ?_
    refine E_icmp_ge (off := 14) (tgt := 21) (by decide +kernel) (by decide) (fun b1 => ?_) (fun b1 => ?_)
    · rw [if_pos b1] at h
      refine E_blk (lv' := [some (vr (some (11, this))), some (vi v1), none, none, none]) (st' := [vi (1 : Int32), vi (-2 : Int32), vr (some (11, this))]) (M1 := M) (pc' := 25) (tb_Model hγ) [.aload_n 0, .bipush (.negSucc 1), .iconst 1] (by decide +kernel) rfl rfl trivial ?_
      refine E_callV (κ' := k_Model_together) (As := [vi (-2 : Int32), vi (1 : Int32)]) (st := []) mv_Model_together (Or.inl (tbk_mem (j := 18) (k := 7) rfl)) rfl (by decide +kernel) (Nat.le_of_ble_eq_true rfl) (Nat.le_of_ble_eq_true rfl) rfl (by decide) (lk_Model_together hγ this (-2 : Int32) (1 : Int32) _ M h) (fun _ _ => Ql_r) (fun v M2 hp => Ql_k (R := fun st => E γ k_Model_fewest 137 28 [some (vr (some (11, this))), some (vi v1), none, none, none] st M2 (Qx (14, 0) (Qi Q) X)) hp (fun r3 h => ?_))
      refine E_blk (lv' := [some (vr (some (11, this))), some (vi r3.toInt32), some (vi (0 : Int32)), none, none]) (st' := []) (M1 := M2) (pc' := 32) (tb_Model hγ) [.l2i, .istore_n 1, .iconst 0, .istore_n 2] (by decide +kernel) rfl rfl trivial ?_
      obtain ⟨n32, h⟩ := h
      refine E_mask [true, true, true, false, false] rfl ?_
      exact lk_Model_fewest_L32 hγ this Q X n32 r3.toInt32 (0 : Int32) M2 h
    · rw [if_neg b1] at h
      refine E_blk (lv' := [some (vr (some (11, this))), some (vi v1), none, none, none]) (st' := [vi v1, vr (some (11, this))]) (M1 := M) (pc' := 12) (tb_Model hγ) [.aload_n 0, .iload_n 1] (by decide +kernel) rfl rfl trivial ?_
      refine E_callX (κ' := k_Model_look) (As := [vi v1]) (st := []) mv_Model_look (Or.inl (tbk_mem (j := 17) (k := 228) rfl)) rfl (by decide +kernel) (Nat.le_of_ble_eq_true rfl) (Nat.le_of_ble_eq_true rfl) rfl (by decide) rfl (lk_Model_look hγ this v1 _ _ M h) (fun _ _ => Qv_r) (fun _ h => h) (fun v M33 hp => Qv_k (R := fun st => E γ k_Model_fewest 137 15 [some (vr (some (11, this))), some (vi v1), none, none, none] st M33 (Qx (14, 0) (Qi Q) X)) hp (fun h => ?_))
      refine E_blk (lv' := [some (vr (some (11, this))), some (vi (v1 + (1 : Int32))), none, none, none]) (st' := []) (M1 := M33) (pc' := 18) (tb_Model hγ) [.iinc 1 1] (by decide +kernel) rfl rfl trivial ?_
      refine E_goto (off := -16) (tgt := 2) (by decide +kernel) (by decide) ?_
      refine E_mask [true, true, false, false, false] rfl ?_
      exact ih (v1 + (1 : Int32)) M33 h
set_option maxRecDepth 4096 in
theorem lk_Model_fewest {γ : Gm} (hγ : Gk γ) (this : Nat) (Q : Int32 → Mem → Prop) (X : Mem → Prop) (M : Mem) (h : w_Model_fewest this Q X M) : E γ k_Model_fewest 137 0 [some (vr (some (11, this))), none, none, none, none] [] M (Qx (14, 0) (Qi Q) X) := by
  unfold w_Model_fewest at h
  refine E_blk (lv' := [some (vr (some (11, this))), some (vi (0 : Int32)), none, none, none]) (st' := []) (M1 := M) (pc' := 2) (tb_Model hγ) [.iconst 0, .istore_n 1] (by decide +kernel) rfl rfl trivial ?_
  obtain ⟨n34, h⟩ := h
  refine E_mask [true, true, false, false, false] rfl ?_
  exact lk_Model_fewest_L2 hγ this Q X n34 (0 : Int32) M h
def w_Model_linesOf_j50 (this : Nat) (Q : Int32 → Mem → Prop) (k11 : Int32 → Int32 → Int32 → Mem → Prop) (v1 : Int32) (v2 : Int32) (v3 : Int32) (M : Mem) : Prop :=
  k11 v1 v2 (v3 + (1 : Int32)) M
def w_Model_linesOf_L11 (this : Nat) (Q : Int32 → Mem → Prop) : Nat → Int32 → Int32 → Int32 → Mem → Prop
  | 0, _, _, _, _ => False
  | n + 1, v1, v2, v3, M => vp_in v1 (mL M 122 this) ∧ if (mI M 122 this v1.toNatClampNeg) ≤ v3 then (Q v2 M) else (vp_in (((1204 : Int32) * v1) + v3) (mL M 412 this) ∧ if (mI M 412 this (((1204 : Int32) * v1) + v3).toNatClampNeg) = (10 : Int32) then (vp_in (v2 + (1 : Int32)) (mL M 129 this) ∧ w_Model_linesOf_j50 this Q (w_Model_linesOf_L11 this Q n) v1 (v2 + (1 : Int32)) v3 (sI M 129 this (v2 + (1 : Int32)).toNatClampNeg (v3 + (1 : Int32)))) else (w_Model_linesOf_j50 this Q (w_Model_linesOf_L11 this Q n) v1 v2 v3 M))
def w_Model_linesOf (this : Nat) (a1 : Int32) (Q : Int32 → Mem → Prop) (M : Mem) : Prop :=
  vp_in (0 : Int32) (mL M 129 this) ∧ ∃ n7 : Nat, w_Model_linesOf_L11 this Q n7 a1 (0 : Int32) (0 : Int32) (sI M 129 this (0 : Int32).toNatClampNeg (0 : Int32))
set_option maxRecDepth 4096 in
theorem lk_Model_linesOf_j50 {γ : Gm} (hγ : Gk γ) (this : Nat) (Q : Int32 → Mem → Prop) (k11 : Int32 → Int32 → Int32 → Mem → Prop) (hk11 : ∀ (v1 : Int32) (v2 : Int32) (v3 : Int32) (M : Mem), k11 v1 v2 v3 M → E γ k_Model_linesOf 0 11 [some (vr (some (11, this))), some (vi v1), some (vi v2), some (vi v3)] [] M (Qi Q)) (v1 : Int32) (v2 : Int32) (v3 : Int32) (M : Mem) (h : w_Model_linesOf_j50 this Q k11 v1 v2 v3 M) : E γ k_Model_linesOf 0 50 [some (vr (some (11, this))), some (vi v1), some (vi v2), some (vi v3)] [] M (Qi Q) := by
  unfold w_Model_linesOf_j50 at h
  refine E_blk (lv' := [some (vr (some (11, this))), some (vi v1), some (vi v2), some (vi (v3 + (1 : Int32)))]) (st' := []) (M1 := M) (pc' := 53) (tb_Model hγ) [.iinc 3 1] (by decide +kernel) rfl rfl trivial ?_
  refine E_goto (off := -42) (tgt := 11) (by decide +kernel) (by decide) ?_
  refine E_mask [true, true, true, true] rfl ?_
  exact hk11 v1 v2 (v3 + (1 : Int32)) M h
set_option maxRecDepth 4096 in
theorem lk_Model_linesOf_L11 {γ : Gm} (hγ : Gk γ) (this : Nat) (Q : Int32 → Mem → Prop) : ∀ (n : Nat) (v1 : Int32) (v2 : Int32) (v3 : Int32) (M : Mem), w_Model_linesOf_L11 this Q n v1 v2 v3 M → E γ k_Model_linesOf 0 11 [some (vr (some (11, this))), some (vi v1), some (vi v2), some (vi v3)] [] M (Qi Q) := by
  intro n
  induction n with
  | zero => intro v1 v2 v3 M h; exact h.elim
  | succ n ih =>
    intro v1 v2 v3 M h
    unfold w_Model_linesOf_L11 at h
    obtain ⟨c2, h⟩ := h
    refine E_blk (lv' := [some (vr (some (11, this))), some (vi v1), some (vi v2), some (vi v3)]) (st' := [vi (mI M 122 this v1.toNatClampNeg), vi v3]) (M1 := M) (pc' := 18) (tb_Model hγ) [.iload_n 3, .aload_n 0, .getfield 375, .iload_n 1, .iaload] (by decide +kernel) rfl rfl ⟨c2, trivial⟩ ?_
    refine E_icmp_ge (off := 38) (tgt := 56) (by decide +kernel) (by decide) (fun b3 => ?_) (fun b3 => ?_)
    · rw [if_pos b3] at h
      refine E_blk (lv' := [some (vr (some (11, this))), some (vi v1), some (vi v2), some (vi v3)]) (st' := [vi v2]) (M1 := M) (pc' := 57) (tb_Model hγ) [.iload_n 2] (by decide +kernel) rfl rfl trivial ?_
      exact E_iret rfl (by decide +kernel) h
    · rw [if_neg b3] at h
      obtain ⟨c4, h⟩ := h
      refine E_blk (lv' := [some (vr (some (11, this))), some (vi v1), some (vi v2), some (vi v3)]) (st' := [vi (10 : Int32), vi (mI M 412 this (((1204 : Int32) * v1) + v3).toNatClampNeg)]) (M1 := M) (pc' := 35) (tb_Model hγ) [.aload_n 0, .getfield 372, .sipush 1204, .iload_n 1, .imul, .iload_n 3, .iadd, .baload, .bipush 10] (by decide +kernel) rfl rfl ⟨c4, trivial⟩ ?_
      refine E_icmp_ne (off := 15) (tgt := 50) (by decide +kernel) (by decide) (fun b5 => ?_) (fun b5 => ?_)
      · rw [if_pos b5] at h
        obtain ⟨c6, h⟩ := h
        refine E_blk (lv' := [some (vr (some (11, this))), some (vi v1), some (vi (v2 + (1 : Int32))), some (vi v3)]) (st' := []) (M1 := (sI M 129 this (v2 + (1 : Int32)).toNatClampNeg (v3 + (1 : Int32)))) (pc' := 50) (tb_Model hγ) [.iinc 2 1, .aload_n 0, .getfield 402, .iload_n 2, .iload_n 3, .iconst 1, .iadd, .iastore] (by decide +kernel) rfl rfl ⟨c6, trivial⟩ ?_
        refine E_mask [true, true, true, true] rfl ?_
        exact lk_Model_linesOf_j50 hγ this Q (w_Model_linesOf_L11 this Q n) ih v1 (v2 + (1 : Int32)) v3 (sI M 129 this (v2 + (1 : Int32)).toNatClampNeg (v3 + (1 : Int32))) h
      · rw [if_neg b5] at h
        refine E_mask [true, true, true, true] rfl ?_
        exact lk_Model_linesOf_j50 hγ this Q (w_Model_linesOf_L11 this Q n) ih v1 v2 v3 M h
set_option maxRecDepth 4096 in
theorem lk_Model_linesOf {γ : Gm} (hγ : Gk γ) (this : Nat) (a1 : Int32) (Q : Int32 → Mem → Prop) (M : Mem) (h : w_Model_linesOf this a1 Q M) : E γ k_Model_linesOf 0 0 [some (vr (some (11, this))), some (vi a1), none, none] [] M (Qi Q) := by
  unfold w_Model_linesOf at h
  obtain ⟨c1, h⟩ := h
  refine E_blk (lv' := [some (vr (some (11, this))), some (vi a1), some (vi (0 : Int32)), some (vi (0 : Int32))]) (st' := []) (M1 := (sI M 129 this (0 : Int32).toNatClampNeg (0 : Int32))) (pc' := 11) (tb_Model hγ) [.iconst 0, .istore_n 2, .aload_n 0, .getfield 402, .iconst 0, .iconst 0, .iastore, .iconst 0, .istore_n 3] (by decide +kernel) rfl rfl ⟨c1, trivial⟩ ?_
  obtain ⟨n7, h⟩ := h
  refine E_mask [true, true, true, true] rfl ?_
  exact lk_Model_linesOf_L11 hγ this Q n7 a1 (0 : Int32) (0 : Int32) (sI M 129 this (0 : Int32).toNatClampNeg (0 : Int32)) h
def w_Model_draftLine (this : Nat) (a1 : Int32) (a2 : Int32) (Q : Mem → Prop) (M : Mem) : Prop :=
  vp_in (a2 + (1 : Int32)) (mL M 129 this) ∧ vp_in a2 (mL M 129 this) ∧ ∃ x3 : Int32, x3 = ((mI M 129 this (a2 + (1 : Int32)).toNatClampNeg) - (mI M 129 this a2.toNatClampNeg)) ∧ vp_in a2 (mL M 129 this) ∧ ¬ (((1204 : Int32) * a1) + (mI M 129 this a2.toNatClampNeg)) < 0 ∧ ¬ (mI M 11 this 123) < 0 ∧ ¬ x3 < 0 ∧ (((1204 : Int32) * a1) + (mI M 129 this a2.toNatClampNeg)).toNatClampNeg + x3.toNatClampNeg ≤ mL M 412 this ∧ (mI M 11 this 123).toNatClampNeg + x3.toNatClampNeg ≤ mL M 402 2 ∧ ∃ M5, M5 = cpI M 412 this (((1204 : Int32) * a1) + (mI M 129 this a2.toNatClampNeg)).toNatClampNeg 402 2 (mI M 11 this 123).toNatClampNeg x3.toNatClampNeg ∧ Q (sI M5 11 this 123 ((mI M5 11 this 123) + x3))
set_option maxRecDepth 4096 in
theorem lk_Model_draftLine {γ : Gm} (hγ : Gk γ) (this : Nat) (a1 : Int32) (a2 : Int32) (Q : Mem → Prop) (M : Mem) (h : w_Model_draftLine this a1 a2 Q M) : E γ k_Model_draftLine 1 0 [some (vr (some (11, this))), some (vi a1), some (vi a2), none] [] M (Qv Q) := by
  unfold w_Model_draftLine at h
  obtain ⟨c1, c2, h⟩ := h
  refine E_blk (lv' := [some (vr (some (11, this))), some (vi a1), some (vi a2), some (vi ((mI M 129 this (a2 + (1 : Int32)).toNatClampNeg) - (mI M 129 this a2.toNatClampNeg)))]) (st' := []) (M1 := M) (pc' := 16) (tb_Model hγ) [.aload_n 0, .getfield 402, .iload_n 2, .iconst 1, .iadd, .iaload, .aload_n 0, .getfield 402, .iload_n 2, .iaload, .isub, .istore_n 3] (by decide +kernel) rfl rfl ⟨c1, c2, trivial⟩ ?_
  obtain ⟨x3, ex3, h⟩ := h
  rw [← ex3]
  obtain ⟨c4, h⟩ := h
  refine E_blk (lv' := [some (vr (some (11, this))), some (vi a1), some (vi a2), some (vi x3)]) (st' := [vi x3, vi (mI M 11 this 123), vr (some (402, 2)), vi (((1204 : Int32) * a1) + (mI M 129 this a2.toNatClampNeg)), vr (some (412, this))]) (M1 := M) (pc' := 41) (tb_Model hγ) [.aload_n 0, .getfield 372, .sipush 1204, .iload_n 1, .imul, .aload_n 0, .getfield 402, .iload_n 2, .iaload, .iadd, .aload_n 0, .getfield 387, .aload_n 0, .getfield 1317, .iload_n 3] (by decide +kernel) rfl rfl ⟨c4, trivial⟩ ?_
  obtain ⟨c6, c7, c8, c9, c10, M5, eM5, h⟩ := h
  refine E_copy (pc := 41) (κ := k_Model_draftLine) (f := 412) (i := this) (g := 402) (j := 2) (sp := (((1204 : Int32) * a1) + (mI M 129 this a2.toNatClampNeg))) (dp := (mI M 11 this 123)) (n := x3) (idx := 11) (st := []) c6 c7 c8 c9 c10 (by decide) (by decide) rfl (by decide) (tbk_mem (j := 11) (k := 65) rfl) (by decide +kernel) (Nat.le_of_ble_eq_true rfl) ?_
  rw [← eM5]
  refine E_blk (lv' := [some (vr (some (11, this))), some (vi a1), some (vi a2), some (vi x3)]) (st' := []) (M1 := (sI M5 11 this 123 ((mI M5 11 this 123) + x3))) (pc' := 54) (tb_Model hγ) [.aload_n 0, .dup, .getfield 1317, .iload_n 3, .iadd, .putfield 1317] (by decide +kernel) rfl rfl trivial ?_
  exact E_vret rfl (by decide +kernel) h
def w_Model_shrink_j215 (this : Nat) (Q : Int32 → Mem → Prop) (X : Mem → Prop) (k68 : Int32 → Int32 → Int32 → Int32 → Int32 → Int32 → Int32 → Mem → Prop) (v1 : Int32) (v2 : Int32) (v3 : Int32) (v4 : Int32) (v5 : Int32) (v6 : Int32) (v7 : Int32) (M : Mem) : Prop :=
  k68 v1 v2 v3 v4 v5 v6 (v7 + (-1 : Int32)) M
def w_Model_shrink_j179 (this : Nat) (Q : Int32 → Mem → Prop) (X : Mem → Prop) (k68 : Int32 → Int32 → Int32 → Int32 → Int32 → Int32 → Int32 → Mem → Prop) (v1 : Int32) (v2 : Int32) (v3 : Int32) (v4 : Int32) (v5 : Int32) (v6 : Int32) (v7 : Int32) (v9 : Int32) (M : Mem) : Prop :=
  if v9 = 0 then (w_Model_shrink_j215 this Q X k68 v1 v2 v3 v4 v5 v6 v7 M) else (¬ (0 : Int32) < 0 ∧ ¬ ((1204 : Int32) * v1) < 0 ∧ ¬ (mI M 11 this 123) < 0 ∧ (0 : Int32).toNatClampNeg + (mI M 11 this 123).toNatClampNeg ≤ mL M 402 2 ∧ ((1204 : Int32) * v1).toNatClampNeg + (mI M 11 this 123).toNatClampNeg ≤ mL M 412 this ∧ ∃ M23, M23 = cpI M 402 2 (0 : Int32).toNatClampNeg 412 this ((1204 : Int32) * v1).toNatClampNeg (mI M 11 this 123).toNatClampNeg ∧ vp_in v1 (mL M23 122 this) ∧ w_Model_shrink_j215 this Q X k68 v1 v2 v3 v4 v5 v6 v7 (sI M23 122 this v1.toNatClampNeg (mI M23 11 this 123)))
def w_Model_shrink_j177 (this : Nat) (Q : Int32 → Mem → Prop) (X : Mem → Prop) (k68 : Int32 → Int32 → Int32 → Int32 → Int32 → Int32 → Int32 → Mem → Prop) (v1 : Int32) (v2 : Int32) (v3 : Int32) (v4 : Int32) (v5 : Int32) (v6 : Int32) (v7 : Int32) (s0 : Int32) (M : Mem) : Prop :=
  w_Model_shrink_j179 this Q X k68 v1 v2 v3 v4 v5 v6 v7 s0 M
def w_Model_shrink_j176 (this : Nat) (Q : Int32 → Mem → Prop) (X : Mem → Prop) (k68 : Int32 → Int32 → Int32 → Int32 → Int32 → Int32 → Int32 → Mem → Prop) (v1 : Int32) (v2 : Int32) (v3 : Int32) (v4 : Int32) (v5 : Int32) (v6 : Int32) (v7 : Int32) (M : Mem) : Prop :=
  w_Model_shrink_j177 this Q X k68 v1 v2 v3 v4 v5 v6 v7 (0 : Int32) M
def w_Model_shrink_j142 (this : Nat) (Q : Int32 → Mem → Prop) (X : Mem → Prop) (k68 : Int32 → Int32 → Int32 → Int32 → Int32 → Int32 → Int32 → Mem → Prop) (v1 : Int32) (v2 : Int32) (v3 : Int32) (v4 : Int32) (v5 : Int32) (v6 : Int32) (v7 : Int32) (s0 : Int32) (M : Mem) : Prop :=
  if s0 = 0 then (w_Model_shrink_j179 this Q X k68 v1 v2 v3 v4 v5 v6 v7 s0 M) else (w_Model_tryDraft this v2 (fun M30 => if (mI M30 11 this 124) = v5 then (if (mI M30 11 this 125) = v6 then (w_Model_shrink_j177 this Q X k68 v1 v2 v3 v4 v5 v6 v7 (1 : Int32) M30) else (w_Model_shrink_j176 this Q X k68 v1 v2 v3 v4 v5 v6 v7 M30)) else (w_Model_shrink_j176 this Q X k68 v1 v2 v3 v4 v5 v6 v7 M30)) X M)
def w_Model_shrink_j141 (this : Nat) (Q : Int32 → Mem → Prop) (X : Mem → Prop) (k68 : Int32 → Int32 → Int32 → Int32 → Int32 → Int32 → Int32 → Mem → Prop) (v1 : Int32) (v2 : Int32) (v3 : Int32) (v4 : Int32) (v5 : Int32) (v6 : Int32) (v7 : Int32) (M : Mem) : Prop :=
  w_Model_shrink_j142 this Q X k68 v1 v2 v3 v4 v5 v6 v7 (0 : Int32) M
def w_Model_shrink_j109 (this : Nat) (Q : Int32 → Mem → Prop) (X : Mem → Prop) (k68 : Int32 → Int32 → Int32 → Int32 → Int32 → Int32 → Int32 → Mem → Prop) (k88 : Int32 → Int32 → Int32 → Int32 → Int32 → Int32 → Int32 → Int32 → Int32 → Mem → Prop) (v1 : Int32) (v2 : Int32) (v3 : Int32) (v4 : Int32) (v5 : Int32) (v6 : Int32) (v7 : Int32) (v8 : Int32) (v9 : Int32) (M : Mem) : Prop :=
  k88 v1 v2 v3 v4 v5 v6 v7 v8 (v9 + (1 : Int32)) M
def w_Model_shrink_L88 (this : Nat) (Q : Int32 → Mem → Prop) (X : Mem → Prop) (k68 : Int32 → Int32 → Int32 → Int32 → Int32 → Int32 → Int32 → Mem → Prop) : Nat → Int32 → Int32 → Int32 → Int32 → Int32 → Int32 → Int32 → Int32 → Int32 → Mem → Prop
  | 0, _, _, _, _, _, _, _, _, _, _ => False
  | n + 1, v1, v2, v3, v4, v5, v6, v7, v8, v9, M => if v8 ≤ v9 then (w_Model_tryDraft this (0 : Int32) (fun M18 => if (mI M18 11 this 124) = v3 then (if (mI M18 11 this 125) = v4 then (w_Model_shrink_j142 this Q X k68 v1 v2 v3 v4 v5 v6 v7 (1 : Int32) M18) else (w_Model_shrink_j141 this Q X k68 v1 v2 v3 v4 v5 v6 v7 M18)) else (w_Model_shrink_j141 this Q X k68 v1 v2 v3 v4 v5 v6 v7 M18)) X M) else (if v9 = v7 then (w_Model_shrink_j109 this Q X k68 (w_Model_shrink_L88 this Q X k68 n) v1 v2 v3 v4 v5 v6 v7 v8 v9 M) else (w_Model_draftLine this v1 v9 (fun M34 => w_Model_shrink_j109 this Q X k68 (w_Model_shrink_L88 this Q X k68 n) v1 v2 v3 v4 v5 v6 v7 v8 v9 M34) M))
def w_Model_shrink_L68 (this : Nat) (Q : Int32 → Mem → Prop) (X : Mem → Prop) : Nat → Int32 → Int32 → Int32 → Int32 → Int32 → Int32 → Int32 → Mem → Prop
  | 0, _, _, _, _, _, _, _, _ => False
  | n + 1, v1, v2, v3, v4, v5, v6, v7, M => if v7 < 0 then (vp_in v1 (mL M 522 this) ∧ w_Model_linesOf this v1 (fun r14 M13 => Q r14 M13) (sI M 522 this v1.toNatClampNeg ((0 : Int32) &&& 1))) else (w_Model_linesOf this v1 (fun r16 M15 => ∃ n35 : Nat, w_Model_shrink_L88 this Q X (w_Model_shrink_L68 this Q X n) n35 v1 v2 v3 v4 v5 v6 v7 r16 (0 : Int32) (sI M15 11 this 123 (0 : Int32))) M)
def w_Model_shrink (this : Nat) (a1 : Int32) (a2 : Int32) (Q : Int32 → Mem → Prop) (X : Mem → Prop) (M : Mem) : Prop :=
  w_Model_isTrial this a1 (fun r2 M1 => if r2 = 0 then (Q (-1 : Int32) M1) else (if a2 < 0 then (Q (-1 : Int32) M1) else (if a2 ≤ (255 : Int32) then (w_Model_draftTrial this a1 (fun M6 => w_Model_tryDraft this (0 : Int32) (fun M7 => w_Model_tryDraft this a2 (fun M8 => w_Model_linesOf this a1 (fun r10 M9 => ∃ n36 : Nat, w_Model_shrink_L68 this Q X n36 a1 a2 (mI M7 11 this 124) (mI M7 11 this 125) (mI M8 11 this 124) (mI M8 11 this 125) (r10 - (2 : Int32)) M9) M8) X M7) X M6) M1) else (Q (-1 : Int32) M1)))) M
set_option maxRecDepth 4096 in
theorem lk_Model_shrink_j215 {γ : Gm} (hγ : Gk γ) (this : Nat) (Q : Int32 → Mem → Prop) (X : Mem → Prop) (k68 : Int32 → Int32 → Int32 → Int32 → Int32 → Int32 → Int32 → Mem → Prop) (hk68 : ∀ (v1 : Int32) (v2 : Int32) (v3 : Int32) (v4 : Int32) (v5 : Int32) (v6 : Int32) (v7 : Int32) (M : Mem), k68 v1 v2 v3 v4 v5 v6 v7 M → E γ k_Model_shrink 136 68 [some (vr (some (11, this))), some (vi v1), some (vi v2), some (vi v3), some (vi v4), some (vi v5), some (vi v6), some (vi v7), none, none] [] M (Qx (14, 0) (Qi Q) X)) (v1 : Int32) (v2 : Int32) (v3 : Int32) (v4 : Int32) (v5 : Int32) (v6 : Int32) (v7 : Int32) (M : Mem) (h : w_Model_shrink_j215 this Q X k68 v1 v2 v3 v4 v5 v6 v7 M) : E γ k_Model_shrink 136 215 [some (vr (some (11, this))), some (vi v1), some (vi v2), some (vi v3), some (vi v4), some (vi v5), some (vi v6), some (vi v7), none, none] [] M (Qx (14, 0) (Qi Q) X) := by
  unfold w_Model_shrink_j215 at h
  refine E_blk (lv' := [some (vr (some (11, this))), some (vi v1), some (vi v2), some (vi v3), some (vi v4), some (vi v5), some (vi v6), some (vi (v7 + (-1 : Int32))), none, none]) (st' := []) (M1 := M) (pc' := 218) (tb_Model hγ) [.iinc 7 (.negSucc 0)] (by decide +kernel) rfl rfl trivial ?_
  refine E_goto (off := -150) (tgt := 68) (by decide +kernel) (by decide) ?_
  refine E_mask [true, true, true, true, true, true, true, true, false, false] rfl ?_
  exact hk68 v1 v2 v3 v4 v5 v6 (v7 + (-1 : Int32)) M h
set_option maxRecDepth 4096 in
theorem lk_Model_shrink_j179 {γ : Gm} (hγ : Gk γ) (this : Nat) (Q : Int32 → Mem → Prop) (X : Mem → Prop) (k68 : Int32 → Int32 → Int32 → Int32 → Int32 → Int32 → Int32 → Mem → Prop) (hk68 : ∀ (v1 : Int32) (v2 : Int32) (v3 : Int32) (v4 : Int32) (v5 : Int32) (v6 : Int32) (v7 : Int32) (M : Mem), k68 v1 v2 v3 v4 v5 v6 v7 M → E γ k_Model_shrink 136 68 [some (vr (some (11, this))), some (vi v1), some (vi v2), some (vi v3), some (vi v4), some (vi v5), some (vi v6), some (vi v7), none, none] [] M (Qx (14, 0) (Qi Q) X)) (v1 : Int32) (v2 : Int32) (v3 : Int32) (v4 : Int32) (v5 : Int32) (v6 : Int32) (v7 : Int32) (v9 : Int32) (M : Mem) (h : w_Model_shrink_j179 this Q X k68 v1 v2 v3 v4 v5 v6 v7 v9 M) : E γ k_Model_shrink 136 179 [some (vr (some (11, this))), some (vi v1), some (vi v2), some (vi v3), some (vi v4), some (vi v5), some (vi v6), some (vi v7), none, some (vi v9)] [] M (Qx (14, 0) (Qi Q) X) := by
  unfold w_Model_shrink_j179 at h
  refine E_blk (lv' := [some (vr (some (11, this))), some (vi v1), some (vi v2), some (vi v3), some (vi v4), some (vi v5), some (vi v6), some (vi v7), none, some (vi v9)]) (st' := [vi v9]) (M1 := M) (pc' := 181) (tb_Model hγ) [.iload 9] (by decide +kernel) rfl rfl trivial ?_
  refine E_if_eq (off := 34) (tgt := 215) (by decide +kernel) (by decide) (fun b22 => ?_) (fun b22 => ?_)
  · rw [if_pos b22] at h
    refine E_mask [true, true, true, true, true, true, true, true, false, false] rfl ?_
    exact lk_Model_shrink_j215 hγ this Q X k68 hk68 v1 v2 v3 v4 v5 v6 v7 M h
  · rw [if_neg b22] at h
    refine E_blk (lv' := [some (vr (some (11, this))), some (vi v1), some (vi v2), some (vi v3), some (vi v4), some (vi v5), some (vi v6), some (vi v7), none, some (vi v9)]) (st' := [vi (mI M 11 this 123), vi ((1204 : Int32) * v1), vr (some (412, this)), vi (0 : Int32), vr (some (402, 2))]) (M1 := M) (pc' := 202) (tb_Model hγ) [.aload_n 0, .getfield 387, .iconst 0, .aload_n 0, .getfield 372, .sipush 1204, .iload_n 1, .imul, .aload_n 0, .getfield 1317] (by decide +kernel) rfl rfl trivial ?_
    obtain ⟨c24, c25, c26, c27, c28, M23, eM23, h⟩ := h
    refine E_copy (pc := 202) (κ := k_Model_shrink) (f := 402) (i := 2) (g := 412) (j := this) (sp := (0 : Int32)) (dp := ((1204 : Int32) * v1)) (n := (mI M 11 this 123)) (idx := 11) (st := []) c24 c25 c26 c27 c28 (by decide) (by decide) rfl (by decide) (tbk_mem (j := 11) (k := 65) rfl) (by decide +kernel) (Nat.le_of_ble_eq_true rfl) ?_
    rw [← eM23]
    obtain ⟨c29, h⟩ := h
    refine E_blk (lv' := [some (vr (some (11, this))), some (vi v1), some (vi v2), some (vi v3), some (vi v4), some (vi v5), some (vi v6), some (vi v7), none, some (vi v9)]) (st' := []) (M1 := (sI M23 122 this v1.toNatClampNeg (mI M23 11 this 123))) (pc' := 215) (tb_Model hγ) [.aload_n 0, .getfield 375, .iload_n 1, .aload_n 0, .getfield 1317, .iastore] (by decide +kernel) rfl rfl ⟨c29, trivial⟩ ?_
    refine E_mask [true, true, true, true, true, true, true, true, false, false] rfl ?_
    exact lk_Model_shrink_j215 hγ this Q X k68 hk68 v1 v2 v3 v4 v5 v6 v7 (sI M23 122 this v1.toNatClampNeg (mI M23 11 this 123)) h
set_option maxRecDepth 4096 in
theorem lk_Model_shrink_j177 {γ : Gm} (hγ : Gk γ) (this : Nat) (Q : Int32 → Mem → Prop) (X : Mem → Prop) (k68 : Int32 → Int32 → Int32 → Int32 → Int32 → Int32 → Int32 → Mem → Prop) (hk68 : ∀ (v1 : Int32) (v2 : Int32) (v3 : Int32) (v4 : Int32) (v5 : Int32) (v6 : Int32) (v7 : Int32) (M : Mem), k68 v1 v2 v3 v4 v5 v6 v7 M → E γ k_Model_shrink 136 68 [some (vr (some (11, this))), some (vi v1), some (vi v2), some (vi v3), some (vi v4), some (vi v5), some (vi v6), some (vi v7), none, none] [] M (Qx (14, 0) (Qi Q) X)) (v1 : Int32) (v2 : Int32) (v3 : Int32) (v4 : Int32) (v5 : Int32) (v6 : Int32) (v7 : Int32) (s0 : Int32) (M : Mem) (h : w_Model_shrink_j177 this Q X k68 v1 v2 v3 v4 v5 v6 v7 s0 M) : E γ k_Model_shrink 136 177 [some (vr (some (11, this))), some (vi v1), some (vi v2), some (vi v3), some (vi v4), some (vi v5), some (vi v6), some (vi v7), none, none] [vi s0] M (Qx (14, 0) (Qi Q) X) := by
  unfold w_Model_shrink_j177 at h
  refine E_blk (lv' := [some (vr (some (11, this))), some (vi v1), some (vi v2), some (vi v3), some (vi v4), some (vi v5), some (vi v6), some (vi v7), none, some (vi s0)]) (st' := []) (M1 := M) (pc' := 179) (tb_Model hγ) [.istore 9] (by decide +kernel) rfl rfl trivial ?_
  refine E_mask [true, true, true, true, true, true, true, true, false, true] rfl ?_
  exact lk_Model_shrink_j179 hγ this Q X k68 hk68 v1 v2 v3 v4 v5 v6 v7 s0 M h
set_option maxRecDepth 4096 in
theorem lk_Model_shrink_j176 {γ : Gm} (hγ : Gk γ) (this : Nat) (Q : Int32 → Mem → Prop) (X : Mem → Prop) (k68 : Int32 → Int32 → Int32 → Int32 → Int32 → Int32 → Int32 → Mem → Prop) (hk68 : ∀ (v1 : Int32) (v2 : Int32) (v3 : Int32) (v4 : Int32) (v5 : Int32) (v6 : Int32) (v7 : Int32) (M : Mem), k68 v1 v2 v3 v4 v5 v6 v7 M → E γ k_Model_shrink 136 68 [some (vr (some (11, this))), some (vi v1), some (vi v2), some (vi v3), some (vi v4), some (vi v5), some (vi v6), some (vi v7), none, none] [] M (Qx (14, 0) (Qi Q) X)) (v1 : Int32) (v2 : Int32) (v3 : Int32) (v4 : Int32) (v5 : Int32) (v6 : Int32) (v7 : Int32) (M : Mem) (h : w_Model_shrink_j176 this Q X k68 v1 v2 v3 v4 v5 v6 v7 M) : E γ k_Model_shrink 136 176 [some (vr (some (11, this))), some (vi v1), some (vi v2), some (vi v3), some (vi v4), some (vi v5), some (vi v6), some (vi v7), none, none] [] M (Qx (14, 0) (Qi Q) X) := by
  unfold w_Model_shrink_j176 at h
  refine E_blk (lv' := [some (vr (some (11, this))), some (vi v1), some (vi v2), some (vi v3), some (vi v4), some (vi v5), some (vi v6), some (vi v7), none, none]) (st' := [vi (0 : Int32)]) (M1 := M) (pc' := 177) (tb_Model hγ) [.iconst 0] (by decide +kernel) rfl rfl trivial ?_
  refine E_mask [true, true, true, true, true, true, true, true, false, false] rfl ?_
  exact lk_Model_shrink_j177 hγ this Q X k68 hk68 v1 v2 v3 v4 v5 v6 v7 (0 : Int32) M h
set_option maxRecDepth 4096 in
theorem lk_Model_shrink_j142 {γ : Gm} (hγ : Gk γ) (this : Nat) (Q : Int32 → Mem → Prop) (X : Mem → Prop) (k68 : Int32 → Int32 → Int32 → Int32 → Int32 → Int32 → Int32 → Mem → Prop) (hk68 : ∀ (v1 : Int32) (v2 : Int32) (v3 : Int32) (v4 : Int32) (v5 : Int32) (v6 : Int32) (v7 : Int32) (M : Mem), k68 v1 v2 v3 v4 v5 v6 v7 M → E γ k_Model_shrink 136 68 [some (vr (some (11, this))), some (vi v1), some (vi v2), some (vi v3), some (vi v4), some (vi v5), some (vi v6), some (vi v7), none, none] [] M (Qx (14, 0) (Qi Q) X)) (v1 : Int32) (v2 : Int32) (v3 : Int32) (v4 : Int32) (v5 : Int32) (v6 : Int32) (v7 : Int32) (s0 : Int32) (M : Mem) (h : w_Model_shrink_j142 this Q X k68 v1 v2 v3 v4 v5 v6 v7 s0 M) : E γ k_Model_shrink 136 142 [some (vr (some (11, this))), some (vi v1), some (vi v2), some (vi v3), some (vi v4), some (vi v5), some (vi v6), some (vi v7), none, none] [vi s0] M (Qx (14, 0) (Qi Q) X) := by
  unfold w_Model_shrink_j142 at h
  refine E_blk (lv' := [some (vr (some (11, this))), some (vi v1), some (vi v2), some (vi v3), some (vi v4), some (vi v5), some (vi v6), some (vi v7), none, some (vi s0)]) (st' := [vi s0]) (M1 := M) (pc' := 146) (tb_Model hγ) [.istore 9, .iload 9] (by decide +kernel) rfl rfl trivial ?_
  refine E_if_eq (off := 33) (tgt := 179) (by decide +kernel) (by decide) (fun b21 => ?_) (fun b21 => ?_)
  · rw [if_pos b21] at h
    refine E_mask [true, true, true, true, true, true, true, true, false, true] rfl ?_
    exact lk_Model_shrink_j179 hγ this Q X k68 hk68 v1 v2 v3 v4 v5 v6 v7 s0 M h
  · rw [if_neg b21] at h
    refine E_blk (lv' := [some (vr (some (11, this))), some (vi v1), some (vi v2), some (vi v3), some (vi v4), some (vi v5), some (vi v6), some (vi v7), none, some (vi s0)]) (st' := [vi v2, vr (some (11, this))]) (M1 := M) (pc' := 151) (tb_Model hγ) [.aload_n 0, .iload_n 2] (by decide +kernel) rfl rfl trivial ?_
    refine E_callX (κ' := k_Model_tryDraft) (As := [vi v2]) (st := []) mv_Model_tryDraft (Or.inl (tbk_mem (j := 17) (k := 220) rfl)) rfl (by decide +kernel) (Nat.le_of_ble_eq_true rfl) (Nat.le_of_ble_eq_true rfl) rfl (by decide) rfl (lk_Model_tryDraft hγ this v2 _ _ M h) (fun _ _ => Qv_r) (fun _ h => h) (fun v M30 hp => Qv_k (R := fun st => E γ k_Model_shrink 136 154 [some (vr (some (11, this))), some (vi v1), some (vi v2), some (vi v3), some (vi v4), some (vi v5), some (vi v6), some (vi v7), none, some (vi s0)] st M30 (Qx (14, 0) (Qi Q) X)) hp (fun h => ?_))
    refine E_blk (lv' := [some (vr (some (11, this))), some (vi v1), some (vi v2), some (vi v3), some (vi v4), some (vi v5), some (vi v6), some (vi v7), none, some (vi s0)]) (st' := [vi v5, vi (mI M30 11 this 124)]) (M1 := M30) (pc' := 160) (tb_Model hγ) [.aload_n 0, .getfield 1323, .iload 5] (by decide +kernel) rfl rfl trivial ?_
    refine E_icmp_ne (off := 16) (tgt := 176) (by decide +kernel) (by decide) (fun b31 => ?_) (fun b31 => ?_)
    · rw [if_pos b31] at h
      refine E_blk (lv' := [some (vr (some (11, this))), some (vi v1), some (vi v2), some (vi v3), some (vi v4), some (vi v5), some (vi v6), some (vi v7), none, some (vi s0)]) (st' := [vi v6, vi (mI M30 11 this 125)]) (M1 := M30) (pc' := 169) (tb_Model hγ) [.aload_n 0, .getfield 1326, .iload 6] (by decide +kernel) rfl rfl trivial ?_
      refine E_icmp_ne (off := 7) (tgt := 176) (by decide +kernel) (by decide) (fun b32 => ?_) (fun b32 => ?_)
      · rw [if_pos b32] at h
        refine E_blk (lv' := [some (vr (some (11, this))), some (vi v1), some (vi v2), some (vi v3), some (vi v4), some (vi v5), some (vi v6), some (vi v7), none, some (vi s0)]) (st' := [vi (1 : Int32)]) (M1 := M30) (pc' := 173) (tb_Model hγ) [.iconst 1] (by decide +kernel) rfl rfl trivial ?_
        refine E_goto (off := 4) (tgt := 177) (by decide +kernel) (by decide) ?_
        refine E_mask [true, true, true, true, true, true, true, true, false, false] rfl ?_
        exact lk_Model_shrink_j177 hγ this Q X k68 hk68 v1 v2 v3 v4 v5 v6 v7 (1 : Int32) M30 h
      · rw [if_neg b32] at h
        refine E_mask [true, true, true, true, true, true, true, true, false, false] rfl ?_
        exact lk_Model_shrink_j176 hγ this Q X k68 hk68 v1 v2 v3 v4 v5 v6 v7 M30 h
    · rw [if_neg b31] at h
      refine E_mask [true, true, true, true, true, true, true, true, false, false] rfl ?_
      exact lk_Model_shrink_j176 hγ this Q X k68 hk68 v1 v2 v3 v4 v5 v6 v7 M30 h
set_option maxRecDepth 4096 in
theorem lk_Model_shrink_j141 {γ : Gm} (hγ : Gk γ) (this : Nat) (Q : Int32 → Mem → Prop) (X : Mem → Prop) (k68 : Int32 → Int32 → Int32 → Int32 → Int32 → Int32 → Int32 → Mem → Prop) (hk68 : ∀ (v1 : Int32) (v2 : Int32) (v3 : Int32) (v4 : Int32) (v5 : Int32) (v6 : Int32) (v7 : Int32) (M : Mem), k68 v1 v2 v3 v4 v5 v6 v7 M → E γ k_Model_shrink 136 68 [some (vr (some (11, this))), some (vi v1), some (vi v2), some (vi v3), some (vi v4), some (vi v5), some (vi v6), some (vi v7), none, none] [] M (Qx (14, 0) (Qi Q) X)) (v1 : Int32) (v2 : Int32) (v3 : Int32) (v4 : Int32) (v5 : Int32) (v6 : Int32) (v7 : Int32) (M : Mem) (h : w_Model_shrink_j141 this Q X k68 v1 v2 v3 v4 v5 v6 v7 M) : E γ k_Model_shrink 136 141 [some (vr (some (11, this))), some (vi v1), some (vi v2), some (vi v3), some (vi v4), some (vi v5), some (vi v6), some (vi v7), none, none] [] M (Qx (14, 0) (Qi Q) X) := by
  unfold w_Model_shrink_j141 at h
  refine E_blk (lv' := [some (vr (some (11, this))), some (vi v1), some (vi v2), some (vi v3), some (vi v4), some (vi v5), some (vi v6), some (vi v7), none, none]) (st' := [vi (0 : Int32)]) (M1 := M) (pc' := 142) (tb_Model hγ) [.iconst 0] (by decide +kernel) rfl rfl trivial ?_
  refine E_mask [true, true, true, true, true, true, true, true, false, false] rfl ?_
  exact lk_Model_shrink_j142 hγ this Q X k68 hk68 v1 v2 v3 v4 v5 v6 v7 (0 : Int32) M h
set_option maxRecDepth 4096 in
theorem lk_Model_shrink_j109 {γ : Gm} (hγ : Gk γ) (this : Nat) (Q : Int32 → Mem → Prop) (X : Mem → Prop) (k68 : Int32 → Int32 → Int32 → Int32 → Int32 → Int32 → Int32 → Mem → Prop) (k88 : Int32 → Int32 → Int32 → Int32 → Int32 → Int32 → Int32 → Int32 → Int32 → Mem → Prop) (hk68 : ∀ (v1 : Int32) (v2 : Int32) (v3 : Int32) (v4 : Int32) (v5 : Int32) (v6 : Int32) (v7 : Int32) (M : Mem), k68 v1 v2 v3 v4 v5 v6 v7 M → E γ k_Model_shrink 136 68 [some (vr (some (11, this))), some (vi v1), some (vi v2), some (vi v3), some (vi v4), some (vi v5), some (vi v6), some (vi v7), none, none] [] M (Qx (14, 0) (Qi Q) X)) (hk88 : ∀ (v1 : Int32) (v2 : Int32) (v3 : Int32) (v4 : Int32) (v5 : Int32) (v6 : Int32) (v7 : Int32) (v8 : Int32) (v9 : Int32) (M : Mem), k88 v1 v2 v3 v4 v5 v6 v7 v8 v9 M → E γ k_Model_shrink 136 88 [some (vr (some (11, this))), some (vi v1), some (vi v2), some (vi v3), some (vi v4), some (vi v5), some (vi v6), some (vi v7), some (vi v8), some (vi v9)] [] M (Qx (14, 0) (Qi Q) X)) (v1 : Int32) (v2 : Int32) (v3 : Int32) (v4 : Int32) (v5 : Int32) (v6 : Int32) (v7 : Int32) (v8 : Int32) (v9 : Int32) (M : Mem) (h : w_Model_shrink_j109 this Q X k68 k88 v1 v2 v3 v4 v5 v6 v7 v8 v9 M) : E γ k_Model_shrink 136 109 [some (vr (some (11, this))), some (vi v1), some (vi v2), some (vi v3), some (vi v4), some (vi v5), some (vi v6), some (vi v7), some (vi v8), some (vi v9)] [] M (Qx (14, 0) (Qi Q) X) := by
  unfold w_Model_shrink_j109 at h
  refine E_blk (lv' := [some (vr (some (11, this))), some (vi v1), some (vi v2), some (vi v3), some (vi v4), some (vi v5), some (vi v6), some (vi v7), some (vi v8), some (vi (v9 + (1 : Int32)))]) (st' := []) (M1 := M) (pc' := 112) (tb_Model hγ) [.iinc 9 1] (by decide +kernel) rfl rfl trivial ?_
  refine E_goto (off := -24) (tgt := 88) (by decide +kernel) (by decide) ?_
  refine E_mask [true, true, true, true, true, true, true, true, true, true] rfl ?_
  exact hk88 v1 v2 v3 v4 v5 v6 v7 v8 (v9 + (1 : Int32)) M h
set_option maxRecDepth 4096 in
theorem lk_Model_shrink_L88 {γ : Gm} (hγ : Gk γ) (this : Nat) (Q : Int32 → Mem → Prop) (X : Mem → Prop) (k68 : Int32 → Int32 → Int32 → Int32 → Int32 → Int32 → Int32 → Mem → Prop) (hk68 : ∀ (v1 : Int32) (v2 : Int32) (v3 : Int32) (v4 : Int32) (v5 : Int32) (v6 : Int32) (v7 : Int32) (M : Mem), k68 v1 v2 v3 v4 v5 v6 v7 M → E γ k_Model_shrink 136 68 [some (vr (some (11, this))), some (vi v1), some (vi v2), some (vi v3), some (vi v4), some (vi v5), some (vi v6), some (vi v7), none, none] [] M (Qx (14, 0) (Qi Q) X)) : ∀ (n : Nat) (v1 : Int32) (v2 : Int32) (v3 : Int32) (v4 : Int32) (v5 : Int32) (v6 : Int32) (v7 : Int32) (v8 : Int32) (v9 : Int32) (M : Mem), w_Model_shrink_L88 this Q X k68 n v1 v2 v3 v4 v5 v6 v7 v8 v9 M → E γ k_Model_shrink 136 88 [some (vr (some (11, this))), some (vi v1), some (vi v2), some (vi v3), some (vi v4), some (vi v5), some (vi v6), some (vi v7), some (vi v8), some (vi v9)] [] M (Qx (14, 0) (Qi Q) X) := by
  intro n
  induction n with
  | zero => intro v1 v2 v3 v4 v5 v6 v7 v8 v9 M h; exact h.elim
  | succ n ih =>
    intro v1 v2 v3 v4 v5 v6 v7 v8 v9 M h
    unfold w_Model_shrink_L88 at h
    refine E_blk (lv' := [some (vr (some (11, this))), some (vi v1), some (vi v2), some (vi v3), some (vi v4), some (vi v5), some (vi v6), some (vi v7), some (vi v8), some (vi v9)]) (st' := [vi v8, vi v9]) (M1 := M) (pc' := 92) (tb_Model hγ) [.iload 9, .iload 8] (by decide +kernel) rfl rfl trivial ?_
    refine E_icmp_ge (off := 23) (tgt := 115) (by decide +kernel) (by decide) (fun b17 => ?_) (fun b17 => ?_)
    · rw [if_pos b17] at h
      refine E_blk (lv' := [some (vr (some (11, this))), some (vi v1), some (vi v2), some (vi v3), some (vi v4), some (vi v5), some (vi v6), some (vi v7), some (vi v8), some (vi v9)]) (st' := [vi (0 : Int32), vr (some (11, this))]) (M1 := M) (pc' := 117) (tb_Model hγ) [.aload_n 0, .iconst 0] (by decide +kernel) rfl rfl trivial ?_
      refine E_callX (κ' := k_Model_tryDraft) (As := [vi (0 : Int32)]) (st := []) mv_Model_tryDraft (Or.inl (tbk_mem (j := 17) (k := 220) rfl)) rfl (by decide +kernel) (Nat.le_of_ble_eq_true rfl) (Nat.le_of_ble_eq_true rfl) rfl (by decide) rfl (lk_Model_tryDraft hγ this (0 : Int32) _ _ M h) (fun _ _ => Qv_r) (fun _ h => h) (fun v M18 hp => Qv_k (R := fun st => E γ k_Model_shrink 136 120 [some (vr (some (11, this))), some (vi v1), some (vi v2), some (vi v3), some (vi v4), some (vi v5), some (vi v6), some (vi v7), some (vi v8), some (vi v9)] st M18 (Qx (14, 0) (Qi Q) X)) hp (fun h => ?_))
      refine E_blk (lv' := [some (vr (some (11, this))), some (vi v1), some (vi v2), some (vi v3), some (vi v4), some (vi v5), some (vi v6), some (vi v7), some (vi v8), some (vi v9)]) (st' := [vi v3, vi (mI M18 11 this 124)]) (M1 := M18) (pc' := 125) (tb_Model hγ) [.aload_n 0, .getfield 1323, .iload_n 3] (by decide +kernel) rfl rfl trivial ?_
      refine E_icmp_ne (off := 16) (tgt := 141) (by decide +kernel) (by decide) (fun b19 => ?_) (fun b19 => ?_)
      · rw [if_pos b19] at h
        refine E_blk (lv' := [some (vr (some (11, this))), some (vi v1), some (vi v2), some (vi v3), some (vi v4), some (vi v5), some (vi v6), some (vi v7), some (vi v8), some (vi v9)]) (st' := [vi v4, vi (mI M18 11 this 125)]) (M1 := M18) (pc' := 134) (tb_Model hγ) [.aload_n 0, .getfield 1326, .iload 4] (by decide +kernel) rfl rfl trivial ?_
        refine E_icmp_ne (off := 7) (tgt := 141) (by decide +kernel) (by decide) (fun b20 => ?_) (fun b20 => ?_)
        · rw [if_pos b20] at h
          refine E_blk (lv' := [some (vr (some (11, this))), some (vi v1), some (vi v2), some (vi v3), some (vi v4), some (vi v5), some (vi v6), some (vi v7), some (vi v8), some (vi v9)]) (st' := [vi (1 : Int32)]) (M1 := M18) (pc' := 138) (tb_Model hγ) [.iconst 1] (by decide +kernel) rfl rfl trivial ?_
          refine E_goto (off := 4) (tgt := 142) (by decide +kernel) (by decide) ?_
          refine E_mask [true, true, true, true, true, true, true, true, false, false] rfl ?_
          exact lk_Model_shrink_j142 hγ this Q X k68 hk68 v1 v2 v3 v4 v5 v6 v7 (1 : Int32) M18 h
        · rw [if_neg b20] at h
          refine E_mask [true, true, true, true, true, true, true, true, false, false] rfl ?_
          exact lk_Model_shrink_j141 hγ this Q X k68 hk68 v1 v2 v3 v4 v5 v6 v7 M18 h
      · rw [if_neg b19] at h
        refine E_mask [true, true, true, true, true, true, true, true, false, false] rfl ?_
        exact lk_Model_shrink_j141 hγ this Q X k68 hk68 v1 v2 v3 v4 v5 v6 v7 M18 h
    · rw [if_neg b17] at h
      refine E_blk (lv' := [some (vr (some (11, this))), some (vi v1), some (vi v2), some (vi v3), some (vi v4), some (vi v5), some (vi v6), some (vi v7), some (vi v8), some (vi v9)]) (st' := [vi v7, vi v9]) (M1 := M) (pc' := 99) (tb_Model hγ) [.iload 9, .iload 7] (by decide +kernel) rfl rfl trivial ?_
      refine E_icmp_eq (off := 10) (tgt := 109) (by decide +kernel) (by decide) (fun b33 => ?_) (fun b33 => ?_)
      · rw [if_pos b33] at h
        refine E_mask [true, true, true, true, true, true, true, true, true, true] rfl ?_
        exact lk_Model_shrink_j109 hγ this Q X k68 (w_Model_shrink_L88 this Q X k68 n) hk68 ih v1 v2 v3 v4 v5 v6 v7 v8 v9 M h
      · rw [if_neg b33] at h
        refine E_blk (lv' := [some (vr (some (11, this))), some (vi v1), some (vi v2), some (vi v3), some (vi v4), some (vi v5), some (vi v6), some (vi v7), some (vi v8), some (vi v9)]) (st' := [vi v9, vi v1, vr (some (11, this))]) (M1 := M) (pc' := 106) (tb_Model hγ) [.aload_n 0, .iload_n 1, .iload 9] (by decide +kernel) rfl rfl trivial ?_
        refine E_callV (κ' := k_Model_draftLine) (As := [vi v1, vi v9]) (st := []) mv_Model_draftLine (Or.inl (tbk_mem (j := 18) (k := 27) rfl)) rfl (by decide +kernel) (Nat.le_of_ble_eq_true rfl) (Nat.le_of_ble_eq_true rfl) rfl (by decide) (lk_Model_draftLine hγ this v1 v9 _ M h) (fun _ _ => Qv_r) (fun v M34 hp => Qv_k (R := fun st => E γ k_Model_shrink 136 109 [some (vr (some (11, this))), some (vi v1), some (vi v2), some (vi v3), some (vi v4), some (vi v5), some (vi v6), some (vi v7), some (vi v8), some (vi v9)] st M34 (Qx (14, 0) (Qi Q) X)) hp (fun h => ?_))
        refine E_mask [true, true, true, true, true, true, true, true, true, true] rfl ?_
        exact lk_Model_shrink_j109 hγ this Q X k68 (w_Model_shrink_L88 this Q X k68 n) hk68 ih v1 v2 v3 v4 v5 v6 v7 v8 v9 M34 h
set_option maxRecDepth 4096 in
theorem lk_Model_shrink_L68 {γ : Gm} (hγ : Gk γ) (this : Nat) (Q : Int32 → Mem → Prop) (X : Mem → Prop) : ∀ (n : Nat) (v1 : Int32) (v2 : Int32) (v3 : Int32) (v4 : Int32) (v5 : Int32) (v6 : Int32) (v7 : Int32) (M : Mem), w_Model_shrink_L68 this Q X n v1 v2 v3 v4 v5 v6 v7 M → E γ k_Model_shrink 136 68 [some (vr (some (11, this))), some (vi v1), some (vi v2), some (vi v3), some (vi v4), some (vi v5), some (vi v6), some (vi v7), none, none] [] M (Qx (14, 0) (Qi Q) X) := by
  intro n
  induction n with
  | zero => intro v1 v2 v3 v4 v5 v6 v7 M h; exact h.elim
  | succ n ih =>
    intro v1 v2 v3 v4 v5 v6 v7 M h
    unfold w_Model_shrink_L68 at h
    refine E_blk (lv' := [some (vr (some (11, this))), some (vi v1), some (vi v2), some (vi v3), some (vi v4), some (vi v5), some (vi v6), some (vi v7), none, none]) (st' := [vi v7]) (M1 := M) (pc' := 70) (tb_Model hγ) [.iload 7] (by decide +kernel) rfl rfl trivial ?_
    refine E_if_lt (off := 151) (tgt := 221) (by decide +kernel) (by decide) (fun b11 => ?_) (fun b11 => ?_)
    · rw [if_pos b11] at h
      obtain ⟨c12, h⟩ := h
      refine E_blk (lv' := [some (vr (some (11, this))), some (vi v1), some (vi v2), some (vi v3), some (vi v4), some (vi v5), some (vi v6), some (vi v7), none, none]) (st' := [vi v1, vr (some (11, this))]) (M1 := (sI M 522 this v1.toNatClampNeg ((0 : Int32) &&& 1))) (pc' := 230) (tb_Model hγ) [.aload_n 0, .getfield 378, .iload_n 1, .iconst 0, .bastore, .aload_n 0, .iload_n 1] (by decide +kernel) rfl rfl ⟨c12, trivial⟩ ?_
      refine E_callV (κ' := k_Model_linesOf) (As := [vi v1]) (st := []) mv_Model_linesOf (Or.inl (tbk_mem (j := 18) (k := 23) rfl)) rfl (by decide +kernel) (Nat.le_of_ble_eq_true rfl) (Nat.le_of_ble_eq_true rfl) rfl (by decide) (lk_Model_linesOf hγ this v1 _ (sI M 522 this v1.toNatClampNeg ((0 : Int32) &&& 1)) h) (fun _ _ => Qi_r) (fun v M13 hp => Qi_k (R := fun st => E γ k_Model_shrink 136 233 [some (vr (some (11, this))), some (vi v1), some (vi v2), some (vi v3), some (vi v4), some (vi v5), some (vi v6), some (vi v7), none, none] st M13 (Qx (14, 0) (Qi Q) X)) hp (fun r14 h => ?_))
      exact (E_iret rfl (by decide +kernel) h).nx
    · rw [if_neg b11] at h
      refine E_blk (lv' := [some (vr (some (11, this))), some (vi v1), some (vi v2), some (vi v3), some (vi v4), some (vi v5), some (vi v6), some (vi v7), none, none]) (st' := [vi v1, vr (some (11, this))]) (M1 := M) (pc' := 75) (tb_Model hγ) [.aload_n 0, .iload_n 1] (by decide +kernel) rfl rfl trivial ?_
      refine E_callV (κ' := k_Model_linesOf) (As := [vi v1]) (st := []) mv_Model_linesOf (Or.inl (tbk_mem (j := 18) (k := 23) rfl)) rfl (by decide +kernel) (Nat.le_of_ble_eq_true rfl) (Nat.le_of_ble_eq_true rfl) rfl (by decide) (lk_Model_linesOf hγ this v1 _ M h) (fun _ _ => Qi_r) (fun v M15 hp => Qi_k (R := fun st => E γ k_Model_shrink 136 78 [some (vr (some (11, this))), some (vi v1), some (vi v2), some (vi v3), some (vi v4), some (vi v5), some (vi v6), some (vi v7), none, none] st M15 (Qx (14, 0) (Qi Q) X)) hp (fun r16 h => ?_))
      refine E_blk (lv' := [some (vr (some (11, this))), some (vi v1), some (vi v2), some (vi v3), some (vi v4), some (vi v5), some (vi v6), some (vi v7), some (vi r16), some (vi (0 : Int32))]) (st' := []) (M1 := (sI M15 11 this 123 (0 : Int32))) (pc' := 88) (tb_Model hγ) [.istore 8, .aload_n 0, .iconst 0, .putfield 1317, .iconst 0, .istore 9] (by decide +kernel) rfl rfl trivial ?_
      obtain ⟨n35, h⟩ := h
      refine E_mask [true, true, true, true, true, true, true, true, true, true] rfl ?_
      exact lk_Model_shrink_L88 hγ this Q X (w_Model_shrink_L68 this Q X n) ih n35 v1 v2 v3 v4 v5 v6 v7 r16 (0 : Int32) (sI M15 11 this 123 (0 : Int32)) h
set_option maxRecDepth 4096 in
theorem lk_Model_shrink {γ : Gm} (hγ : Gk γ) (this : Nat) (a1 : Int32) (a2 : Int32) (Q : Int32 → Mem → Prop) (X : Mem → Prop) (M : Mem) (h : w_Model_shrink this a1 a2 Q X M) : E γ k_Model_shrink 136 0 [some (vr (some (11, this))), some (vi a1), some (vi a2), none, none, none, none, none, none, none] [] M (Qx (14, 0) (Qi Q) X) := by
  unfold w_Model_shrink at h
  refine E_blk (lv' := [some (vr (some (11, this))), some (vi a1), some (vi a2), none, none, none, none, none, none, none]) (st' := [vi a1, vr (some (11, this))]) (M1 := M) (pc' := 2) (tb_Model hγ) [.aload_n 0, .iload_n 1] (by decide +kernel) rfl rfl trivial ?_
  refine E_callV (κ' := k_Model_isTrial) (As := [vi a1]) (st := []) mv_Model_isTrial (Or.inl (tbk_mem (j := 17) (k := 212) rfl)) rfl (by decide +kernel) (Nat.le_of_ble_eq_true rfl) (Nat.le_of_ble_eq_true rfl) rfl (by decide) (lk_Model_isTrial hγ this a1 _ M h) (fun _ _ => Qi_r) (fun v M1 hp => Qi_k (R := fun st => E γ k_Model_shrink 136 5 [some (vr (some (11, this))), some (vi a1), some (vi a2), none, none, none, none, none, none, none] st M1 (Qx (14, 0) (Qi Q) X)) hp (fun r2 h => ?_))
  refine E_if_eq (off := 14) (tgt := 19) (by decide +kernel) (by decide) (fun b3 => ?_) (fun b3 => ?_)
  · rw [if_pos b3] at h
    refine E_blk (lv' := [some (vr (some (11, this))), some (vi a1), some (vi a2), none, none, none, none, none, none, none]) (st' := [vi (-1 : Int32)]) (M1 := M1) (pc' := 20) (tb_Model hγ) [.iconst (.negSucc 0)] (by decide +kernel) rfl rfl trivial ?_
    exact (E_iret rfl (by decide +kernel) h).nx
  · rw [if_neg b3] at h
    refine E_blk (lv' := [some (vr (some (11, this))), some (vi a1), some (vi a2), none, none, none, none, none, none, none]) (st' := [vi a2]) (M1 := M1) (pc' := 9) (tb_Model hγ) [.iload_n 2] (by decide +kernel) rfl rfl trivial ?_
    refine E_if_lt (off := 10) (tgt := 19) (by decide +kernel) (by decide) (fun b4 => ?_) (fun b4 => ?_)
    · rw [if_pos b4] at h
      refine E_blk (lv' := [some (vr (some (11, this))), some (vi a1), some (vi a2), none, none, none, none, none, none, none]) (st' := [vi (-1 : Int32)]) (M1 := M1) (pc' := 20) (tb_Model hγ) [.iconst (.negSucc 0)] (by decide +kernel) rfl rfl trivial ?_
      exact (E_iret rfl (by decide +kernel) h).nx
    · rw [if_neg b4] at h
      refine E_blk (lv' := [some (vr (some (11, this))), some (vi a1), some (vi a2), none, none, none, none, none, none, none]) (st' := [vi (255 : Int32), vi a2]) (M1 := M1) (pc' := 16) (tb_Model hγ) [.iload_n 2, .sipush 255] (by decide +kernel) rfl rfl trivial ?_
      refine E_icmp_le (off := 5) (tgt := 21) (by decide +kernel) (by decide) (fun b5 => ?_) (fun b5 => ?_)
      · rw [if_pos b5] at h
        refine E_blk (lv' := [some (vr (some (11, this))), some (vi a1), some (vi a2), none, none, none, none, none, none, none]) (st' := [vi a1, vr (some (11, this))]) (M1 := M1) (pc' := 23) (tb_Model hγ) [.aload_n 0, .iload_n 1] (by decide +kernel) rfl rfl trivial ?_
        refine E_callV (κ' := k_Model_draftTrial) (As := [vi a1]) (st := []) mv_Model_draftTrial (Or.inl (tbk_mem (j := 17) (k := 216) rfl)) rfl (by decide +kernel) (Nat.le_of_ble_eq_true rfl) (Nat.le_of_ble_eq_true rfl) rfl (by decide) (lk_Model_draftTrial hγ this a1 _ M1 h) (fun _ _ => Qv_r) (fun v M6 hp => Qv_k (R := fun st => E γ k_Model_shrink 136 26 [some (vr (some (11, this))), some (vi a1), some (vi a2), none, none, none, none, none, none, none] st M6 (Qx (14, 0) (Qi Q) X)) hp (fun h => ?_))
        refine E_blk (lv' := [some (vr (some (11, this))), some (vi a1), some (vi a2), none, none, none, none, none, none, none]) (st' := [vi (0 : Int32), vr (some (11, this))]) (M1 := M6) (pc' := 28) (tb_Model hγ) [.aload_n 0, .iconst 0] (by decide +kernel) rfl rfl trivial ?_
        refine E_callX (κ' := k_Model_tryDraft) (As := [vi (0 : Int32)]) (st := []) mv_Model_tryDraft (Or.inl (tbk_mem (j := 17) (k := 220) rfl)) rfl (by decide +kernel) (Nat.le_of_ble_eq_true rfl) (Nat.le_of_ble_eq_true rfl) rfl (by decide) rfl (lk_Model_tryDraft hγ this (0 : Int32) _ _ M6 h) (fun _ _ => Qv_r) (fun _ h => h) (fun v M7 hp => Qv_k (R := fun st => E γ k_Model_shrink 136 31 [some (vr (some (11, this))), some (vi a1), some (vi a2), none, none, none, none, none, none, none] st M7 (Qx (14, 0) (Qi Q) X)) hp (fun h => ?_))
        refine E_blk (lv' := [some (vr (some (11, this))), some (vi a1), some (vi a2), some (vi (mI M7 11 this 124)), some (vi (mI M7 11 this 125)), none, none, none, none, none]) (st' := [vi a2, vr (some (11, this))]) (M1 := M7) (pc' := 44) (tb_Model hγ) [.aload_n 0, .getfield 1323, .istore_n 3, .aload_n 0, .getfield 1326, .istore 4, .aload_n 0, .iload_n 2] (by decide +kernel) rfl rfl trivial ?_
        refine E_callX (κ' := k_Model_tryDraft) (As := [vi a2]) (st := []) mv_Model_tryDraft (Or.inl (tbk_mem (j := 17) (k := 220) rfl)) rfl (by decide +kernel) (Nat.le_of_ble_eq_true rfl) (Nat.le_of_ble_eq_true rfl) rfl (by decide) rfl (lk_Model_tryDraft hγ this a2 _ _ M7 h) (fun _ _ => Qv_r) (fun _ h => h) (fun v M8 hp => Qv_k (R := fun st => E γ k_Model_shrink 136 47 [some (vr (some (11, this))), some (vi a1), some (vi a2), some (vi (mI M7 11 this 124)), some (vi (mI M7 11 this 125)), none, none, none, none, none] st M8 (Qx (14, 0) (Qi Q) X)) hp (fun h => ?_))
        refine E_blk (lv' := [some (vr (some (11, this))), some (vi a1), some (vi a2), some (vi (mI M7 11 this 124)), some (vi (mI M7 11 this 125)), some (vi (mI M8 11 this 124)), some (vi (mI M8 11 this 125)), none, none, none]) (st' := [vi a1, vr (some (11, this))]) (M1 := M8) (pc' := 61) (tb_Model hγ) [.aload_n 0, .getfield 1323, .istore 5, .aload_n 0, .getfield 1326, .istore 6, .aload_n 0, .iload_n 1] (by decide +kernel) rfl rfl trivial ?_
        refine E_callV (κ' := k_Model_linesOf) (As := [vi a1]) (st := []) mv_Model_linesOf (Or.inl (tbk_mem (j := 18) (k := 23) rfl)) rfl (by decide +kernel) (Nat.le_of_ble_eq_true rfl) (Nat.le_of_ble_eq_true rfl) rfl (by decide) (lk_Model_linesOf hγ this a1 _ M8 h) (fun _ _ => Qi_r) (fun v M9 hp => Qi_k (R := fun st => E γ k_Model_shrink 136 64 [some (vr (some (11, this))), some (vi a1), some (vi a2), some (vi (mI M7 11 this 124)), some (vi (mI M7 11 this 125)), some (vi (mI M8 11 this 124)), some (vi (mI M8 11 this 125)), none, none, none] st M9 (Qx (14, 0) (Qi Q) X)) hp (fun r10 h => ?_))
        refine E_blk (lv' := [some (vr (some (11, this))), some (vi a1), some (vi a2), some (vi (mI M7 11 this 124)), some (vi (mI M7 11 this 125)), some (vi (mI M8 11 this 124)), some (vi (mI M8 11 this 125)), some (vi (r10 - (2 : Int32))), none, none]) (st' := []) (M1 := M9) (pc' := 68) (tb_Model hγ) [.iconst 2, .isub, .istore 7] (by decide +kernel) rfl rfl trivial ?_
        obtain ⟨n36, h⟩ := h
        refine E_mask [true, true, true, true, true, true, true, true, false, false] rfl ?_
        exact lk_Model_shrink_L68 hγ this Q X n36 a1 a2 (mI M7 11 this 124) (mI M7 11 this 125) (mI M8 11 this 124) (mI M8 11 this 125) (r10 - (2 : Int32)) M9 h
      · rw [if_neg b5] at h
        refine E_blk (lv' := [some (vr (some (11, this))), some (vi a1), some (vi a2), none, none, none, none, none, none, none]) (st' := [vi (-1 : Int32)]) (M1 := M1) (pc' := 20) (tb_Model hγ) [.iconst (.negSucc 0)] (by decide +kernel) rfl rfl trivial ?_
        exact (E_iret rfl (by decide +kernel) h).nx
def w_Model_change_j272 (this : Nat) (Q : Int32 → Mem → Prop) (k178 : Int32 → Int32 → Int32 → Int32 → Int32 → Int32 → Mem → Prop) (v1 : Int32) (v2 : Int32) (v3 : Int32) (v4 : Int32) (v5 : Int32) (v8 : Int32) (M : Mem) : Prop :=
  k178 v1 v2 v3 v4 v5 (v8 + (1 : Int32)) M
def w_Model_change_j254 (this : Nat) (Q : Int32 → Mem → Prop) (k178 : Int32 → Int32 → Int32 → Int32 → Int32 → Int32 → Mem → Prop) (v1 : Int32) (v2 : Int32) (v3 : Int32) (v4 : Int32) (v5 : Int32) (v8 : Int32) (v9 : Int32) (M : Mem) : Prop :=
  if v2 = (1 : Int32) then (if v8 = v3 then (w_Model_draftLine this v1 v9 (fun M30 => w_Model_change_j272 this Q k178 v1 v2 v3 v4 v5 v8 M30) M) else (w_Model_change_j272 this Q k178 v1 v2 v3 v4 v5 v8 M)) else (w_Model_change_j272 this Q k178 v1 v2 v3 v4 v5 v8 M)
def w_Model_change_j247 (this : Nat) (Q : Int32 → Mem → Prop) (k178 : Int32 → Int32 → Int32 → Int32 → Int32 → Int32 → Mem → Prop) (v1 : Int32) (v2 : Int32) (v3 : Int32) (v4 : Int32) (v5 : Int32) (v8 : Int32) (v9 : Int32) (M : Mem) : Prop :=
  w_Model_draftLine this v1 v9 (fun M31 => w_Model_change_j254 this Q k178 v1 v2 v3 v4 v5 v8 v9 M31) M
def w_Model_change_j235 (this : Nat) (Q : Int32 → Mem → Prop) (k178 : Int32 → Int32 → Int32 → Int32 → Int32 → Int32 → Mem → Prop) (v1 : Int32) (v2 : Int32) (v3 : Int32) (v4 : Int32) (v5 : Int32) (v8 : Int32) (s0 : Int32) (M : Mem) : Prop :=
  if v2 = 0 then (if v8 = v3 then (w_Model_change_j254 this Q k178 v1 v2 v3 v4 v5 v8 s0 M) else (w_Model_change_j247 this Q k178 v1 v2 v3 v4 v5 v8 s0 M)) else (w_Model_change_j247 this Q k178 v1 v2 v3 v4 v5 v8 s0 M)
def w_Model_change_j233 (this : Nat) (Q : Int32 → Mem → Prop) (k178 : Int32 → Int32 → Int32 → Int32 → Int32 → Int32 → Mem → Prop) (v1 : Int32) (v2 : Int32) (v3 : Int32) (v4 : Int32) (v5 : Int32) (v8 : Int32) (M : Mem) : Prop :=
  w_Model_change_j235 this Q k178 v1 v2 v3 v4 v5 v8 v8 M
def w_Model_change_j217 (this : Nat) (Q : Int32 → Mem → Prop) (k178 : Int32 → Int32 → Int32 → Int32 → Int32 → Int32 → Mem → Prop) (v1 : Int32) (v2 : Int32) (v3 : Int32) (v4 : Int32) (v5 : Int32) (v8 : Int32) (M : Mem) : Prop :=
  if v2 = (3 : Int32) then (if v8 = v3 then (w_Model_change_j235 this Q k178 v1 v2 v3 v4 v5 v8 v4 M) else (w_Model_change_j233 this Q k178 v1 v2 v3 v4 v5 v8 M)) else (w_Model_change_j233 this Q k178 v1 v2 v3 v4 v5 v8 M)
def w_Model_change_j201 (this : Nat) (Q : Int32 → Mem → Prop) (k178 : Int32 → Int32 → Int32 → Int32 → Int32 → Int32 → Mem → Prop) (v1 : Int32) (v2 : Int32) (v3 : Int32) (v4 : Int32) (v5 : Int32) (v8 : Int32) (M : Mem) : Prop :=
  if v2 = (2 : Int32) then (if v8 = v4 then (w_Model_change_j235 this Q k178 v1 v2 v3 v4 v5 v8 v3 M) else (w_Model_change_j217 this Q k178 v1 v2 v3 v4 v5 v8 M)) else (w_Model_change_j217 this Q k178 v1 v2 v3 v4 v5 v8 M)
def w_Model_change_L178 (this : Nat) (Q : Int32 → Mem → Prop) : Nat → Int32 → Int32 → Int32 → Int32 → Int32 → Int32 → Mem → Prop
  | 0, _, _, _, _, _, _, _ => False
  | n + 1, v1, v2, v3, v4, v5, v8, M => if v5 ≤ v8 then (if (mI M 11 this 123) ≤ (1200 : Int32) then (w_Model_keepDraft this (fun r23 M22 => Q r23 M22) M) else (Q (-3 : Int32) M)) else (if v2 = (2 : Int32) then (if v8 = v3 then (w_Model_change_j235 this Q (w_Model_change_L178 this Q n) v1 v2 v3 v4 v5 v8 v4 M) else (w_Model_change_j201 this Q (w_Model_change_L178 this Q n) v1 v2 v3 v4 v5 v8 M)) else (w_Model_change_j201 this Q (w_Model_change_L178 this Q n) v1 v2 v3 v4 v5 v8 M))
def w_Model_change_j170 (this : Nat) (Q : Int32 → Mem → Prop) (v1 : Int32) (v2 : Int32) (v3 : Int32) (v4 : Int32) (v5 : Int32) (M : Mem) : Prop :=
  ∃ n36 : Nat, w_Model_change_L178 this Q n36 v1 v2 v3 v4 v5 (0 : Int32) (sI M 11 this 123 (0 : Int32))
def w_Model_change_j155 (this : Nat) (Q : Int32 → Mem → Prop) (v1 : Int32) (v2 : Int32) (v3 : Int32) (v4 : Int32) (v5 : Int32) (M : Mem) : Prop :=
  if v2 = (1 : Int32) then (if v5 = (60 : Int32) then (Q (-3 : Int32) M) else (w_Model_change_j170 this Q v1 v2 v3 v4 v5 M)) else (w_Model_change_j170 this Q v1 v2 v3 v4 v5 M)
def w_Model_change_j129 (this : Nat) (Q : Int32 → Mem → Prop) (v1 : Int32) (v2 : Int32) (v3 : Int32) (v4 : Int32) (v5 : Int32) (v6 : Int32) (M : Mem) : Prop :=
  if (mI M 11 this 121) = (40 : Int32) then (Q (-3 : Int32) M) else (if v6 ≤ (1200 : Int32) then (w_Model_change_j155 this Q v1 v2 v3 v4 v5 M) else (if v2 = 0 then (w_Model_change_j155 this Q v1 v2 v3 v4 v5 M) else (if v2 = (2 : Int32) then (w_Model_change_j155 this Q v1 v2 v3 v4 v5 M) else (Q (-3 : Int32) M))))
def w_Model_change_j59 (this : Nat) (Q : Int32 → Mem → Prop) (v1 : Int32) (v2 : Int32) (v3 : Int32) (v4 : Int32) (v5 : Int32) (M : Mem) : Prop :=
  vp_in v1 (mL M 122 this) ∧ vp_in (v3 + (1 : Int32)) (mL M 129 this) ∧ vp_in v3 (mL M 129 this) ∧ ∃ x14 : Int32, x14 = ((mI M 129 this (v3 + (1 : Int32)).toNatClampNeg) - (mI M 129 this v3.toNatClampNeg)) ∧ if v2 = (1 : Int32) then (w_Model_change_j129 this Q v1 v2 v3 v4 v5 ((mI M 122 this v1.toNatClampNeg) + x14) M) else (if v2 = (3 : Int32) then (vp_in (v4 + (1 : Int32)) (mL M 129 this) ∧ vp_in v4 (mL M 129 this) ∧ ∃ x42 : Int32, x42 = ((mI M 122 this v1.toNatClampNeg) + (((mI M 129 this (v4 + (1 : Int32)).toNatClampNeg) - (mI M 129 this v4.toNatClampNeg)) - x14)) ∧ w_Model_change_j129 this Q v1 v2 v3 v4 v5 x42 M) else (w_Model_change_j129 this Q v1 v2 v3 v4 v5 (mI M 122 this v1.toNatClampNeg) M))
def w_Model_change (this : Nat) (a1 : Int32) (a2 : Int32) (a3 : Int32) (a4 : Int32) (Q : Int32 → Mem → Prop) (M : Mem) : Prop :=
  w_Model_isTrial this a1 (fun r2 M1 => if r2 = 0 then (Q (-1 : Int32) M1) else (if a2 < 0 then (Q (-1 : Int32) M1) else (if a2 ≤ (3 : Int32) then (w_Model_linesOf this a1 (fun r7 M6 => if a3 < 0 then (Q (-1 : Int32) M6) else (if (r7 - (1 : Int32)) ≤ a3 then (Q (-1 : Int32) M6) else (if a2 ≤ (1 : Int32) then (w_Model_change_j59 this Q a1 a2 a3 a4 r7 M6) else (if a4 < 0 then (Q (-1 : Int32) M6) else (if a4 < (r7 - (1 : Int32)) then (w_Model_change_j59 this Q a1 a2 a3 a4 r7 M6) else (Q (-1 : Int32) M6)))))) M1) else (Q (-1 : Int32) M1)))) M
set_option maxRecDepth 4096 in
theorem lk_Model_change_j272 {γ : Gm} (hγ : Gk γ) (this : Nat) (Q : Int32 → Mem → Prop) (k178 : Int32 → Int32 → Int32 → Int32 → Int32 → Int32 → Mem → Prop) (hk178 : ∀ (v1 : Int32) (v2 : Int32) (v3 : Int32) (v4 : Int32) (v5 : Int32) (v8 : Int32) (M : Mem), k178 v1 v2 v3 v4 v5 v8 M → E γ k_Model_change 2 178 [some (vr (some (11, this))), some (vi v1), some (vi v2), some (vi v3), some (vi v4), some (vi v5), none, none, some (vi v8), none] [] M (Qi Q)) (v1 : Int32) (v2 : Int32) (v3 : Int32) (v4 : Int32) (v5 : Int32) (v8 : Int32) (M : Mem) (h : w_Model_change_j272 this Q k178 v1 v2 v3 v4 v5 v8 M) : E γ k_Model_change 2 272 [some (vr (some (11, this))), some (vi v1), some (vi v2), some (vi v3), some (vi v4), some (vi v5), none, none, some (vi v8), none] [] M (Qi Q) := by
  unfold w_Model_change_j272 at h
  refine E_blk (lv' := [some (vr (some (11, this))), some (vi v1), some (vi v2), some (vi v3), some (vi v4), some (vi v5), none, none, some (vi (v8 + (1 : Int32))), none]) (st' := []) (M1 := M) (pc' := 275) (tb_Model hγ) [.iinc 8 1] (by decide +kernel) rfl rfl trivial ?_
  refine E_goto (off := -97) (tgt := 178) (by decide +kernel) (by decide) ?_
  refine E_mask [true, true, true, true, true, true, false, false, true, false] rfl ?_
  exact hk178 v1 v2 v3 v4 v5 (v8 + (1 : Int32)) M h
set_option maxRecDepth 4096 in
theorem lk_Model_change_j254 {γ : Gm} (hγ : Gk γ) (this : Nat) (Q : Int32 → Mem → Prop) (k178 : Int32 → Int32 → Int32 → Int32 → Int32 → Int32 → Mem → Prop) (hk178 : ∀ (v1 : Int32) (v2 : Int32) (v3 : Int32) (v4 : Int32) (v5 : Int32) (v8 : Int32) (M : Mem), k178 v1 v2 v3 v4 v5 v8 M → E γ k_Model_change 2 178 [some (vr (some (11, this))), some (vi v1), some (vi v2), some (vi v3), some (vi v4), some (vi v5), none, none, some (vi v8), none] [] M (Qi Q)) (v1 : Int32) (v2 : Int32) (v3 : Int32) (v4 : Int32) (v5 : Int32) (v8 : Int32) (v9 : Int32) (M : Mem) (h : w_Model_change_j254 this Q k178 v1 v2 v3 v4 v5 v8 v9 M) : E γ k_Model_change 2 254 [some (vr (some (11, this))), some (vi v1), some (vi v2), some (vi v3), some (vi v4), some (vi v5), none, none, some (vi v8), some (vi v9)] [] M (Qi Q) := by
  unfold w_Model_change_j254 at h
  refine E_blk (lv' := [some (vr (some (11, this))), some (vi v1), some (vi v2), some (vi v3), some (vi v4), some (vi v5), none, none, some (vi v8), some (vi v9)]) (st' := [vi (1 : Int32), vi v2]) (M1 := M) (pc' := 256) (tb_Model hγ) [.iload_n 2, .iconst 1] (by decide +kernel) rfl rfl trivial ?_
  refine E_icmp_ne (off := 16) (tgt := 272) (by decide +kernel) (by decide) (fun b28 => ?_) (fun b28 => ?_)
  · rw [if_pos b28] at h
    refine E_blk (lv' := [some (vr (some (11, this))), some (vi v1), some (vi v2), some (vi v3), some (vi v4), some (vi v5), none, none, some (vi v8), some (vi v9)]) (st' := [vi v3, vi v8]) (M1 := M) (pc' := 262) (tb_Model hγ) [.iload 8, .iload_n 3] (by decide +kernel) rfl rfl trivial ?_
    refine E_icmp_ne (off := 10) (tgt := 272) (by decide +kernel) (by decide) (fun b29 => ?_) (fun b29 => ?_)
    · rw [if_pos b29] at h
      refine E_blk (lv' := [some (vr (some (11, this))), some (vi v1), some (vi v2), some (vi v3), some (vi v4), some (vi v5), none, none, some (vi v8), some (vi v9)]) (st' := [vi v9, vi v1, vr (some (11, this))]) (M1 := M) (pc' := 269) (tb_Model hγ) [.aload_n 0, .iload_n 1, .iload 9] (by decide +kernel) rfl rfl trivial ?_
      refine E_callV (κ' := k_Model_draftLine) (As := [vi v1, vi v9]) (st := []) mv_Model_draftLine (Or.inl (tbk_mem (j := 18) (k := 27) rfl)) rfl (by decide +kernel) (Nat.le_of_ble_eq_true rfl) (Nat.le_of_ble_eq_true rfl) rfl (by decide) (lk_Model_draftLine hγ this v1 v9 _ M h) (fun _ _ => Qv_r) (fun v M30 hp => Qv_k (R := fun st => E γ k_Model_change 2 272 [some (vr (some (11, this))), some (vi v1), some (vi v2), some (vi v3), some (vi v4), some (vi v5), none, none, some (vi v8), some (vi v9)] st M30 (Qi Q)) hp (fun h => ?_))
      refine E_mask [true, true, true, true, true, true, false, false, true, false] rfl ?_
      exact lk_Model_change_j272 hγ this Q k178 hk178 v1 v2 v3 v4 v5 v8 M30 h
    · rw [if_neg b29] at h
      refine E_mask [true, true, true, true, true, true, false, false, true, false] rfl ?_
      exact lk_Model_change_j272 hγ this Q k178 hk178 v1 v2 v3 v4 v5 v8 M h
  · rw [if_neg b28] at h
    refine E_mask [true, true, true, true, true, true, false, false, true, false] rfl ?_
    exact lk_Model_change_j272 hγ this Q k178 hk178 v1 v2 v3 v4 v5 v8 M h
set_option maxRecDepth 4096 in
theorem lk_Model_change_j247 {γ : Gm} (hγ : Gk γ) (this : Nat) (Q : Int32 → Mem → Prop) (k178 : Int32 → Int32 → Int32 → Int32 → Int32 → Int32 → Mem → Prop) (hk178 : ∀ (v1 : Int32) (v2 : Int32) (v3 : Int32) (v4 : Int32) (v5 : Int32) (v8 : Int32) (M : Mem), k178 v1 v2 v3 v4 v5 v8 M → E γ k_Model_change 2 178 [some (vr (some (11, this))), some (vi v1), some (vi v2), some (vi v3), some (vi v4), some (vi v5), none, none, some (vi v8), none] [] M (Qi Q)) (v1 : Int32) (v2 : Int32) (v3 : Int32) (v4 : Int32) (v5 : Int32) (v8 : Int32) (v9 : Int32) (M : Mem) (h : w_Model_change_j247 this Q k178 v1 v2 v3 v4 v5 v8 v9 M) : E γ k_Model_change 2 247 [some (vr (some (11, this))), some (vi v1), some (vi v2), some (vi v3), some (vi v4), some (vi v5), none, none, some (vi v8), some (vi v9)] [] M (Qi Q) := by
  unfold w_Model_change_j247 at h
  refine E_blk (lv' := [some (vr (some (11, this))), some (vi v1), some (vi v2), some (vi v3), some (vi v4), some (vi v5), none, none, some (vi v8), some (vi v9)]) (st' := [vi v9, vi v1, vr (some (11, this))]) (M1 := M) (pc' := 251) (tb_Model hγ) [.aload_n 0, .iload_n 1, .iload 9] (by decide +kernel) rfl rfl trivial ?_
  refine E_callV (κ' := k_Model_draftLine) (As := [vi v1, vi v9]) (st := []) mv_Model_draftLine (Or.inl (tbk_mem (j := 18) (k := 27) rfl)) rfl (by decide +kernel) (Nat.le_of_ble_eq_true rfl) (Nat.le_of_ble_eq_true rfl) rfl (by decide) (lk_Model_draftLine hγ this v1 v9 _ M h) (fun _ _ => Qv_r) (fun v M31 hp => Qv_k (R := fun st => E γ k_Model_change 2 254 [some (vr (some (11, this))), some (vi v1), some (vi v2), some (vi v3), some (vi v4), some (vi v5), none, none, some (vi v8), some (vi v9)] st M31 (Qi Q)) hp (fun h => ?_))
  refine E_mask [true, true, true, true, true, true, false, false, true, true] rfl ?_
  exact lk_Model_change_j254 hγ this Q k178 hk178 v1 v2 v3 v4 v5 v8 v9 M31 h
set_option maxRecDepth 4096 in
theorem lk_Model_change_j235 {γ : Gm} (hγ : Gk γ) (this : Nat) (Q : Int32 → Mem → Prop) (k178 : Int32 → Int32 → Int32 → Int32 → Int32 → Int32 → Mem → Prop) (hk178 : ∀ (v1 : Int32) (v2 : Int32) (v3 : Int32) (v4 : Int32) (v5 : Int32) (v8 : Int32) (M : Mem), k178 v1 v2 v3 v4 v5 v8 M → E γ k_Model_change 2 178 [some (vr (some (11, this))), some (vi v1), some (vi v2), some (vi v3), some (vi v4), some (vi v5), none, none, some (vi v8), none] [] M (Qi Q)) (v1 : Int32) (v2 : Int32) (v3 : Int32) (v4 : Int32) (v5 : Int32) (v8 : Int32) (s0 : Int32) (M : Mem) (h : w_Model_change_j235 this Q k178 v1 v2 v3 v4 v5 v8 s0 M) : E γ k_Model_change 2 235 [some (vr (some (11, this))), some (vi v1), some (vi v2), some (vi v3), some (vi v4), some (vi v5), none, none, some (vi v8), none] [vi s0] M (Qi Q) := by
  unfold w_Model_change_j235 at h
  refine E_blk (lv' := [some (vr (some (11, this))), some (vi v1), some (vi v2), some (vi v3), some (vi v4), some (vi v5), none, none, some (vi v8), some (vi s0)]) (st' := [vi v2]) (M1 := M) (pc' := 238) (tb_Model hγ) [.istore 9, .iload_n 2] (by decide +kernel) rfl rfl trivial ?_
  refine E_if_ne (off := 9) (tgt := 247) (by decide +kernel) (by decide) (fun b26 => ?_) (fun b26 => ?_)
  · rw [if_pos b26] at h
    refine E_blk (lv' := [some (vr (some (11, this))), some (vi v1), some (vi v2), some (vi v3), some (vi v4), some (vi v5), none, none, some (vi v8), some (vi s0)]) (st' := [vi v3, vi v8]) (M1 := M) (pc' := 244) (tb_Model hγ) [.iload 8, .iload_n 3] (by decide +kernel) rfl rfl trivial ?_
    refine E_icmp_eq (off := 10) (tgt := 254) (by decide +kernel) (by decide) (fun b27 => ?_) (fun b27 => ?_)
    · rw [if_pos b27] at h
      refine E_mask [true, true, true, true, true, true, false, false, true, true] rfl ?_
      exact lk_Model_change_j254 hγ this Q k178 hk178 v1 v2 v3 v4 v5 v8 s0 M h
    · rw [if_neg b27] at h
      refine E_mask [true, true, true, true, true, true, false, false, true, true] rfl ?_
      exact lk_Model_change_j247 hγ this Q k178 hk178 v1 v2 v3 v4 v5 v8 s0 M h
  · rw [if_neg b26] at h
    refine E_mask [true, true, true, true, true, true, false, false, true, true] rfl ?_
    exact lk_Model_change_j247 hγ this Q k178 hk178 v1 v2 v3 v4 v5 v8 s0 M h
set_option maxRecDepth 4096 in
theorem lk_Model_change_j233 {γ : Gm} (hγ : Gk γ) (this : Nat) (Q : Int32 → Mem → Prop) (k178 : Int32 → Int32 → Int32 → Int32 → Int32 → Int32 → Mem → Prop) (hk178 : ∀ (v1 : Int32) (v2 : Int32) (v3 : Int32) (v4 : Int32) (v5 : Int32) (v8 : Int32) (M : Mem), k178 v1 v2 v3 v4 v5 v8 M → E γ k_Model_change 2 178 [some (vr (some (11, this))), some (vi v1), some (vi v2), some (vi v3), some (vi v4), some (vi v5), none, none, some (vi v8), none] [] M (Qi Q)) (v1 : Int32) (v2 : Int32) (v3 : Int32) (v4 : Int32) (v5 : Int32) (v8 : Int32) (M : Mem) (h : w_Model_change_j233 this Q k178 v1 v2 v3 v4 v5 v8 M) : E γ k_Model_change 2 233 [some (vr (some (11, this))), some (vi v1), some (vi v2), some (vi v3), some (vi v4), some (vi v5), none, none, some (vi v8), none] [] M (Qi Q) := by
  unfold w_Model_change_j233 at h
  refine E_blk (lv' := [some (vr (some (11, this))), some (vi v1), some (vi v2), some (vi v3), some (vi v4), some (vi v5), none, none, some (vi v8), none]) (st' := [vi v8]) (M1 := M) (pc' := 235) (tb_Model hγ) [.iload 8] (by decide +kernel) rfl rfl trivial ?_
  refine E_mask [true, true, true, true, true, true, false, false, true, false] rfl ?_
  exact lk_Model_change_j235 hγ this Q k178 hk178 v1 v2 v3 v4 v5 v8 v8 M h
set_option maxRecDepth 4096 in
theorem lk_Model_change_j217 {γ : Gm} (hγ : Gk γ) (this : Nat) (Q : Int32 → Mem → Prop) (k178 : Int32 → Int32 → Int32 → Int32 → Int32 → Int32 → Mem → Prop) (hk178 : ∀ (v1 : Int32) (v2 : Int32) (v3 : Int32) (v4 : Int32) (v5 : Int32) (v8 : Int32) (M : Mem), k178 v1 v2 v3 v4 v5 v8 M → E γ k_Model_change 2 178 [some (vr (some (11, this))), some (vi v1), some (vi v2), some (vi v3), some (vi v4), some (vi v5), none, none, some (vi v8), none] [] M (Qi Q)) (v1 : Int32) (v2 : Int32) (v3 : Int32) (v4 : Int32) (v5 : Int32) (v8 : Int32) (M : Mem) (h : w_Model_change_j217 this Q k178 v1 v2 v3 v4 v5 v8 M) : E γ k_Model_change 2 217 [some (vr (some (11, this))), some (vi v1), some (vi v2), some (vi v3), some (vi v4), some (vi v5), none, none, some (vi v8), none] [] M (Qi Q) := by
  unfold w_Model_change_j217 at h
  refine E_blk (lv' := [some (vr (some (11, this))), some (vi v1), some (vi v2), some (vi v3), some (vi v4), some (vi v5), none, none, some (vi v8), none]) (st' := [vi (3 : Int32), vi v2]) (M1 := M) (pc' := 219) (tb_Model hγ) [.iload_n 2, .iconst 3] (by decide +kernel) rfl rfl trivial ?_
  refine E_icmp_ne (off := 14) (tgt := 233) (by decide +kernel) (by decide) (fun b34 => ?_) (fun b34 => ?_)
  · rw [if_pos b34] at h
    refine E_blk (lv' := [some (vr (some (11, this))), some (vi v1), some (vi v2), some (vi v3), some (vi v4), some (vi v5), none, none, some (vi v8), none]) (st' := [vi v3, vi v8]) (M1 := M) (pc' := 225) (tb_Model hγ) [.iload 8, .iload_n 3] (by decide +kernel) rfl rfl trivial ?_
    refine E_icmp_ne (off := 8) (tgt := 233) (by decide +kernel) (by decide) (fun b35 => ?_) (fun b35 => ?_)
    · rw [if_pos b35] at h
      refine E_blk (lv' := [some (vr (some (11, this))), some (vi v1), some (vi v2), some (vi v3), some (vi v4), some (vi v5), none, none, some (vi v8), none]) (st' := [vi v4]) (M1 := M) (pc' := 230) (tb_Model hγ) [.iload 4] (by decide +kernel) rfl rfl trivial ?_
      refine E_goto (off := 5) (tgt := 235) (by decide +kernel) (by decide) ?_
      refine E_mask [true, true, true, true, true, true, false, false, true, false] rfl ?_
      exact lk_Model_change_j235 hγ this Q k178 hk178 v1 v2 v3 v4 v5 v8 v4 M h
    · rw [if_neg b35] at h
      refine E_mask [true, true, true, true, true, true, false, false, true, false] rfl ?_
      exact lk_Model_change_j233 hγ this Q k178 hk178 v1 v2 v3 v4 v5 v8 M h
  · rw [if_neg b34] at h
    refine E_mask [true, true, true, true, true, true, false, false, true, false] rfl ?_
    exact lk_Model_change_j233 hγ this Q k178 hk178 v1 v2 v3 v4 v5 v8 M h
set_option maxRecDepth 4096 in
theorem lk_Model_change_j201 {γ : Gm} (hγ : Gk γ) (this : Nat) (Q : Int32 → Mem → Prop) (k178 : Int32 → Int32 → Int32 → Int32 → Int32 → Int32 → Mem → Prop) (hk178 : ∀ (v1 : Int32) (v2 : Int32) (v3 : Int32) (v4 : Int32) (v5 : Int32) (v8 : Int32) (M : Mem), k178 v1 v2 v3 v4 v5 v8 M → E γ k_Model_change 2 178 [some (vr (some (11, this))), some (vi v1), some (vi v2), some (vi v3), some (vi v4), some (vi v5), none, none, some (vi v8), none] [] M (Qi Q)) (v1 : Int32) (v2 : Int32) (v3 : Int32) (v4 : Int32) (v5 : Int32) (v8 : Int32) (M : Mem) (h : w_Model_change_j201 this Q k178 v1 v2 v3 v4 v5 v8 M) : E γ k_Model_change 2 201 [some (vr (some (11, this))), some (vi v1), some (vi v2), some (vi v3), some (vi v4), some (vi v5), none, none, some (vi v8), none] [] M (Qi Q) := by
  unfold w_Model_change_j201 at h
  refine E_blk (lv' := [some (vr (some (11, this))), some (vi v1), some (vi v2), some (vi v3), some (vi v4), some (vi v5), none, none, some (vi v8), none]) (st' := [vi (2 : Int32), vi v2]) (M1 := M) (pc' := 203) (tb_Model hγ) [.iload_n 2, .iconst 2] (by decide +kernel) rfl rfl trivial ?_
  refine E_icmp_ne (off := 14) (tgt := 217) (by decide +kernel) (by decide) (fun b32 => ?_) (fun b32 => ?_)
  · rw [if_pos b32] at h
    refine E_blk (lv' := [some (vr (some (11, this))), some (vi v1), some (vi v2), some (vi v3), some (vi v4), some (vi v5), none, none, some (vi v8), none]) (st' := [vi v4, vi v8]) (M1 := M) (pc' := 210) (tb_Model hγ) [.iload 8, .iload 4] (by decide +kernel) rfl rfl trivial ?_
    refine E_icmp_ne (off := 7) (tgt := 217) (by decide +kernel) (by decide) (fun b33 => ?_) (fun b33 => ?_)
    · rw [if_pos b33] at h
      refine E_blk (lv' := [some (vr (some (11, this))), some (vi v1), some (vi v2), some (vi v3), some (vi v4), some (vi v5), none, none, some (vi v8), none]) (st' := [vi v3]) (M1 := M) (pc' := 214) (tb_Model hγ) [.iload_n 3] (by decide +kernel) rfl rfl trivial ?_
      refine E_goto (off := 21) (tgt := 235) (by decide +kernel) (by decide) ?_
      refine E_mask [true, true, true, true, true, true, false, false, true, false] rfl ?_
      exact lk_Model_change_j235 hγ this Q k178 hk178 v1 v2 v3 v4 v5 v8 v3 M h
    · rw [if_neg b33] at h
      refine E_mask [true, true, true, true, true, true, false, false, true, false] rfl ?_
      exact lk_Model_change_j217 hγ this Q k178 hk178 v1 v2 v3 v4 v5 v8 M h
  · rw [if_neg b32] at h
    refine E_mask [true, true, true, true, true, true, false, false, true, false] rfl ?_
    exact lk_Model_change_j217 hγ this Q k178 hk178 v1 v2 v3 v4 v5 v8 M h
set_option maxRecDepth 4096 in
theorem lk_Model_change_L178 {γ : Gm} (hγ : Gk γ) (this : Nat) (Q : Int32 → Mem → Prop) : ∀ (n : Nat) (v1 : Int32) (v2 : Int32) (v3 : Int32) (v4 : Int32) (v5 : Int32) (v8 : Int32) (M : Mem), w_Model_change_L178 this Q n v1 v2 v3 v4 v5 v8 M → E γ k_Model_change 2 178 [some (vr (some (11, this))), some (vi v1), some (vi v2), some (vi v3), some (vi v4), some (vi v5), none, none, some (vi v8), none] [] M (Qi Q) := by
  intro n
  induction n with
  | zero => intro v1 v2 v3 v4 v5 v8 M h; exact h.elim
  | succ n ih =>
    intro v1 v2 v3 v4 v5 v8 M h
    unfold w_Model_change_L178 at h
    refine E_blk (lv' := [some (vr (some (11, this))), some (vi v1), some (vi v2), some (vi v3), some (vi v4), some (vi v5), none, none, some (vi v8), none]) (st' := [vi v5, vi v8]) (M1 := M) (pc' := 182) (tb_Model hγ) [.iload 8, .iload 5] (by decide +kernel) rfl rfl trivial ?_
    refine E_icmp_ge (off := 96) (tgt := 278) (by decide +kernel) (by decide) (fun b20 => ?_) (fun b20 => ?_)
    · rw [if_pos b20] at h
      refine E_blk (lv' := [some (vr (some (11, this))), some (vi v1), some (vi v2), some (vi v3), some (vi v4), some (vi v5), none, none, some (vi v8), none]) (st' := [vi (1200 : Int32), vi (mI M 11 this 123)]) (M1 := M) (pc' := 285) (tb_Model hγ) [.aload_n 0, .getfield 1317, .sipush 1200] (by decide +kernel) rfl rfl trivial ?_
      refine E_icmp_le (off := 6) (tgt := 291) (by decide +kernel) (by decide) (fun b21 => ?_) (fun b21 => ?_)
      · rw [if_pos b21] at h
        refine E_blk (lv' := [some (vr (some (11, this))), some (vi v1), some (vi v2), some (vi v3), some (vi v4), some (vi v5), none, none, some (vi v8), none]) (st' := [vr (some (11, this))]) (M1 := M) (pc' := 292) (tb_Model hγ) [.aload_n 0] (by decide +kernel) rfl rfl trivial ?_
        refine E_callV (κ' := k_Model_keepDraft) (As := []) (st := []) mv_Model_keepDraft (Or.inl (tbk_mem (j := 17) (k := 204) rfl)) rfl (by decide +kernel) (Nat.le_of_ble_eq_true rfl) (Nat.le_of_ble_eq_true rfl) rfl (by decide) (lk_Model_keepDraft hγ this _ M h) (fun _ _ => Qi_r) (fun v M22 hp => Qi_k (R := fun st => E γ k_Model_change 2 295 [some (vr (some (11, this))), some (vi v1), some (vi v2), some (vi v3), some (vi v4), some (vi v5), none, none, some (vi v8), none] st M22 (Qi Q)) hp (fun r23 h => ?_))
        exact E_iret rfl (by decide +kernel) h
      · rw [if_neg b21] at h
        refine E_blk (lv' := [some (vr (some (11, this))), some (vi v1), some (vi v2), some (vi v3), some (vi v4), some (vi v5), none, none, some (vi v8), none]) (st' := [vi (-3 : Int32)]) (M1 := M) (pc' := 290) (tb_Model hγ) [.bipush (.negSucc 2)] (by decide +kernel) rfl rfl trivial ?_
        exact E_iret rfl (by decide +kernel) h
    · rw [if_neg b20] at h
      refine E_blk (lv' := [some (vr (some (11, this))), some (vi v1), some (vi v2), some (vi v3), some (vi v4), some (vi v5), none, none, some (vi v8), none]) (st' := [vi (2 : Int32), vi v2]) (M1 := M) (pc' := 187) (tb_Model hγ) [.iload_n 2, .iconst 2] (by decide +kernel) rfl rfl trivial ?_
      refine E_icmp_ne (off := 14) (tgt := 201) (by decide +kernel) (by decide) (fun b24 => ?_) (fun b24 => ?_)
      · rw [if_pos b24] at h
        refine E_blk (lv' := [some (vr (some (11, this))), some (vi v1), some (vi v2), some (vi v3), some (vi v4), some (vi v5), none, none, some (vi v8), none]) (st' := [vi v3, vi v8]) (M1 := M) (pc' := 193) (tb_Model hγ) [.iload 8, .iload_n 3] (by decide +kernel) rfl rfl trivial ?_
        refine E_icmp_ne (off := 8) (tgt := 201) (by decide +kernel) (by decide) (fun b25 => ?_) (fun b25 => ?_)
        · rw [if_pos b25] at h
          refine E_blk (lv' := [some (vr (some (11, this))), some (vi v1), some (vi v2), some (vi v3), some (vi v4), some (vi v5), none, none, some (vi v8), none]) (st' := [vi v4]) (M1 := M) (pc' := 198) (tb_Model hγ) [.iload 4] (by decide +kernel) rfl rfl trivial ?_
          refine E_goto (off := 37) (tgt := 235) (by decide +kernel) (by decide) ?_
          refine E_mask [true, true, true, true, true, true, false, false, true, false] rfl ?_
          exact lk_Model_change_j235 hγ this Q (w_Model_change_L178 this Q n) ih v1 v2 v3 v4 v5 v8 v4 M h
        · rw [if_neg b25] at h
          refine E_mask [true, true, true, true, true, true, false, false, true, false] rfl ?_
          exact lk_Model_change_j201 hγ this Q (w_Model_change_L178 this Q n) ih v1 v2 v3 v4 v5 v8 M h
      · rw [if_neg b24] at h
        refine E_mask [true, true, true, true, true, true, false, false, true, false] rfl ?_
        exact lk_Model_change_j201 hγ this Q (w_Model_change_L178 this Q n) ih v1 v2 v3 v4 v5 v8 M h
set_option maxRecDepth 4096 in
theorem lk_Model_change_j170 {γ : Gm} (hγ : Gk γ) (this : Nat) (Q : Int32 → Mem → Prop) (v1 : Int32) (v2 : Int32) (v3 : Int32) (v4 : Int32) (v5 : Int32) (M : Mem) (h : w_Model_change_j170 this Q v1 v2 v3 v4 v5 M) : E γ k_Model_change 2 170 [some (vr (some (11, this))), some (vi v1), some (vi v2), some (vi v3), some (vi v4), some (vi v5), none, none, none, none] [] M (Qi Q) := by
  unfold w_Model_change_j170 at h
  refine E_blk (lv' := [some (vr (some (11, this))), some (vi v1), some (vi v2), some (vi v3), some (vi v4), some (vi v5), none, none, some (vi (0 : Int32)), none]) (st' := []) (M1 := (sI M 11 this 123 (0 : Int32))) (pc' := 178) (tb_Model hγ) [.aload_n 0, .iconst 0, .putfield 1317, .iconst 0, .istore 8] (by decide +kernel) rfl rfl trivial ?_
  obtain ⟨n36, h⟩ := h
  refine E_mask [true, true, true, true, true, true, false, false, true, false] rfl ?_
  exact lk_Model_change_L178 hγ this Q n36 v1 v2 v3 v4 v5 (0 : Int32) (sI M 11 this 123 (0 : Int32)) h
set_option maxRecDepth 4096 in
theorem lk_Model_change_j155 {γ : Gm} (hγ : Gk γ) (this : Nat) (Q : Int32 → Mem → Prop) (v1 : Int32) (v2 : Int32) (v3 : Int32) (v4 : Int32) (v5 : Int32) (M : Mem) (h : w_Model_change_j155 this Q v1 v2 v3 v4 v5 M) : E γ k_Model_change 2 155 [some (vr (some (11, this))), some (vi v1), some (vi v2), some (vi v3), some (vi v4), some (vi v5), none, none, none, none] [] M (Qi Q) := by
  unfold w_Model_change_j155 at h
  refine E_blk (lv' := [some (vr (some (11, this))), some (vi v1), some (vi v2), some (vi v3), some (vi v4), some (vi v5), none, none, none, none]) (st' := [vi (1 : Int32), vi v2]) (M1 := M) (pc' := 157) (tb_Model hγ) [.iload_n 2, .iconst 1] (by decide +kernel) rfl rfl trivial ?_
  refine E_icmp_ne (off := 13) (tgt := 170) (by decide +kernel) (by decide) (fun b18 => ?_) (fun b18 => ?_)
  · rw [if_pos b18] at h
    refine E_blk (lv' := [some (vr (some (11, this))), some (vi v1), some (vi v2), some (vi v3), some (vi v4), some (vi v5), none, none, none, none]) (st' := [vi (60 : Int32), vi v5]) (M1 := M) (pc' := 164) (tb_Model hγ) [.iload 5, .bipush 60] (by decide +kernel) rfl rfl trivial ?_
    refine E_icmp_ne (off := 6) (tgt := 170) (by decide +kernel) (by decide) (fun b19 => ?_) (fun b19 => ?_)
    · rw [if_pos b19] at h
      refine E_blk (lv' := [some (vr (some (11, this))), some (vi v1), some (vi v2), some (vi v3), some (vi v4), some (vi v5), none, none, none, none]) (st' := [vi (-3 : Int32)]) (M1 := M) (pc' := 169) (tb_Model hγ) [.bipush (.negSucc 2)] (by decide +kernel) rfl rfl trivial ?_
      exact E_iret rfl (by decide +kernel) h
    · rw [if_neg b19] at h
      refine E_mask [true, true, true, true, true, true, false, false, false, false] rfl ?_
      exact lk_Model_change_j170 hγ this Q v1 v2 v3 v4 v5 M h
  · rw [if_neg b18] at h
    refine E_mask [true, true, true, true, true, true, false, false, false, false] rfl ?_
    exact lk_Model_change_j170 hγ this Q v1 v2 v3 v4 v5 M h
set_option maxRecDepth 4096 in
theorem lk_Model_change_j129 {γ : Gm} (hγ : Gk γ) (this : Nat) (Q : Int32 → Mem → Prop) (v1 : Int32) (v2 : Int32) (v3 : Int32) (v4 : Int32) (v5 : Int32) (v6 : Int32) (M : Mem) (h : w_Model_change_j129 this Q v1 v2 v3 v4 v5 v6 M) : E γ k_Model_change 2 129 [some (vr (some (11, this))), some (vi v1), some (vi v2), some (vi v3), some (vi v4), some (vi v5), some (vi v6), none, none, none] [] M (Qi Q) := by
  unfold w_Model_change_j129 at h
  refine E_blk (lv' := [some (vr (some (11, this))), some (vi v1), some (vi v2), some (vi v3), some (vi v4), some (vi v5), some (vi v6), none, none, none]) (st' := [vi (40 : Int32), vi (mI M 11 this 121)]) (M1 := M) (pc' := 135) (tb_Model hγ) [.aload_n 0, .getfield 1314, .bipush 40] (by decide +kernel) rfl rfl trivial ?_
  refine E_icmp_eq (off := 32) (tgt := 167) (by decide +kernel) (by decide) (fun b16 => ?_) (fun b16 => ?_)
  · rw [if_pos b16] at h
    refine E_blk (lv' := [some (vr (some (11, this))), some (vi v1), some (vi v2), some (vi v3), some (vi v4), some (vi v5), some (vi v6), none, none, none]) (st' := [vi (-3 : Int32)]) (M1 := M) (pc' := 169) (tb_Model hγ) [.bipush (.negSucc 2)] (by decide +kernel) rfl rfl trivial ?_
    exact E_iret rfl (by decide +kernel) h
  · rw [if_neg b16] at h
    refine E_blk (lv' := [some (vr (some (11, this))), some (vi v1), some (vi v2), some (vi v3), some (vi v4), some (vi v5), some (vi v6), none, none, none]) (st' := [vi (1200 : Int32), vi v6]) (M1 := M) (pc' := 143) (tb_Model hγ) [.iload 6, .sipush 1200] (by decide +kernel) rfl rfl trivial ?_
    refine E_icmp_le (off := 12) (tgt := 155) (by decide +kernel) (by decide) (fun b17 => ?_) (fun b17 => ?_)
    · rw [if_pos b17] at h
      refine E_mask [true, true, true, true, true, true, false, false, false, false] rfl ?_
      exact lk_Model_change_j155 hγ this Q v1 v2 v3 v4 v5 M h
    · rw [if_neg b17] at h
      refine E_blk (lv' := [some (vr (some (11, this))), some (vi v1), some (vi v2), some (vi v3), some (vi v4), some (vi v5), some (vi v6), none, none, none]) (st' := [vi v2]) (M1 := M) (pc' := 147) (tb_Model hγ) [.iload_n 2] (by decide +kernel) rfl rfl trivial ?_
      refine E_if_eq (off := 8) (tgt := 155) (by decide +kernel) (by decide) (fun b37 => ?_) (fun b37 => ?_)
      · rw [if_pos b37] at h
        refine E_mask [true, true, true, true, true, true, false, false, false, false] rfl ?_
        exact lk_Model_change_j155 hγ this Q v1 v2 v3 v4 v5 M h
      · rw [if_neg b37] at h
        refine E_blk (lv' := [some (vr (some (11, this))), some (vi v1), some (vi v2), some (vi v3), some (vi v4), some (vi v5), some (vi v6), none, none, none]) (st' := [vi (2 : Int32), vi v2]) (M1 := M) (pc' := 152) (tb_Model hγ) [.iload_n 2, .iconst 2] (by decide +kernel) rfl rfl trivial ?_
        refine E_icmp_ne (off := 15) (tgt := 167) (by decide +kernel) (by decide) (fun b38 => ?_) (fun b38 => ?_)
        · rw [if_pos b38] at h
          refine E_mask [true, true, true, true, true, true, false, false, false, false] rfl ?_
          exact lk_Model_change_j155 hγ this Q v1 v2 v3 v4 v5 M h
        · rw [if_neg b38] at h
          refine E_blk (lv' := [some (vr (some (11, this))), some (vi v1), some (vi v2), some (vi v3), some (vi v4), some (vi v5), some (vi v6), none, none, none]) (st' := [vi (-3 : Int32)]) (M1 := M) (pc' := 169) (tb_Model hγ) [.bipush (.negSucc 2)] (by decide +kernel) rfl rfl trivial ?_
          exact E_iret rfl (by decide +kernel) h
set_option maxRecDepth 4096 in
theorem lk_Model_change_j59 {γ : Gm} (hγ : Gk γ) (this : Nat) (Q : Int32 → Mem → Prop) (v1 : Int32) (v2 : Int32) (v3 : Int32) (v4 : Int32) (v5 : Int32) (M : Mem) (h : w_Model_change_j59 this Q v1 v2 v3 v4 v5 M) : E γ k_Model_change 2 59 [some (vr (some (11, this))), some (vi v1), some (vi v2), some (vi v3), some (vi v4), some (vi v5), none, none, none, none] [] M (Qi Q) := by
  unfold w_Model_change_j59 at h
  obtain ⟨c11, c12, c13, h⟩ := h
  refine E_blk (lv' := [some (vr (some (11, this))), some (vi v1), some (vi v2), some (vi v3), some (vi v4), some (vi v5), some (vi (mI M 122 this v1.toNatClampNeg)), some (vi ((mI M 129 this (v3 + (1 : Int32)).toNatClampNeg) - (mI M 129 this v3.toNatClampNeg))), none, none]) (st' := []) (M1 := M) (pc' := 84) (tb_Model hγ) [.aload_n 0, .getfield 375, .iload_n 1, .iaload, .istore 6, .aload_n 0, .getfield 402, .iload_n 3, .iconst 1, .iadd, .iaload, .aload_n 0, .getfield 402, .iload_n 3, .iaload, .isub, .istore 7] (by decide +kernel) rfl rfl ⟨c11, c12, c13, trivial⟩ ?_
  obtain ⟨x14, ex14, h⟩ := h
  rw [← ex14]
  refine E_blk (lv' := [some (vr (some (11, this))), some (vi v1), some (vi v2), some (vi v3), some (vi v4), some (vi v5), some (vi (mI M 122 this v1.toNatClampNeg)), some (vi x14), none, none]) (st' := [vi (1 : Int32), vi v2]) (M1 := M) (pc' := 86) (tb_Model hγ) [.iload_n 2, .iconst 1] (by decide +kernel) rfl rfl trivial ?_
  refine E_icmp_ne (off := 13) (tgt := 99) (by decide +kernel) (by decide) (fun b15 => ?_) (fun b15 => ?_)
  · rw [if_pos b15] at h
    refine E_blk (lv' := [some (vr (some (11, this))), some (vi v1), some (vi v2), some (vi v3), some (vi v4), some (vi v5), some (vi ((mI M 122 this v1.toNatClampNeg) + x14)), some (vi x14), none, none]) (st' := []) (M1 := M) (pc' := 96) (tb_Model hγ) [.iload 6, .iload 7, .iadd, .istore 6] (by decide +kernel) rfl rfl trivial ?_
    refine E_goto (off := 33) (tgt := 129) (by decide +kernel) (by decide) ?_
    refine E_mask [true, true, true, true, true, true, true, false, false, false] rfl ?_
    exact lk_Model_change_j129 hγ this Q v1 v2 v3 v4 v5 ((mI M 122 this v1.toNatClampNeg) + x14) M h
  · rw [if_neg b15] at h
    refine E_blk (lv' := [some (vr (some (11, this))), some (vi v1), some (vi v2), some (vi v3), some (vi v4), some (vi v5), some (vi (mI M 122 this v1.toNatClampNeg)), some (vi x14), none, none]) (st' := [vi (3 : Int32), vi v2]) (M1 := M) (pc' := 101) (tb_Model hγ) [.iload_n 2, .iconst 3] (by decide +kernel) rfl rfl trivial ?_
    refine E_icmp_ne (off := 28) (tgt := 129) (by decide +kernel) (by decide) (fun b39 => ?_) (fun b39 => ?_)
    · rw [if_pos b39] at h
      obtain ⟨c40, c41, h⟩ := h
      refine E_blk (lv' := [some (vr (some (11, this))), some (vi v1), some (vi v2), some (vi v3), some (vi v4), some (vi v5), some (vi ((mI M 122 this v1.toNatClampNeg) + (((mI M 129 this (v4 + (1 : Int32)).toNatClampNeg) - (mI M 129 this v4.toNatClampNeg)) - x14))), some (vi x14), none, none]) (st' := []) (M1 := M) (pc' := 129) (tb_Model hγ) [.iload 6, .aload_n 0, .getfield 402, .iload 4, .iconst 1, .iadd, .iaload, .aload_n 0, .getfield 402, .iload 4, .iaload, .isub, .iload 7, .isub, .iadd, .istore 6] (by decide +kernel) rfl rfl ⟨c40, c41, trivial⟩ ?_
      obtain ⟨x42, ex42, h⟩ := h
      rw [← ex42]
      refine E_mask [true, true, true, true, true, true, true, false, false, false] rfl ?_
      exact lk_Model_change_j129 hγ this Q v1 v2 v3 v4 v5 x42 M h
    · rw [if_neg b39] at h
      refine E_mask [true, true, true, true, true, true, true, false, false, false] rfl ?_
      exact lk_Model_change_j129 hγ this Q v1 v2 v3 v4 v5 (mI M 122 this v1.toNatClampNeg) M h
set_option maxRecDepth 4096 in
theorem lk_Model_change {γ : Gm} (hγ : Gk γ) (this : Nat) (a1 : Int32) (a2 : Int32) (a3 : Int32) (a4 : Int32) (Q : Int32 → Mem → Prop) (M : Mem) (h : w_Model_change this a1 a2 a3 a4 Q M) : E γ k_Model_change 2 0 [some (vr (some (11, this))), some (vi a1), some (vi a2), some (vi a3), some (vi a4), none, none, none, none, none] [] M (Qi Q) := by
  unfold w_Model_change at h
  refine E_blk (lv' := [some (vr (some (11, this))), some (vi a1), some (vi a2), some (vi a3), some (vi a4), none, none, none, none, none]) (st' := [vi a1, vr (some (11, this))]) (M1 := M) (pc' := 2) (tb_Model hγ) [.aload_n 0, .iload_n 1] (by decide +kernel) rfl rfl trivial ?_
  refine E_callV (κ' := k_Model_isTrial) (As := [vi a1]) (st := []) mv_Model_isTrial (Or.inl (tbk_mem (j := 17) (k := 212) rfl)) rfl (by decide +kernel) (Nat.le_of_ble_eq_true rfl) (Nat.le_of_ble_eq_true rfl) rfl (by decide) (lk_Model_isTrial hγ this a1 _ M h) (fun _ _ => Qi_r) (fun v M1 hp => Qi_k (R := fun st => E γ k_Model_change 2 5 [some (vr (some (11, this))), some (vi a1), some (vi a2), some (vi a3), some (vi a4), none, none, none, none, none] st M1 (Qi Q)) hp (fun r2 h => ?_))
  refine E_if_eq (off := 12) (tgt := 17) (by decide +kernel) (by decide) (fun b3 => ?_) (fun b3 => ?_)
  · rw [if_pos b3] at h
    refine E_blk (lv' := [some (vr (some (11, this))), some (vi a1), some (vi a2), some (vi a3), some (vi a4), none, none, none, none, none]) (st' := [vi (-1 : Int32)]) (M1 := M1) (pc' := 18) (tb_Model hγ) [.iconst (.negSucc 0)] (by decide +kernel) rfl rfl trivial ?_
    exact E_iret rfl (by decide +kernel) h
  · rw [if_neg b3] at h
    refine E_blk (lv' := [some (vr (some (11, this))), some (vi a1), some (vi a2), some (vi a3), some (vi a4), none, none, none, none, none]) (st' := [vi a2]) (M1 := M1) (pc' := 9) (tb_Model hγ) [.iload_n 2] (by decide +kernel) rfl rfl trivial ?_
    refine E_if_lt (off := 8) (tgt := 17) (by decide +kernel) (by decide) (fun b4 => ?_) (fun b4 => ?_)
    · rw [if_pos b4] at h
      refine E_blk (lv' := [some (vr (some (11, this))), some (vi a1), some (vi a2), some (vi a3), some (vi a4), none, none, none, none, none]) (st' := [vi (-1 : Int32)]) (M1 := M1) (pc' := 18) (tb_Model hγ) [.iconst (.negSucc 0)] (by decide +kernel) rfl rfl trivial ?_
      exact E_iret rfl (by decide +kernel) h
    · rw [if_neg b4] at h
      refine E_blk (lv' := [some (vr (some (11, this))), some (vi a1), some (vi a2), some (vi a3), some (vi a4), none, none, none, none, none]) (st' := [vi (3 : Int32), vi a2]) (M1 := M1) (pc' := 14) (tb_Model hγ) [.iload_n 2, .iconst 3] (by decide +kernel) rfl rfl trivial ?_
      refine E_icmp_le (off := 5) (tgt := 19) (by decide +kernel) (by decide) (fun b5 => ?_) (fun b5 => ?_)
      · rw [if_pos b5] at h
        refine E_blk (lv' := [some (vr (some (11, this))), some (vi a1), some (vi a2), some (vi a3), some (vi a4), none, none, none, none, none]) (st' := [vi a1, vr (some (11, this))]) (M1 := M1) (pc' := 21) (tb_Model hγ) [.aload_n 0, .iload_n 1] (by decide +kernel) rfl rfl trivial ?_
        refine E_callV (κ' := k_Model_linesOf) (As := [vi a1]) (st := []) mv_Model_linesOf (Or.inl (tbk_mem (j := 18) (k := 23) rfl)) rfl (by decide +kernel) (Nat.le_of_ble_eq_true rfl) (Nat.le_of_ble_eq_true rfl) rfl (by decide) (lk_Model_linesOf hγ this a1 _ M1 h) (fun _ _ => Qi_r) (fun v M6 hp => Qi_k (R := fun st => E γ k_Model_change 2 24 [some (vr (some (11, this))), some (vi a1), some (vi a2), some (vi a3), some (vi a4), none, none, none, none, none] st M6 (Qi Q)) hp (fun r7 h => ?_))
        refine E_blk (lv' := [some (vr (some (11, this))), some (vi a1), some (vi a2), some (vi a3), some (vi a4), some (vi r7), none, none, none, none]) (st' := [vi a3]) (M1 := M6) (pc' := 27) (tb_Model hγ) [.istore 5, .iload_n 3] (by decide +kernel) rfl rfl trivial ?_
        refine E_if_lt (off := 30) (tgt := 57) (by decide +kernel) (by decide) (fun b8 => ?_) (fun b8 => ?_)
        · rw [if_pos b8] at h
          refine E_blk (lv' := [some (vr (some (11, this))), some (vi a1), some (vi a2), some (vi a3), some (vi a4), some (vi r7), none, none, none, none]) (st' := [vi (-1 : Int32)]) (M1 := M6) (pc' := 58) (tb_Model hγ) [.iconst (.negSucc 0)] (by decide +kernel) rfl rfl trivial ?_
          exact E_iret rfl (by decide +kernel) h
        · rw [if_neg b8] at h
          refine E_blk (lv' := [some (vr (some (11, this))), some (vi a1), some (vi a2), some (vi a3), some (vi a4), some (vi r7), none, none, none, none]) (st' := [vi (r7 - (1 : Int32)), vi a3]) (M1 := M6) (pc' := 35) (tb_Model hγ) [.iload_n 3, .iload 5, .iconst 1, .isub] (by decide +kernel) rfl rfl trivial ?_
          refine E_icmp_ge (off := 22) (tgt := 57) (by decide +kernel) (by decide) (fun b9 => ?_) (fun b9 => ?_)
          · rw [if_pos b9] at h
            refine E_blk (lv' := [some (vr (some (11, this))), some (vi a1), some (vi a2), some (vi a3), some (vi a4), some (vi r7), none, none, none, none]) (st' := [vi (-1 : Int32)]) (M1 := M6) (pc' := 58) (tb_Model hγ) [.iconst (.negSucc 0)] (by decide +kernel) rfl rfl trivial ?_
            exact E_iret rfl (by decide +kernel) h
          · rw [if_neg b9] at h
            refine E_blk (lv' := [some (vr (some (11, this))), some (vi a1), some (vi a2), some (vi a3), some (vi a4), some (vi r7), none, none, none, none]) (st' := [vi (1 : Int32), vi a2]) (M1 := M6) (pc' := 40) (tb_Model hγ) [.iload_n 2, .iconst 1] (by decide +kernel) rfl rfl trivial ?_
            refine E_icmp_le (off := 19) (tgt := 59) (by decide +kernel) (by decide) (fun b10 => ?_) (fun b10 => ?_)
            · rw [if_pos b10] at h
              refine E_mask [true, true, true, true, true, true, false, false, false, false] rfl ?_
              exact lk_Model_change_j59 hγ this Q a1 a2 a3 a4 r7 M6 h
            · rw [if_neg b10] at h
              refine E_blk (lv' := [some (vr (some (11, this))), some (vi a1), some (vi a2), some (vi a3), some (vi a4), some (vi r7), none, none, none, none]) (st' := [vi a4]) (M1 := M6) (pc' := 45) (tb_Model hγ) [.iload 4] (by decide +kernel) rfl rfl trivial ?_
              refine E_if_lt (off := 12) (tgt := 57) (by decide +kernel) (by decide) (fun b43 => ?_) (fun b43 => ?_)
              · rw [if_pos b43] at h
                refine E_blk (lv' := [some (vr (some (11, this))), some (vi a1), some (vi a2), some (vi a3), some (vi a4), some (vi r7), none, none, none, none]) (st' := [vi (-1 : Int32)]) (M1 := M6) (pc' := 58) (tb_Model hγ) [.iconst (.negSucc 0)] (by decide +kernel) rfl rfl trivial ?_
                exact E_iret rfl (by decide +kernel) h
              · rw [if_neg b43] at h
                refine E_blk (lv' := [some (vr (some (11, this))), some (vi a1), some (vi a2), some (vi a3), some (vi a4), some (vi r7), none, none, none, none]) (st' := [vi (r7 - (1 : Int32)), vi a4]) (M1 := M6) (pc' := 54) (tb_Model hγ) [.iload 4, .iload 5, .iconst 1, .isub] (by decide +kernel) rfl rfl trivial ?_
                refine E_icmp_lt (off := 5) (tgt := 59) (by decide +kernel) (by decide) (fun b44 => ?_) (fun b44 => ?_)
                · rw [if_pos b44] at h
                  refine E_mask [true, true, true, true, true, true, false, false, false, false] rfl ?_
                  exact lk_Model_change_j59 hγ this Q a1 a2 a3 a4 r7 M6 h
                · rw [if_neg b44] at h
                  refine E_blk (lv' := [some (vr (some (11, this))), some (vi a1), some (vi a2), some (vi a3), some (vi a4), some (vi r7), none, none, none, none]) (st' := [vi (-1 : Int32)]) (M1 := M6) (pc' := 58) (tb_Model hγ) [.iconst (.negSucc 0)] (by decide +kernel) rfl rfl trivial ?_
                  exact E_iret rfl (by decide +kernel) h
      · rw [if_neg b5] at h
        refine E_blk (lv' := [some (vr (some (11, this))), some (vi a1), some (vi a2), some (vi a3), some (vi a4), none, none, none, none, none]) (st' := [vi (-1 : Int32)]) (M1 := M1) (pc' := 18) (tb_Model hγ) [.iconst (.negSucc 0)] (by decide +kernel) rfl rfl trivial ?_
        exact E_iret rfl (by decide +kernel) h
def w_Model_text (this : Nat) (a1 : Int32) (a2 : Int32) (Q : Int32 → Mem → Prop) (M : Mem) : Prop :=
  w_Model_isTrial this a1 (fun r2 M1 => if r2 = 0 then (Q (-1 : Int32) M1) else (if a2 < 0 then (Q (-1 : Int32) M1) else (vp_in a1 (mL M1 122 this) ∧ if a2 < (mI M1 122 this a1.toNatClampNeg) then (vp_in (((1204 : Int32) * a1) + a2) (mL M1 412 this) ∧ Q ((mI M1 412 this (((1204 : Int32) * a1) + a2).toNatClampNeg) &&& (255 : Int32)) M1) else (Q (-1 : Int32) M1)))) M
set_option maxRecDepth 4096 in
theorem lk_Model_text {γ : Gm} (hγ : Gk γ) (this : Nat) (a1 : Int32) (a2 : Int32) (Q : Int32 → Mem → Prop) (M : Mem) (h : w_Model_text this a1 a2 Q M) : E γ k_Model_text 1 0 [some (vr (some (11, this))), some (vi a1), some (vi a2)] [] M (Qi Q) := by
  unfold w_Model_text at h
  refine E_blk (lv' := [some (vr (some (11, this))), some (vi a1), some (vi a2)]) (st' := [vi a1, vr (some (11, this))]) (M1 := M) (pc' := 2) (tb_Model hγ) [.aload_n 0, .iload_n 1] (by decide +kernel) rfl rfl trivial ?_
  refine E_callV (κ' := k_Model_isTrial) (As := [vi a1]) (st := []) mv_Model_isTrial (Or.inl (tbk_mem (j := 17) (k := 212) rfl)) rfl (by decide +kernel) (Nat.le_of_ble_eq_true rfl) (Nat.le_of_ble_eq_true rfl) rfl (by decide) (lk_Model_isTrial hγ this a1 _ M h) (fun _ _ => Qi_r) (fun v M1 hp => Qi_k (R := fun st => E γ k_Model_text 1 5 [some (vr (some (11, this))), some (vi a1), some (vi a2)] st M1 (Qi Q)) hp (fun r2 h => ?_))
  refine E_if_eq (off := 17) (tgt := 22) (by decide +kernel) (by decide) (fun b3 => ?_) (fun b3 => ?_)
  · rw [if_pos b3] at h
    refine E_blk (lv' := [some (vr (some (11, this))), some (vi a1), some (vi a2)]) (st' := [vi (-1 : Int32)]) (M1 := M1) (pc' := 23) (tb_Model hγ) [.iconst (.negSucc 0)] (by decide +kernel) rfl rfl trivial ?_
    refine E_goto (off := 19) (tgt := 42) (by decide +kernel) (by decide) ?_
    exact E_iret rfl (by decide +kernel) h
  · rw [if_neg b3] at h
    refine E_blk (lv' := [some (vr (some (11, this))), some (vi a1), some (vi a2)]) (st' := [vi a2]) (M1 := M1) (pc' := 9) (tb_Model hγ) [.iload_n 2] (by decide +kernel) rfl rfl trivial ?_
    refine E_if_lt (off := 13) (tgt := 22) (by decide +kernel) (by decide) (fun b4 => ?_) (fun b4 => ?_)
    · rw [if_pos b4] at h
      refine E_blk (lv' := [some (vr (some (11, this))), some (vi a1), some (vi a2)]) (st' := [vi (-1 : Int32)]) (M1 := M1) (pc' := 23) (tb_Model hγ) [.iconst (.negSucc 0)] (by decide +kernel) rfl rfl trivial ?_
      refine E_goto (off := 19) (tgt := 42) (by decide +kernel) (by decide) ?_
      exact E_iret rfl (by decide +kernel) h
    · rw [if_neg b4] at h
      obtain ⟨c5, h⟩ := h
      refine E_blk (lv' := [some (vr (some (11, this))), some (vi a1), some (vi a2)]) (st' := [vi (mI M1 122 this a1.toNatClampNeg), vi a2]) (M1 := M1) (pc' := 19) (tb_Model hγ) [.iload_n 2, .aload_n 0, .getfield 375, .iload_n 1, .iaload] (by decide +kernel) rfl rfl ⟨c5, trivial⟩ ?_
      refine E_icmp_lt (off := 7) (tgt := 26) (by decide +kernel) (by decide) (fun b6 => ?_) (fun b6 => ?_)
      · rw [if_pos b6] at h
        obtain ⟨c7, h⟩ := h
        refine E_blk (lv' := [some (vr (some (11, this))), some (vi a1), some (vi a2)]) (st' := [vi ((mI M1 412 this (((1204 : Int32) * a1) + a2).toNatClampNeg) &&& (255 : Int32))]) (M1 := M1) (pc' := 42) (tb_Model hγ) [.aload_n 0, .getfield 372, .sipush 1204, .iload_n 1, .imul, .iload_n 2, .iadd, .baload, .sipush 255, .iand] (by decide +kernel) rfl rfl ⟨c7, trivial⟩ ?_
        exact E_iret rfl (by decide +kernel) h
      · rw [if_neg b6] at h
        refine E_blk (lv' := [some (vr (some (11, this))), some (vi a1), some (vi a2)]) (st' := [vi (-1 : Int32)]) (M1 := M1) (pc' := 23) (tb_Model hγ) [.iconst (.negSucc 0)] (by decide +kernel) rfl rfl trivial ?_
        refine E_goto (off := 19) (tgt := 42) (by decide +kernel) (by decide) ?_
        exact E_iret rfl (by decide +kernel) h
def w_Model_count (this : Nat) (a1 : Int32) (Q : Int32 → Mem → Prop) (M : Mem) : Prop :=
  if a1 = 0 then (Q (mI M 11 this 121) M) else (if a1 = (1 : Int32) then (Q ((60000 : Int32) - (mI M 11 this 93)) M) else (if a1 = (2 : Int32) then (Q (mI M 11 this 85) M) else (Q (-1 : Int32) M)))
set_option maxRecDepth 4096 in
theorem lk_Model_count {γ : Gm} (hγ : Gk γ) (this : Nat) (a1 : Int32) (Q : Int32 → Mem → Prop) (M : Mem) (h : w_Model_count this a1 Q M) : E γ k_Model_count 0 0 [some (vr (some (11, this))), some (vi a1)] [] M (Qi Q) := by
  unfold w_Model_count at h
  refine E_blk (lv' := [some (vr (some (11, this))), some (vi a1)]) (st' := [vi a1]) (M1 := M) (pc' := 1) (tb_Model hγ) [.iload_n 1] (by decide +kernel) rfl rfl trivial ?_
  refine E_if_ne (off := 10) (tgt := 11) (by decide +kernel) (by decide) (fun b1 => ?_) (fun b1 => ?_)
  · rw [if_pos b1] at h
    refine E_blk (lv' := [some (vr (some (11, this))), some (vi a1)]) (st' := [vi (mI M 11 this 121)]) (M1 := M) (pc' := 8) (tb_Model hγ) [.aload_n 0, .getfield 1314] (by decide +kernel) rfl rfl trivial ?_
    refine E_goto (off := 32) (tgt := 40) (by decide +kernel) (by decide) ?_
    exact E_iret rfl (by decide +kernel) h
  · rw [if_neg b1] at h
    refine E_blk (lv' := [some (vr (some (11, this))), some (vi a1)]) (st' := [vi (1 : Int32), vi a1]) (M1 := M) (pc' := 13) (tb_Model hγ) [.iload_n 1, .iconst 1] (by decide +kernel) rfl rfl trivial ?_
    refine E_icmp_ne (off := 14) (tgt := 27) (by decide +kernel) (by decide) (fun b2 => ?_) (fun b2 => ?_)
    · rw [if_pos b2] at h
      refine E_blk (lv' := [some (vr (some (11, this))), some (vi a1)]) (st' := [vi ((60000 : Int32) - (mI M 11 this 93))]) (M1 := M) (pc' := 24) (tb_Model hγ) [.ldc_w 1163, .aload_n 0, .getfield 1164, .isub] (by decide +kernel) rfl rfl trivial ?_
      refine E_goto (off := 16) (tgt := 40) (by decide +kernel) (by decide) ?_
      exact E_iret rfl (by decide +kernel) h
    · rw [if_neg b2] at h
      refine E_blk (lv' := [some (vr (some (11, this))), some (vi a1)]) (st' := [vi (2 : Int32), vi a1]) (M1 := M) (pc' := 29) (tb_Model hγ) [.iload_n 1, .iconst 2] (by decide +kernel) rfl rfl trivial ?_
      refine E_icmp_ne (off := 10) (tgt := 39) (by decide +kernel) (by decide) (fun b3 => ?_) (fun b3 => ?_)
      · rw [if_pos b3] at h
        refine E_blk (lv' := [some (vr (some (11, this))), some (vi a1)]) (st' := [vi (mI M 11 this 85)]) (M1 := M) (pc' := 36) (tb_Model hγ) [.aload_n 0, .getfield 1112] (by decide +kernel) rfl rfl trivial ?_
        refine E_goto (off := 4) (tgt := 40) (by decide +kernel) (by decide) ?_
        exact E_iret rfl (by decide +kernel) h
      · rw [if_neg b3] at h
        refine E_blk (lv' := [some (vr (some (11, this))), some (vi a1)]) (st' := [vi (-1 : Int32)]) (M1 := M) (pc' := 40) (tb_Model hγ) [.iconst (.negSucc 0)] (by decide +kernel) rfl rfl trivial ?_
        exact E_iret rfl (by decide +kernel) h
