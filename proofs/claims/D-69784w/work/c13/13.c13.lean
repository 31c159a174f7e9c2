def k_Model_act : Kp := (⟨"ClassWorksModel", "act", "(III)V"⟩, prog_13_method_79_code, 10, none, [])
theorem mv_Model_act : MV k_Model_act 11 3 := ⟨⟨_, rfl, rfl⟩, by decide, (tbk_mem (j := 16) (k := 5) rfl), Or.inr ⟨(tbk_mem (j := 16) (k := 4) rfl), 131, (tbk_mem (j := 11) (k := 41) rfl)⟩, Or.inl ⟨rfl, (tbk_mem (j := 16) (k := 6) rfl)⟩, ⟨by decide, by decide⟩, by decide +kernel, by decide +kernel, by decide⟩
def k_Model_goesTo : Kp := (⟨"ClassWorksModel", "goesTo", "(I)I"⟩, prog_13_method_68_code, 3, some (.int), [])
theorem mv_Model_goesTo : MV k_Model_goesTo 11 1 := ⟨⟨_, rfl, rfl⟩, by decide, (tbk_mem (j := 16) (k := 13) rfl), Or.inr ⟨(tbk_mem (j := 16) (k := 12) rfl), 131, (tbk_mem (j := 11) (k := 41) rfl)⟩, Or.inl ⟨rfl, (tbk_mem (j := 16) (k := 14) rfl)⟩, ⟨by decide, by decide⟩, by decide +kernel, by decide +kernel, by decide⟩
def k_Model_checkOne : Kp := (⟨"ClassWorksModel", "checkOne", "(IZ)I"⟩, prog_13_method_72_code, 8, some (.int), [])
theorem mv_Model_checkOne : MV k_Model_checkOne 11 2 := ⟨⟨_, rfl, rfl⟩, by decide, (tbk_mem (j := 15) (k := 179) rfl), Or.inr ⟨(tbk_mem (j := 15) (k := 178) rfl), 131, (tbk_mem (j := 11) (k := 41) rfl)⟩, Or.inl ⟨rfl, (tbk_mem (j := 15) (k := 180) rfl)⟩, ⟨by decide, by decide⟩, by decide +kernel, by decide +kernel, by decide⟩
def k_Model_check : Kp := (⟨"ClassWorksModel", "check", "(II)I"⟩, prog_13_method_71_code, 5, some (.int), [])
theorem mv_Model_check : MV k_Model_check 11 2 := ⟨⟨_, rfl, rfl⟩, by decide, (tbk_mem (j := 15) (k := 171) rfl), Or.inr ⟨(tbk_mem (j := 15) (k := 170) rfl), 131, (tbk_mem (j := 11) (k := 41) rfl)⟩, Or.inl ⟨rfl, (tbk_mem (j := 15) (k := 172) rfl)⟩, ⟨by decide, by decide⟩, by decide +kernel, by decide +kernel, by decide⟩
def k_Model_linkCode : Kp := (⟨"ClassWorksModel", "linkCode", "(I)I"⟩, prog_13_method_58_code, 8, some (.int), [])
theorem mv_Model_linkCode : MV k_Model_linkCode 11 1 := ⟨⟨_, rfl, rfl⟩, by decide, (tbk_mem (j := 15) (k := 151) rfl), Or.inr ⟨(tbk_mem (j := 15) (k := 150) rfl), 131, (tbk_mem (j := 11) (k := 41) rfl)⟩, Or.inl ⟨rfl, (tbk_mem (j := 15) (k := 152) rfl)⟩, ⟨by decide, by decide⟩, by decide +kernel, by decide +kernel, by decide⟩
def k_Model_isLinked : Kp := (⟨"ClassWorksModel", "isLinked", "(I)Z"⟩, prog_13_method_57_code, 3, some (.boolean), [])
theorem mv_Model_isLinked : MV k_Model_isLinked 11 1 := ⟨⟨_, rfl, rfl⟩, by decide, (tbk_mem (j := 15) (k := 147) rfl), Or.inr ⟨(tbk_mem (j := 15) (k := 146) rfl), 131, (tbk_mem (j := 11) (k := 41) rfl)⟩, Or.inl ⟨rfl, (tbk_mem (j := 15) (k := 148) rfl)⟩, ⟨by decide, by decide⟩, by decide +kernel, by decide +kernel, by decide⟩
def k_Model_fails : Kp := (⟨"ClassWorksModel", "fails", "(II)I"⟩, prog_13_method_80_code, 3, some (.int), [])
theorem mv_Model_fails : MV k_Model_fails 11 2 := ⟨⟨_, rfl, rfl⟩, by decide, (tbk_mem (j := 16) (k := 89) rfl), Or.inr ⟨(tbk_mem (j := 16) (k := 88) rfl), 131, (tbk_mem (j := 11) (k := 41) rfl)⟩, Or.inl ⟨rfl, (tbk_mem (j := 16) (k := 90) rfl)⟩, ⟨by decide, by decide⟩, by decide +kernel, by decide +kernel, by decide⟩
def k_Model_findLinked : Kp := (⟨"ClassWorksModel", "findLinked", "(I)I"⟩, prog_13_method_81_code, 3, some (.int), [])
theorem mv_Model_findLinked : MV k_Model_findLinked 11 1 := ⟨⟨_, rfl, rfl⟩, by decide, (tbk_mem (j := 16) (k := 85) rfl), Or.inr ⟨(tbk_mem (j := 16) (k := 84) rfl), 131, (tbk_mem (j := 11) (k := 41) rfl)⟩, Or.inl ⟨rfl, (tbk_mem (j := 16) (k := 86) rfl)⟩, ⟨by decide, by decide⟩, by decide +kernel, by decide +kernel, by decide⟩
def k_Model_fieldByFaces : Kp := (⟨"ClassWorksModel", "fieldByFaces", "(III)I"⟩, prog_13_method_82_code, 7, some (.int), [])
theorem mv_Model_fieldByFaces : MV k_Model_fieldByFaces 11 3 := ⟨⟨_, rfl, rfl⟩, by decide, (tbk_mem (j := 16) (k := 165) rfl), Or.inr ⟨(tbk_mem (j := 16) (k := 164) rfl), 131, (tbk_mem (j := 11) (k := 41) rfl)⟩, Or.inl ⟨rfl, (tbk_mem (j := 16) (k := 166) rfl)⟩, ⟨by decide, by decide⟩, by decide +kernel, by decide +kernel, by decide⟩
def k_Model_findField : Kp := (⟨"ClassWorksModel", "findField", "(III)I"⟩, prog_13_method_83_code, 11, some (.int), [])
theorem mv_Model_findField : MV k_Model_findField 11 3 := ⟨⟨_, rfl, rfl⟩, by decide, (tbk_mem (j := 16) (k := 161) rfl), Or.inr ⟨(tbk_mem (j := 16) (k := 160) rfl), 131, (tbk_mem (j := 11) (k := 41) rfl)⟩, Or.inl ⟨rfl, (tbk_mem (j := 16) (k := 162) rfl)⟩, ⟨by decide, by decide⟩, by decide +kernel, by decide +kernel, by decide⟩
def w_Model_act_j364 (this : Nat) (Q : Mem → Prop) (s0 : Int32) (M : Mem) : Prop :=
  w_Model_lay this s0 (fun M71 => Q M71) M
def w_Model_act_j643 (this : Nat) (Q : Mem → Prop) (v2 : Int32) (M : Mem) : Prop :=
  ∃ i74, (mR M 11 this 32) = some (300, i74) ∧ ∃ i75, (mR M 11 this 45) = some (12, i75) ∧ ∃ i76, (mR M 12 i75 33) = some (300, i76) ∧ vp_in v2 (mL M 300 i76) ∧ vp_in (mI M 300 i76 v2.toNatClampNeg) (mL M 300 i74) ∧ if (mI M 300 i74 (mI M 300 i76 v2.toNatClampNeg).toNatClampNeg) = 0 then (Q M) else (∃ i80, (mR M 11 this 32) = some (300, i80) ∧ ∃ i81, (mR M 11 this 45) = some (12, i81) ∧ ∃ i82, (mR M 12 i81 33) = some (300, i82) ∧ vp_in v2 (mL M 300 i82) ∧ vp_in (mI M 300 i82 v2.toNatClampNeg) (mL M 300 i80) ∧ w_Model_lay this (mI M 300 i80 (mI M 300 i82 v2.toNatClampNeg).toNatClampNeg) (fun M85 => Q M85) M)
def w_Model_act_j636 (this : Nat) (Q : Mem → Prop) (k597 : Int32 → Int32 → Int32 → Int32 → Mem → Prop) (v2 : Int32) (v7 : Int32) (v8 : Int32) (v9 : Int32) (s0 : Int32) (s1 : Int32) (s2 : Nat) (M : Mem) : Prop :=
  vp_in s1 (mL M 212 s2) ∧ k597 v2 v7 v8 (v9 + (1 : Int32)) (sI M 212 s2 s1.toNatClampNeg s0)
def w_Model_act_L597 (this : Nat) (Q : Mem → Prop) : Nat → Int32 → Int32 → Int32 → Int32 → Mem → Prop
  | 0, _, _, _, _, _ => False
  | n + 1, v2, v7, v8, v9, M => if (mI M 11 this 72) ≤ v9 then (w_Model_act_j643 this Q v2 M) else (vp_in v9 (mL M 212 0) ∧ if (mI M 212 0 v9.toNatClampNeg) = v7 then (w_Model_act_j636 this Q (w_Model_act_L597 this Q n) v2 v7 v8 v9 v8 v9 0 M) else (vp_in v9 (mL M 212 0) ∧ w_Model_act_j636 this Q (w_Model_act_L597 this Q n) v2 v7 v8 v9 (mI M 212 0 v9.toNatClampNeg) v9 0 M))
def w_Model_act_j587 (this : Nat) (Q : Mem → Prop) (k540 : Int32 → Int32 → Int32 → Int32 → Mem → Prop) (v2 : Int32) (v7 : Int32) (v8 : Int32) (v9 : Int32) (s0 : Int32) (s1 : Int32) (M : Mem) : Prop :=
  vp_in s1 (mL M 111 this) ∧ k540 v2 v7 v8 (v9 + (1 : Int32)) (sI M 111 this s1.toNatClampNeg s0)
def w_Model_act_L540 (this : Nat) (Q : Mem → Prop) : Nat → Int32 → Int32 → Int32 → Int32 → Mem → Prop
  | 0, _, _, _, _, _ => False
  | n + 1, v2, v7, v8, v9, M => ∃ i89, (mR M 11 this 45) = some (12, i89) ∧ vp_in (mI M 11 this 75) (mL M 148 i89) ∧ if (mI M 148 i89 (mI M 11 this 75).toNatClampNeg) ≤ v9 then (∃ n97 : Nat, w_Model_act_L597 this Q n97 v2 v7 v8 (0 : Int32) M) else (vp_in v9 (mL M 111 this) ∧ if (mI M 111 this v9.toNatClampNeg) = v7 then (w_Model_act_j587 this Q (w_Model_act_L540 this Q n) v2 v7 v8 v9 v8 v9 M) else (vp_in v9 (mL M 111 this) ∧ w_Model_act_j587 this Q (w_Model_act_L540 this Q n) v2 v7 v8 v9 (mI M 111 this v9.toNatClampNeg) v9 M))
def w_Model_act_j534 (this : Nat) (Q : Mem → Prop) (v2 : Int32) (v7 : Int32) (s0 : Int32) (s1 : Int32) (M : Mem) : Prop :=
  ∃ n102 : Nat, w_Model_act_L540 this Q n102 v2 v7 (s1 + s0) (0 : Int32) M
def w_Model_act_j100 (this : Nat) (Q : Mem → Prop) (v1 : Int32) (v2 : Int32) (v3 : Int32) (v4 : Int32) (v5 : Int32) (v6 : Int32) (s0 : Int32) (M : Mem) : Prop :=
  if v1 = (1 : Int32) then (if v1 = (42 : Int32) then (w_Model_act_j364 this Q (2 : Int32) (sI M 11 this 72 ((mI M 11 this 72) - (mI M 11 this 79)))) else (w_Model_act_j364 this Q (1 : Int32) (sI M 11 this 72 ((mI M 11 this 72) - (mI M 11 this 79))))) else (if v1 = (2 : Int32) then (w_Model_lay this (3 : Int32) (fun M243 => Q M243) (sI M 11 this 72 ((mI M 11 this 72) - (mI M 11 this 79)))) else (if v1 = (3 : Int32) then (if v1 = (42 : Int32) then (w_Model_act_j364 this Q (2 : Int32) (sI M 11 this 72 ((mI M 11 this 72) - (mI M 11 this 79)))) else (w_Model_act_j364 this Q (1 : Int32) (sI M 11 this 72 ((mI M 11 this 72) - (mI M 11 this 79))))) else (if v1 = (4 : Int32) then (vp_in v4 (mL (sI M 11 this 72 ((mI M 11 this 72) - (mI M 11 this 79))) 111 this) ∧ w_Model_lay this (mI (sI M 11 this 72 ((mI M 11 this 72) - (mI M 11 this 79))) 111 this v4.toNatClampNeg) (fun M241 => Q M241) (sI M 11 this 72 ((mI M 11 this 72) - (mI M 11 this 79)))) else (if v1 = (5 : Int32) then (vp_in v4 (mL (sI M 11 this 72 ((mI M 11 this 72) - (mI M 11 this 79))) 111 this) ∧ ∃ M239, M239 = (sI (sI M 11 this 72 ((mI M 11 this 72) - (mI M 11 this 79))) 111 this v4.toNatClampNeg (1 : Int32)) ∧ Q M239) else (if v1 = (6 : Int32) then (vp_in v4 (mL (sI M 11 this 72 ((mI M 11 this 72) - (mI M 11 this 79))) 111 this) ∧ ∃ M237, M237 = (sI (sI M 11 this 72 ((mI M 11 this 72) - (mI M 11 this 79))) 111 this v4.toNatClampNeg v5) ∧ Q M237) else (if v1 = (7 : Int32) then (if v1 < (8 : Int32) then (Q (sI M 11 this 72 ((mI M 11 this 72) - (mI M 11 this 79)))) else (if (18 : Int32) < v1 then (Q (sI M 11 this 72 ((mI M 11 this 72) - (mI M 11 this 79)))) else (w_Model_lay this (1 : Int32) (fun M235 => Q M235) (sI M 11 this 72 ((mI M 11 this 72) - (mI M 11 this 79)))))) else (if v1 = (8 : Int32) then (if v1 < (8 : Int32) then (Q (sI M 11 this 72 ((mI M 11 this 72) - (mI M 11 this 79)))) else (if (18 : Int32) < v1 then (Q (sI M 11 this 72 ((mI M 11 this 72) - (mI M 11 this 79)))) else (w_Model_lay this (1 : Int32) (fun M232 => Q M232) (sI M 11 this 72 ((mI M 11 this 72) - (mI M 11 this 79)))))) else (if v1 = (9 : Int32) then (if v1 < (8 : Int32) then (Q (sI M 11 this 72 ((mI M 11 this 72) - (mI M 11 this 79)))) else (if (18 : Int32) < v1 then (Q (sI M 11 this 72 ((mI M 11 this 72) - (mI M 11 this 79)))) else (w_Model_lay this (1 : Int32) (fun M229 => Q M229) (sI M 11 this 72 ((mI M 11 this 72) - (mI M 11 this 79)))))) else (if v1 = (10 : Int32) then (if v1 < (8 : Int32) then (Q (sI M 11 this 72 ((mI M 11 this 72) - (mI M 11 this 79)))) else (if (18 : Int32) < v1 then (Q (sI M 11 this 72 ((mI M 11 this 72) - (mI M 11 this 79)))) else (w_Model_lay this (1 : Int32) (fun M226 => Q M226) (sI M 11 this 72 ((mI M 11 this 72) - (mI M 11 this 79)))))) else (if v1 = (11 : Int32) then (if v1 < (8 : Int32) then (Q (sI M 11 this 72 ((mI M 11 this 72) - (mI M 11 this 79)))) else (if (18 : Int32) < v1 then (Q (sI M 11 this 72 ((mI M 11 this 72) - (mI M 11 this 79)))) else (w_Model_lay this (1 : Int32) (fun M223 => Q M223) (sI M 11 this 72 ((mI M 11 this 72) - (mI M 11 this 79)))))) else (if v1 = (12 : Int32) then (if v1 < (8 : Int32) then (Q (sI M 11 this 72 ((mI M 11 this 72) - (mI M 11 this 79)))) else (if (18 : Int32) < v1 then (Q (sI M 11 this 72 ((mI M 11 this 72) - (mI M 11 this 79)))) else (w_Model_lay this (1 : Int32) (fun M220 => Q M220) (sI M 11 this 72 ((mI M 11 this 72) - (mI M 11 this 79)))))) else (if v1 = (13 : Int32) then (if v1 < (8 : Int32) then (Q (sI M 11 this 72 ((mI M 11 this 72) - (mI M 11 this 79)))) else (if (18 : Int32) < v1 then (Q (sI M 11 this 72 ((mI M 11 this 72) - (mI M 11 this 79)))) else (w_Model_lay this (1 : Int32) (fun M217 => Q M217) (sI M 11 this 72 ((mI M 11 this 72) - (mI M 11 this 79)))))) else (if v1 = (14 : Int32) then (if v1 < (8 : Int32) then (Q (sI M 11 this 72 ((mI M 11 this 72) - (mI M 11 this 79)))) else (if (18 : Int32) < v1 then (Q (sI M 11 this 72 ((mI M 11 this 72) - (mI M 11 this 79)))) else (w_Model_lay this (1 : Int32) (fun M214 => Q M214) (sI M 11 this 72 ((mI M 11 this 72) - (mI M 11 this 79)))))) else (if v1 = (15 : Int32) then (if v1 < (8 : Int32) then (Q (sI M 11 this 72 ((mI M 11 this 72) - (mI M 11 this 79)))) else (if (18 : Int32) < v1 then (Q (sI M 11 this 72 ((mI M 11 this 72) - (mI M 11 this 79)))) else (w_Model_lay this (1 : Int32) (fun M211 => Q M211) (sI M 11 this 72 ((mI M 11 this 72) - (mI M 11 this 79)))))) else (if v1 = (16 : Int32) then (if v1 < (8 : Int32) then (Q (sI M 11 this 72 ((mI M 11 this 72) - (mI M 11 this 79)))) else (if (18 : Int32) < v1 then (Q (sI M 11 this 72 ((mI M 11 this 72) - (mI M 11 this 79)))) else (w_Model_lay this (1 : Int32) (fun M208 => Q M208) (sI M 11 this 72 ((mI M 11 this 72) - (mI M 11 this 79)))))) else (if v1 = (17 : Int32) then (if v1 < (8 : Int32) then (Q (sI M 11 this 72 ((mI M 11 this 72) - (mI M 11 this 79)))) else (if (18 : Int32) < v1 then (Q (sI M 11 this 72 ((mI M 11 this 72) - (mI M 11 this 79)))) else (w_Model_lay this (1 : Int32) (fun M205 => Q M205) (sI M 11 this 72 ((mI M 11 this 72) - (mI M 11 this 79)))))) else (if v1 = (18 : Int32) then (if v1 < (8 : Int32) then (Q (sI M 11 this 72 ((mI M 11 this 72) - (mI M 11 this 79)))) else (if (18 : Int32) < v1 then (Q (sI M 11 this 72 ((mI M 11 this 72) - (mI M 11 this 79)))) else (w_Model_lay this (1 : Int32) (fun M202 => Q M202) (sI M 11 this 72 ((mI M 11 this 72) - (mI M 11 this 79)))))) else (if v1 = (19 : Int32) then (if v1 < (8 : Int32) then (Q (sI M 11 this 72 ((mI M 11 this 72) - (mI M 11 this 79)))) else (if (18 : Int32) < v1 then (Q (sI M 11 this 72 ((mI M 11 this 72) - (mI M 11 this 79)))) else (w_Model_lay this (1 : Int32) (fun M199 => Q M199) (sI M 11 this 72 ((mI M 11 this 72) - (mI M 11 this 79)))))) else (if v1 = (20 : Int32) then (w_Model_lay this v5 (fun M195 => w_Model_lay this v5 (fun M196 => Q M196) M195) (sI M 11 this 72 ((mI M 11 this 72) - (mI M 11 this 79)))) else (if v1 = (21 : Int32) then (w_Model_lay this v5 (fun M192 => w_Model_lay this v6 (fun M193 => w_Model_lay this v5 (fun M194 => Q M194) M193) M192) (sI M 11 this 72 ((mI M 11 this 72) - (mI M 11 this 79)))) else (if v1 = (22 : Int32) then (w_Model_lay this v5 (fun M190 => w_Model_lay this v6 (fun M191 => Q M191) M190) (sI M 11 this 72 ((mI M 11 this 72) - (mI M 11 this 79)))) else (if v1 = (23 : Int32) then (if v1 < (8 : Int32) then (Q (sI M 11 this 72 ((mI M 11 this 72) - (mI M 11 this 79)))) else (if (18 : Int32) < v1 then (Q (sI M 11 this 72 ((mI M 11 this 72) - (mI M 11 this 79)))) else (w_Model_lay this (1 : Int32) (fun M189 => Q M189) (sI M 11 this 72 ((mI M 11 this 72) - (mI M 11 this 79)))))) else (if v1 = (24 : Int32) then (if v1 < (8 : Int32) then (Q (sI M 11 this 72 ((mI M 11 this 72) - (mI M 11 this 79)))) else (if (18 : Int32) < v1 then (Q (sI M 11 this 72 ((mI M 11 this 72) - (mI M 11 this 79)))) else (w_Model_lay this (1 : Int32) (fun M186 => Q M186) (sI M 11 this 72 ((mI M 11 this 72) - (mI M 11 this 79)))))) else (if v1 = (25 : Int32) then (if v1 < (8 : Int32) then (Q (sI M 11 this 72 ((mI M 11 this 72) - (mI M 11 this 79)))) else (if (18 : Int32) < v1 then (Q (sI M 11 this 72 ((mI M 11 this 72) - (mI M 11 this 79)))) else (w_Model_lay this (1 : Int32) (fun M183 => Q M183) (sI M 11 this 72 ((mI M 11 this 72) - (mI M 11 this 79)))))) else (if v1 = (26 : Int32) then (if v1 < (8 : Int32) then (Q (sI M 11 this 72 ((mI M 11 this 72) - (mI M 11 this 79)))) else (if (18 : Int32) < v1 then (Q (sI M 11 this 72 ((mI M 11 this 72) - (mI M 11 this 79)))) else (w_Model_lay this (1 : Int32) (fun M180 => Q M180) (sI M 11 this 72 ((mI M 11 this 72) - (mI M 11 this 79)))))) else (if v1 = (27 : Int32) then (if v1 < (8 : Int32) then (Q (sI M 11 this 72 ((mI M 11 this 72) - (mI M 11 this 79)))) else (if (18 : Int32) < v1 then (Q (sI M 11 this 72 ((mI M 11 this 72) - (mI M 11 this 79)))) else (w_Model_lay this (1 : Int32) (fun M177 => Q M177) (sI M 11 this 72 ((mI M 11 this 72) - (mI M 11 this 79)))))) else (if v1 = (28 : Int32) then (if v1 < (8 : Int32) then (Q (sI M 11 this 72 ((mI M 11 this 72) - (mI M 11 this 79)))) else (if (18 : Int32) < v1 then (Q (sI M 11 this 72 ((mI M 11 this 72) - (mI M 11 this 79)))) else (w_Model_lay this (1 : Int32) (fun M174 => Q M174) (sI M 11 this 72 ((mI M 11 this 72) - (mI M 11 this 79)))))) else (if v1 = (29 : Int32) then (if v1 < (8 : Int32) then (Q (sI M 11 this 72 ((mI M 11 this 72) - (mI M 11 this 79)))) else (if (18 : Int32) < v1 then (Q (sI M 11 this 72 ((mI M 11 this 72) - (mI M 11 this 79)))) else (w_Model_lay this (1 : Int32) (fun M171 => Q M171) (sI M 11 this 72 ((mI M 11 this 72) - (mI M 11 this 79)))))) else (if v1 = (30 : Int32) then (if v1 < (8 : Int32) then (Q (sI M 11 this 72 ((mI M 11 this 72) - (mI M 11 this 79)))) else (if (18 : Int32) < v1 then (Q (sI M 11 this 72 ((mI M 11 this 72) - (mI M 11 this 79)))) else (w_Model_lay this (1 : Int32) (fun M168 => Q M168) (sI M 11 this 72 ((mI M 11 this 72) - (mI M 11 this 79)))))) else (if v1 = (31 : Int32) then (if v1 < (8 : Int32) then (Q (sI M 11 this 72 ((mI M 11 this 72) - (mI M 11 this 79)))) else (if (18 : Int32) < v1 then (Q (sI M 11 this 72 ((mI M 11 this 72) - (mI M 11 this 79)))) else (w_Model_lay this (1 : Int32) (fun M165 => Q M165) (sI M 11 this 72 ((mI M 11 this 72) - (mI M 11 this 79)))))) else (if v1 = (32 : Int32) then (if v1 < (8 : Int32) then (Q (sI M 11 this 72 ((mI M 11 this 72) - (mI M 11 this 79)))) else (if (18 : Int32) < v1 then (Q (sI M 11 this 72 ((mI M 11 this 72) - (mI M 11 this 79)))) else (w_Model_lay this (1 : Int32) (fun M162 => Q M162) (sI M 11 this 72 ((mI M 11 this 72) - (mI M 11 this 79)))))) else (if v1 = (33 : Int32) then (if v1 < (8 : Int32) then (Q (sI M 11 this 72 ((mI M 11 this 72) - (mI M 11 this 79)))) else (if (18 : Int32) < v1 then (Q (sI M 11 this 72 ((mI M 11 this 72) - (mI M 11 this 79)))) else (w_Model_lay this (1 : Int32) (fun M159 => Q M159) (sI M 11 this 72 ((mI M 11 this 72) - (mI M 11 this 79)))))) else (if v1 = (34 : Int32) then (if v1 < (8 : Int32) then (Q (sI M 11 this 72 ((mI M 11 this 72) - (mI M 11 this 79)))) else (if (18 : Int32) < v1 then (Q (sI M 11 this 72 ((mI M 11 this 72) - (mI M 11 this 79)))) else (w_Model_lay this (1 : Int32) (fun M156 => Q M156) (sI M 11 this 72 ((mI M 11 this 72) - (mI M 11 this 79)))))) else (if v1 = (35 : Int32) then (if v1 < (8 : Int32) then (Q (sI M 11 this 72 ((mI M 11 this 72) - (mI M 11 this 79)))) else (if (18 : Int32) < v1 then (Q (sI M 11 this 72 ((mI M 11 this 72) - (mI M 11 this 79)))) else (w_Model_lay this (1 : Int32) (fun M153 => Q M153) (sI M 11 this 72 ((mI M 11 this 72) - (mI M 11 this 79)))))) else (if v1 = (36 : Int32) then (if v1 < (8 : Int32) then (Q (sI M 11 this 72 ((mI M 11 this 72) - (mI M 11 this 79)))) else (if (18 : Int32) < v1 then (Q (sI M 11 this 72 ((mI M 11 this 72) - (mI M 11 this 79)))) else (w_Model_lay this (1 : Int32) (fun M150 => Q M150) (sI M 11 this 72 ((mI M 11 this 72) - (mI M 11 this 79)))))) else (if v1 = (37 : Int32) then (if v1 < (8 : Int32) then (Q (sI M 11 this 72 ((mI M 11 this 72) - (mI M 11 this 79)))) else (if (18 : Int32) < v1 then (Q (sI M 11 this 72 ((mI M 11 this 72) - (mI M 11 this 79)))) else (w_Model_lay this (1 : Int32) (fun M147 => Q M147) (sI M 11 this 72 ((mI M 11 this 72) - (mI M 11 this 79)))))) else (if v1 = (38 : Int32) then (if v1 < (8 : Int32) then (Q (sI M 11 this 72 ((mI M 11 this 72) - (mI M 11 this 79)))) else (if (18 : Int32) < v1 then (Q (sI M 11 this 72 ((mI M 11 this 72) - (mI M 11 this 79)))) else (w_Model_lay this (1 : Int32) (fun M144 => Q M144) (sI M 11 this 72 ((mI M 11 this 72) - (mI M 11 this 79)))))) else (if v1 = (39 : Int32) then (if v1 < (8 : Int32) then (Q (sI M 11 this 72 ((mI M 11 this 72) - (mI M 11 this 79)))) else (if (18 : Int32) < v1 then (Q (sI M 11 this 72 ((mI M 11 this 72) - (mI M 11 this 79)))) else (w_Model_lay this (1 : Int32) (fun M141 => Q M141) (sI M 11 this 72 ((mI M 11 this 72) - (mI M 11 this 79)))))) else (if v1 = (40 : Int32) then (if v1 < (8 : Int32) then (Q (sI M 11 this 72 ((mI M 11 this 72) - (mI M 11 this 79)))) else (if (18 : Int32) < v1 then (Q (sI M 11 this 72 ((mI M 11 this 72) - (mI M 11 this 79)))) else (w_Model_lay this (1 : Int32) (fun M138 => Q M138) (sI M 11 this 72 ((mI M 11 this 72) - (mI M 11 this 79)))))) else (if v1 = (41 : Int32) then (w_Model_lay this ((-1 : Int32) - v3) (fun M135 => Q M135) (sI M 11 this 72 ((mI M 11 this 72) - (mI M 11 this 79)))) else (if v1 = (42 : Int32) then (if v1 = (42 : Int32) then (w_Model_act_j364 this Q (2 : Int32) (sI M 11 this 72 ((mI M 11 this 72) - (mI M 11 this 79)))) else (w_Model_act_j364 this Q (1 : Int32) (sI M 11 this 72 ((mI M 11 this 72) - (mI M 11 this 79))))) else (if v1 = (43 : Int32) then (if v1 = (42 : Int32) then (w_Model_act_j364 this Q (2 : Int32) (sI M 11 this 72 ((mI M 11 this 72) - (mI M 11 this 79)))) else (w_Model_act_j364 this Q (1 : Int32) (sI M 11 this 72 ((mI M 11 this 72) - (mI M 11 this 79))))) else (if v1 = (44 : Int32) then (if v1 < (8 : Int32) then (Q (sI M 11 this 72 ((mI M 11 this 72) - (mI M 11 this 79)))) else (if (18 : Int32) < v1 then (Q (sI M 11 this 72 ((mI M 11 this 72) - (mI M 11 this 79)))) else (w_Model_lay this (1 : Int32) (fun M132 => Q M132) (sI M 11 this 72 ((mI M 11 this 72) - (mI M 11 this 79)))))) else (if v1 = (45 : Int32) then (if v1 = (42 : Int32) then (w_Model_act_j364 this Q (2 : Int32) (sI M 11 this 72 ((mI M 11 this 72) - (mI M 11 this 79)))) else (w_Model_act_j364 this Q (1 : Int32) (sI M 11 this 72 ((mI M 11 this 72) - (mI M 11 this 79))))) else (if v1 = (46 : Int32) then (∃ i125, (mR (sI M 11 this 72 ((mI M 11 this 72) - (mI M 11 this 79))) 11 this 45) = some (12, i125) ∧ ∃ i126, (mR (sI M 11 this 72 ((mI M 11 this 72) - (mI M 11 this 79))) 12 i125 33) = some (300, i126) ∧ vp_in v2 (mL (sI M 11 this 72 ((mI M 11 this 72) - (mI M 11 this 79))) 300 i126) ∧ w_Model_lay this (mI (sI M 11 this 72 ((mI M 11 this 72) - (mI M 11 this 79))) 300 i126 v2.toNatClampNeg) (fun M128 => Q M128) (sI M 11 this 72 ((mI M 11 this 72) - (mI M 11 this 79)))) else (if v1 = (47 : Int32) then (if v1 < (8 : Int32) then (Q (sI M 11 this 72 ((mI M 11 this 72) - (mI M 11 this 79)))) else (if (18 : Int32) < v1 then (Q (sI M 11 this 72 ((mI M 11 this 72) - (mI M 11 this 79)))) else (w_Model_lay this (1 : Int32) (fun M124 => Q M124) (sI M 11 this 72 ((mI M 11 this 72) - (mI M 11 this 79)))))) else (if v1 = (48 : Int32) then (∃ i118, (mR (sI M 11 this 72 ((mI M 11 this 72) - (mI M 11 this 79))) 11 this 45) = some (12, i118) ∧ ∃ i119, (mR (sI M 11 this 72 ((mI M 11 this 72) - (mI M 11 this 79))) 12 i118 33) = some (300, i119) ∧ vp_in v2 (mL (sI M 11 this 72 ((mI M 11 this 72) - (mI M 11 this 79))) 300 i119) ∧ w_Model_lay this (mI (sI M 11 this 72 ((mI M 11 this 72) - (mI M 11 this 79))) 300 i119 v2.toNatClampNeg) (fun M121 => Q M121) (sI M 11 this 72 ((mI M 11 this 72) - (mI M 11 this 79)))) else (if v1 = (49 : Int32) then (if v1 < (8 : Int32) then (Q (sI M 11 this 72 ((mI M 11 this 72) - (mI M 11 this 79)))) else (if (18 : Int32) < v1 then (Q (sI M 11 this 72 ((mI M 11 this 72) - (mI M 11 this 79)))) else (w_Model_lay this (1 : Int32) (fun M117 => Q M117) (sI M 11 this 72 ((mI M 11 this 72) - (mI M 11 this 79)))))) else (if v1 = (50 : Int32) then (if s0 = 0 then (w_Model_act_j643 this Q v2 (sI M 11 this 72 ((mI M 11 this 72) - (mI M 11 this 79)))) else (if s0 = (5 : Int32) then (∃ i113, (mR (sI M 11 this 72 ((mI M 11 this 72) - (mI M 11 this 79))) 11 this 45) = some (12, i113) ∧ vp_in (mI (sI M 11 this 72 ((mI M 11 this 72) - (mI M 11 this 79))) 11 this 76) (mL (sI M 11 this 72 ((mI M 11 this 72) - (mI M 11 this 79))) 130 i113) ∧ w_Model_act_j534 this Q v2 s0 (mI (sI M 11 this 72 ((mI M 11 this 72) - (mI M 11 this 79))) 130 i113 (mI (sI M 11 this 72 ((mI M 11 this 72) - (mI M 11 this 79))) 11 this 76).toNatClampNeg) (16 : Int32) (sI M 11 this 72 ((mI M 11 this 72) - (mI M 11 this 79)))) else (w_Model_act_j534 this Q v2 s0 v4 (16 : Int32) (sI M 11 this 72 ((mI M 11 this 72) - (mI M 11 this 79)))))) else (if v1 = (51 : Int32) then (if s0 = 0 then (w_Model_act_j643 this Q v2 (sI M 11 this 72 ((mI M 11 this 72) - (mI M 11 this 79)))) else (if s0 = (5 : Int32) then (∃ i109, (mR (sI M 11 this 72 ((mI M 11 this 72) - (mI M 11 this 79))) 11 this 45) = some (12, i109) ∧ vp_in (mI (sI M 11 this 72 ((mI M 11 this 72) - (mI M 11 this 79))) 11 this 76) (mL (sI M 11 this 72 ((mI M 11 this 72) - (mI M 11 this 79))) 130 i109) ∧ w_Model_act_j534 this Q v2 s0 (mI (sI M 11 this 72 ((mI M 11 this 72) - (mI M 11 this 79))) 130 i109 (mI (sI M 11 this 72 ((mI M 11 this 72) - (mI M 11 this 79))) 11 this 76).toNatClampNeg) (16 : Int32) (sI M 11 this 72 ((mI M 11 this 72) - (mI M 11 this 79)))) else (w_Model_act_j534 this Q v2 s0 v4 (16 : Int32) (sI M 11 this 72 ((mI M 11 this 72) - (mI M 11 this 79)))))) else (if v1 = (52 : Int32) then (if s0 = 0 then (w_Model_act_j643 this Q v2 (sI M 11 this 72 ((mI M 11 this 72) - (mI M 11 this 79)))) else (if s0 = (5 : Int32) then (∃ i105, (mR (sI M 11 this 72 ((mI M 11 this 72) - (mI M 11 this 79))) 11 this 45) = some (12, i105) ∧ vp_in (mI (sI M 11 this 72 ((mI M 11 this 72) - (mI M 11 this 79))) 11 this 76) (mL (sI M 11 this 72 ((mI M 11 this 72) - (mI M 11 this 79))) 130 i105) ∧ w_Model_act_j534 this Q v2 s0 (mI (sI M 11 this 72 ((mI M 11 this 72) - (mI M 11 this 79))) 130 i105 (mI (sI M 11 this 72 ((mI M 11 this 72) - (mI M 11 this 79))) 11 this 76).toNatClampNeg) (16 : Int32) (sI M 11 this 72 ((mI M 11 this 72) - (mI M 11 this 79)))) else (w_Model_act_j534 this Q v2 s0 v4 (16 : Int32) (sI M 11 this 72 ((mI M 11 this 72) - (mI M 11 this 79)))))) else (if v1 = (53 : Int32) then (if s0 = 0 then (w_Model_act_j643 this Q v2 (sI M 11 this 72 ((mI M 11 this 72) - (mI M 11 this 79)))) else (if s0 = (5 : Int32) then (∃ i87, (mR (sI M 11 this 72 ((mI M 11 this 72) - (mI M 11 this 79))) 11 this 45) = some (12, i87) ∧ vp_in (mI (sI M 11 this 72 ((mI M 11 this 72) - (mI M 11 this 79))) 11 this 76) (mL (sI M 11 this 72 ((mI M 11 this 72) - (mI M 11 this 79))) 130 i87) ∧ w_Model_act_j534 this Q v2 s0 (mI (sI M 11 this 72 ((mI M 11 this 72) - (mI M 11 this 79))) 130 i87 (mI (sI M 11 this 72 ((mI M 11 this 72) - (mI M 11 this 79))) 11 this 76).toNatClampNeg) (16 : Int32) (sI M 11 this 72 ((mI M 11 this 72) - (mI M 11 this 79)))) else (w_Model_act_j534 this Q v2 s0 v4 (16 : Int32) (sI M 11 this 72 ((mI M 11 this 72) - (mI M 11 this 79)))))) else (if v1 = (54 : Int32) then (w_Model_lay this ((16 : Int32) + v4) (fun M72 => Q M72) (sI M 11 this 72 ((mI M 11 this 72) - (mI M 11 this 79)))) else (if v1 = (55 : Int32) then (if v1 = (42 : Int32) then (w_Model_act_j364 this Q (2 : Int32) (sI M 11 this 72 ((mI M 11 this 72) - (mI M 11 this 79)))) else (w_Model_act_j364 this Q (1 : Int32) (sI M 11 this 72 ((mI M 11 this 72) - (mI M 11 this 79))))) else (if v1 < (8 : Int32) then (Q (sI M 11 this 72 ((mI M 11 this 72) - (mI M 11 this 79)))) else (if (18 : Int32) < v1 then (Q (sI M 11 this 72 ((mI M 11 this 72) - (mI M 11 this 79)))) else (w_Model_lay this (1 : Int32) (fun M14 => Q M14) (sI M 11 this 72 ((mI M 11 this 72) - (mI M 11 this 79))))))))))))))))))))))))))))))))))))))))))))))))))))))))))))
def w_Model_act_j99 (this : Nat) (Q : Mem → Prop) (v1 : Int32) (v2 : Int32) (v3 : Int32) (v4 : Int32) (v5 : Int32) (v6 : Int32) (M : Mem) : Prop :=
  w_Model_act_j100 this Q v1 v2 v3 v4 v5 v6 (0 : Int32) M
def w_Model_act_j58 (this : Nat) (Q : Mem → Prop) (v1 : Int32) (v2 : Int32) (v3 : Int32) (v4 : Int32) (v5 : Int32) (s0 : Int32) (M : Mem) : Prop :=
  if v1 = (51 : Int32) then (∃ i7, (mR M 11 this 45) = some (12, i7) ∧ ∃ i8, (mR M 12 i7 32) = some (300, i8) ∧ vp_in v2 (mL M 300 i8) ∧ if (mI M 300 i8 v2.toNatClampNeg) = (mI M 11 this 6) then (vp_in ((mI M 11 this 72) - (mI M 11 this 79)) (mL M 212 0) ∧ w_Model_act_j100 this Q v1 v2 v3 v4 v5 s0 (mI M 212 0 ((mI M 11 this 72) - (mI M 11 this 79)).toNatClampNeg) M) else (w_Model_act_j99 this Q v1 v2 v3 v4 v5 s0 M)) else (w_Model_act_j99 this Q v1 v2 v3 v4 v5 s0 M)
def w_Model_act_j33 (this : Nat) (Q : Mem → Prop) (v1 : Int32) (v2 : Int32) (v3 : Int32) (v4 : Int32) (s0 : Int32) (M : Mem) : Prop :=
  if (mI M 11 this 72) ≤ (1 : Int32) then (w_Model_act_j58 this Q v1 v2 v3 v4 s0 (0 : Int32) M) else (vp_in ((mI M 11 this 72) - (2 : Int32)) (mL M 212 0) ∧ w_Model_act_j58 this Q v1 v2 v3 v4 s0 (mI M 212 0 ((mI M 11 this 72) - (2 : Int32)).toNatClampNeg) M)
def w_Model_act (this : Nat) (a1 : Int32) (a2 : Int32) (a3 : Int32) (Q : Mem → Prop) (M : Mem) : Prop :=
  ∃ i1, (mR M 11 this 45) = some (12, i1) ∧ ∃ i2, (mR M 12 i1 31) = some (300, i2) ∧ vp_in a2 (mL M 300 i2) ∧ if (mI M 11 this 72) ≤ 0 then (w_Model_act_j33 this Q a1 a2 a3 (mI M 300 i2 a2.toNatClampNeg) (0 : Int32) M) else (vp_in ((mI M 11 this 72) - (1 : Int32)) (mL M 212 0) ∧ w_Model_act_j33 this Q a1 a2 a3 (mI M 300 i2 a2.toNatClampNeg) (mI M 212 0 ((mI M 11 this 72) - (1 : Int32)).toNatClampNeg) M)
set_option maxRecDepth 4096 in
theorem lk_Model_act_j364 {γ : Gm} (hγ : Gk γ) (this : Nat) (Q : Mem → Prop) (s0 : Int32) (M : Mem) (h : w_Model_act_j364 this Q s0 M) : E γ k_Model_act 1 364 [none, none, none, none, none, none, none, none, none, none] [vi s0, vr (some (11, this))] M (Qv Q) := by
  unfold w_Model_act_j364 at h
  refine E_callV (κ' := k_Model_lay) (As := [vi s0]) (st := []) mv_Model_lay (Or.inl (tbk_mem (j := 16) (k := 7) rfl)) rfl (by decide +kernel) (Nat.le_of_ble_eq_true rfl) (Nat.le_of_ble_eq_true rfl) rfl (by decide) (lk_Model_lay hγ this s0 _ M h) (fun _ _ => Qv_r) (fun v M71 hp => Qv_k (R := fun st => E γ k_Model_act 1 367 [none, none, none, none, none, none, none, none, none, none] st M71 (Qv Q)) hp (fun h => ?_))
  refine E_goto (off := 331) (tgt := 698) (by decide +kernel) (by decide) ?_
  exact E_vret rfl (by decide +kernel) h
set_option maxRecDepth 4096 in
theorem lk_Model_act_j643 {γ : Gm} (hγ : Gk γ) (this : Nat) (Q : Mem → Prop) (v2 : Int32) (M : Mem) (h : w_Model_act_j643 this Q v2 M) : E γ k_Model_act 1 643 [some (vr (some (11, this))), none, some (vi v2), none, none, none, none, none, none, none] [] M (Qv Q) := by
  unfold w_Model_act_j643 at h
  refine E_blk (lv' := [some (vr (some (11, this))), none, some (vi v2), none, none, none, none, none, none, none]) (st' := [vr (mR M 11 this 32)]) (M1 := M) (pc' := 647) (tb_Model hγ) [.aload_n 0, .getfield 83] (by decide +kernel) rfl rfl trivial ?_
  obtain ⟨i74, ei74, h⟩ := h
  rw [ei74]
  refine E_blk (lv' := [some (vr (some (11, this))), none, some (vi v2), none, none, none, none, none, none, none]) (st' := [vr (mR M 11 this 45), vr (some (300, i74))]) (M1 := M) (pc' := 651) (tb_Model hγ) [.aload_n 0, .getfield 522] (by decide +kernel) rfl rfl trivial ?_
  obtain ⟨i75, ei75, h⟩ := h
  rw [ei75]
  refine E_blk (lv' := [some (vr (some (11, this))), none, some (vi v2), none, none, none, none, none, none, none]) (st' := [vr (mR M 12 i75 33), vr (some (300, i74))]) (M1 := M) (pc' := 654) (tb_Model hγ) [.getfield 683] (by decide +kernel) rfl rfl trivial ?_
  obtain ⟨i76, ei76, h⟩ := h
  rw [ei76]
  obtain ⟨c77, c78, h⟩ := h
  refine E_blk (lv' := [some (vr (some (11, this))), none, some (vi v2), none, none, none, none, none, none, none]) (st' := [vi (mI M 300 i74 (mI M 300 i76 v2.toNatClampNeg).toNatClampNeg)]) (M1 := M) (pc' := 657) (tb_Model hγ) [.iload_n 2, .iaload, .iaload] (by decide +kernel) rfl rfl ⟨c77, c78, trivial⟩ ?_
  refine E_if_eq (off := 41) (tgt := 698) (by decide +kernel) (by decide) (fun b79 => ?_) (fun b79 => ?_)
  · rw [if_pos b79] at h
    exact E_vret rfl (by decide +kernel) h
  · rw [if_neg b79] at h
    refine E_blk (lv' := [some (vr (some (11, this))), none, some (vi v2), none, none, none, none, none, none, none]) (st' := [vr (mR M 11 this 32), vr (some (11, this))]) (M1 := M) (pc' := 665) (tb_Model hγ) [.aload_n 0, .aload_n 0, .getfield 83] (by decide +kernel) rfl rfl trivial ?_
    obtain ⟨i80, ei80, h⟩ := h
    rw [ei80]
    refine E_blk (lv' := [some (vr (some (11, this))), none, some (vi v2), none, none, none, none, none, none, none]) (st' := [vr (mR M 11 this 45), vr (some (300, i80)), vr (some (11, this))]) (M1 := M) (pc' := 669) (tb_Model hγ) [.aload_n 0, .getfield 522] (by decide +kernel) rfl rfl trivial ?_
    obtain ⟨i81, ei81, h⟩ := h
    rw [ei81]
    refine E_blk (lv' := [some (vr (some (11, this))), none, some (vi v2), none, none, none, none, none, none, none]) (st' := [vr (mR M 12 i81 33), vr (some (300, i80)), vr (some (11, this))]) (M1 := M) (pc' := 672) (tb_Model hγ) [.getfield 683] (by decide +kernel) rfl rfl trivial ?_
    obtain ⟨i82, ei82, h⟩ := h
    rw [ei82]
    obtain ⟨c83, c84, h⟩ := h
    refine E_blk (lv' := [some (vr (some (11, this))), none, some (vi v2), none, none, none, none, none, none, none]) (st' := [vi (mI M 300 i80 (mI M 300 i82 v2.toNatClampNeg).toNatClampNeg), vr (some (11, this))]) (M1 := M) (pc' := 675) (tb_Model hγ) [.iload_n 2, .iaload, .iaload] (by decide +kernel) rfl rfl ⟨c83, c84, trivial⟩ ?_
    refine E_callV (κ' := k_Model_lay) (As := [vi (mI M 300 i80 (mI M 300 i82 v2.toNatClampNeg).toNatClampNeg)]) (st := []) mv_Model_lay (Or.inl (tbk_mem (j := 16) (k := 7) rfl)) rfl (by decide +kernel) (Nat.le_of_ble_eq_true rfl) (Nat.le_of_ble_eq_true rfl) rfl (by decide) (lk_Model_lay hγ this (mI M 300 i80 (mI M 300 i82 v2.toNatClampNeg).toNatClampNeg) _ M h) (fun _ _ => Qv_r) (fun v M85 hp => Qv_k (R := fun st => E γ k_Model_act 1 678 [some (vr (some (11, this))), none, some (vi v2), none, none, none, none, none, none, none] st M85 (Qv Q)) hp (fun h => ?_))
    refine E_goto (off := 20) (tgt := 698) (by decide +kernel) (by decide) ?_
    exact E_vret rfl (by decide +kernel) h
set_option maxRecDepth 4096 in
theorem lk_Model_act_j636 {γ : Gm} (hγ : Gk γ) (this : Nat) (Q : Mem → Prop) (k597 : Int32 → Int32 → Int32 → Int32 → Mem → Prop) (hk597 : ∀ (v2 : Int32) (v7 : Int32) (v8 : Int32) (v9 : Int32) (M : Mem), k597 v2 v7 v8 v9 M → E γ k_Model_act 1 597 [some (vr (some (11, this))), none, some (vi v2), none, none, none, none, some (vi v7), some (vi v8), some (vi v9)] [] M (Qv Q)) (v2 : Int32) (v7 : Int32) (v8 : Int32) (v9 : Int32) (s0 : Int32) (s1 : Int32) (s2 : Nat) (M : Mem) (h : w_Model_act_j636 this Q k597 v2 v7 v8 v9 s0 s1 s2 M) : E γ k_Model_act 1 636 [some (vr (some (11, this))), none, some (vi v2), none, none, none, none, some (vi v7), some (vi v8), some (vi v9)] [vi s0, vi s1, vr (some (212, s2))] M (Qv Q) := by
  unfold w_Model_act_j636 at h
  obtain ⟨c95, h⟩ := h
  refine E_blk (lv' := [some (vr (some (11, this))), none, some (vi v2), none, none, none, none, some (vi v7), some (vi v8), some (vi (v9 + (1 : Int32)))]) (st' := []) (M1 := (sI M 212 s2 s1.toNatClampNeg s0)) (pc' := 640) (tb_Model hγ) [.iastore, .iinc 9 1] (by decide +kernel) rfl rfl ⟨c95, trivial⟩ ?_
  refine E_goto (off := -43) (tgt := 597) (by decide +kernel) (by decide) ?_
  refine E_mask [true, false, true, false, false, false, false, true, true, true] rfl ?_
  exact hk597 v2 v7 v8 (v9 + (1 : Int32)) (sI M 212 s2 s1.toNatClampNeg s0) h
set_option maxRecDepth 4096 in
theorem lk_Model_act_L597 {γ : Gm} (hγ : Gk γ) (this : Nat) (Q : Mem → Prop) : ∀ (n : Nat) (v2 : Int32) (v7 : Int32) (v8 : Int32) (v9 : Int32) (M : Mem), w_Model_act_L597 this Q n v2 v7 v8 v9 M → E γ k_Model_act 1 597 [some (vr (some (11, this))), none, some (vi v2), none, none, none, none, some (vi v7), some (vi v8), some (vi v9)] [] M (Qv Q) := by
  intro n
  induction n with
  | zero => intro v2 v7 v8 v9 M h; exact h.elim
  | succ n ih =>
    intro v2 v7 v8 v9 M h
    unfold w_Model_act_L597 at h
    refine E_blk (lv' := [some (vr (some (11, this))), none, some (vi v2), none, none, none, none, some (vi v7), some (vi v8), some (vi v9)]) (st' := [vi (mI M 11 this 72), vi v9]) (M1 := M) (pc' := 603) (tb_Model hγ) [.iload 9, .aload_n 0, .getfield 780] (by decide +kernel) rfl rfl trivial ?_
    refine E_icmp_ge (off := 40) (tgt := 643) (by decide +kernel) (by decide) (fun b92 => ?_) (fun b92 => ?_)
    · rw [if_pos b92] at h
      refine E_mask [true, false, true, false, false, false, false, false, false, false] rfl ?_
      exact lk_Model_act_j643 hγ this Q v2 M h
    · rw [if_neg b92] at h
      obtain ⟨c93, h⟩ := h
      refine E_blk (lv' := [some (vr (some (11, this))), none, some (vi v2), none, none, none, none, some (vi v7), some (vi v8), some (vi v9)]) (st' := [vi v7, vi (mI M 212 0 v9.toNatClampNeg), vi v9, vr (some (212, 0))]) (M1 := M) (pc' := 621) (tb_Model hγ) [.aload_n 0, .getfield 308, .iload 9, .aload_n 0, .getfield 308, .iload 9, .iaload, .iload 7] (by decide +kernel) rfl rfl ⟨c93, trivial⟩ ?_
      refine E_icmp_ne (off := 8) (tgt := 629) (by decide +kernel) (by decide) (fun b94 => ?_) (fun b94 => ?_)
      · rw [if_pos b94] at h
        refine E_blk (lv' := [some (vr (some (11, this))), none, some (vi v2), none, none, none, none, some (vi v7), some (vi v8), some (vi v9)]) (st' := [vi v8, vi v9, vr (some (212, 0))]) (M1 := M) (pc' := 626) (tb_Model hγ) [.iload 8] (by decide +kernel) rfl rfl trivial ?_
        refine E_goto (off := 10) (tgt := 636) (by decide +kernel) (by decide) ?_
        refine E_mask [true, false, true, false, false, false, false, true, true, true] rfl ?_
        exact lk_Model_act_j636 hγ this Q (w_Model_act_L597 this Q n) ih v2 v7 v8 v9 v8 v9 0 M h
      · rw [if_neg b94] at h
        obtain ⟨c96, h⟩ := h
        refine E_blk (lv' := [some (vr (some (11, this))), none, some (vi v2), none, none, none, none, some (vi v7), some (vi v8), some (vi v9)]) (st' := [vi (mI M 212 0 v9.toNatClampNeg), vi v9, vr (some (212, 0))]) (M1 := M) (pc' := 636) (tb_Model hγ) [.aload_n 0, .getfield 308, .iload 9, .iaload] (by decide +kernel) rfl rfl ⟨c96, trivial⟩ ?_
        refine E_mask [true, false, true, false, false, false, false, true, true, true] rfl ?_
        exact lk_Model_act_j636 hγ this Q (w_Model_act_L597 this Q n) ih v2 v7 v8 v9 (mI M 212 0 v9.toNatClampNeg) v9 0 M h
set_option maxRecDepth 4096 in
theorem lk_Model_act_j587 {γ : Gm} (hγ : Gk γ) (this : Nat) (Q : Mem → Prop) (k540 : Int32 → Int32 → Int32 → Int32 → Mem → Prop) (hk540 : ∀ (v2 : Int32) (v7 : Int32) (v8 : Int32) (v9 : Int32) (M : Mem), k540 v2 v7 v8 v9 M → E γ k_Model_act 1 540 [some (vr (some (11, this))), none, some (vi v2), none, none, none, none, some (vi v7), some (vi v8), some (vi v9)] [] M (Qv Q)) (v2 : Int32) (v7 : Int32) (v8 : Int32) (v9 : Int32) (s0 : Int32) (s1 : Int32) (M : Mem) (h : w_Model_act_j587 this Q k540 v2 v7 v8 v9 s0 s1 M) : E γ k_Model_act 1 587 [some (vr (some (11, this))), none, some (vi v2), none, none, none, none, some (vi v7), some (vi v8), some (vi v9)] [vi s0, vi s1, vr (some (111, this))] M (Qv Q) := by
  unfold w_Model_act_j587 at h
  obtain ⟨c100, h⟩ := h
  refine E_blk (lv' := [some (vr (some (11, this))), none, some (vi v2), none, none, none, none, some (vi v7), some (vi v8), some (vi (v9 + (1 : Int32)))]) (st' := []) (M1 := (sI M 111 this s1.toNatClampNeg s0)) (pc' := 591) (tb_Model hγ) [.iastore, .iinc 9 1] (by decide +kernel) rfl rfl ⟨c100, trivial⟩ ?_
  refine E_goto (off := -51) (tgt := 540) (by decide +kernel) (by decide) ?_
  refine E_mask [true, false, true, false, false, false, false, true, true, true] rfl ?_
  exact hk540 v2 v7 v8 (v9 + (1 : Int32)) (sI M 111 this s1.toNatClampNeg s0) h
set_option maxRecDepth 4096 in
theorem lk_Model_act_L540 {γ : Gm} (hγ : Gk γ) (this : Nat) (Q : Mem → Prop) : ∀ (n : Nat) (v2 : Int32) (v7 : Int32) (v8 : Int32) (v9 : Int32) (M : Mem), w_Model_act_L540 this Q n v2 v7 v8 v9 M → E γ k_Model_act 1 540 [some (vr (some (11, this))), none, some (vi v2), none, none, none, none, some (vi v7), some (vi v8), some (vi v9)] [] M (Qv Q) := by
  intro n
  induction n with
  | zero => intro v2 v7 v8 v9 M h; exact h.elim
  | succ n ih =>
    intro v2 v7 v8 v9 M h
    unfold w_Model_act_L540 at h
    refine E_blk (lv' := [some (vr (some (11, this))), none, some (vi v2), none, none, none, none, some (vi v7), some (vi v8), some (vi v9)]) (st' := [vr (mR M 11 this 45), vi v9]) (M1 := M) (pc' := 546) (tb_Model hγ) [.iload 9, .aload_n 0, .getfield 522] (by decide +kernel) rfl rfl trivial ?_
    obtain ⟨i89, ei89, h⟩ := h
    rw [ei89]
    obtain ⟨c90, h⟩ := h
    refine E_blk (lv' := [some (vr (some (11, this))), none, some (vi v2), none, none, none, none, some (vi v7), some (vi v8), some (vi v9)]) (st' := [vi (mI M 148 i89 (mI M 11 this 75).toNatClampNeg), vi v9]) (M1 := M) (pc' := 554) (tb_Model hγ) [.getfield 459, .aload_n 0, .getfield 768, .iaload] (by decide +kernel) rfl rfl ⟨c90, trivial⟩ ?_
    refine E_icmp_ge (off := 40) (tgt := 594) (by decide +kernel) (by decide) (fun b91 => ?_) (fun b91 => ?_)
    · rw [if_pos b91] at h
      refine E_blk (lv' := [some (vr (some (11, this))), none, some (vi v2), none, none, none, none, some (vi v7), some (vi v8), some (vi (0 : Int32))]) (st' := []) (M1 := M) (pc' := 597) (tb_Model hγ) [.iconst 0, .istore 9] (by decide +kernel) rfl rfl trivial ?_
      obtain ⟨n97, h⟩ := h
      refine E_mask [true, false, true, false, false, false, false, true, true, true] rfl ?_
      exact lk_Model_act_L597 hγ this Q n97 v2 v7 v8 (0 : Int32) M h
    · rw [if_neg b91] at h
      obtain ⟨c98, h⟩ := h
      refine E_blk (lv' := [some (vr (some (11, this))), none, some (vi v2), none, none, none, none, some (vi v7), some (vi v8), some (vi v9)]) (st' := [vi v7, vi (mI M 111 this v9.toNatClampNeg), vi v9, vr (some (111, this))]) (M1 := M) (pc' := 572) (tb_Model hγ) [.aload_n 0, .getfield 305, .iload 9, .aload_n 0, .getfield 305, .iload 9, .iaload, .iload 7] (by decide +kernel) rfl rfl ⟨c98, trivial⟩ ?_
      refine E_icmp_ne (off := 8) (tgt := 580) (by decide +kernel) (by decide) (fun b99 => ?_) (fun b99 => ?_)
      · rw [if_pos b99] at h
        refine E_blk (lv' := [some (vr (some (11, this))), none, some (vi v2), none, none, none, none, some (vi v7), some (vi v8), some (vi v9)]) (st' := [vi v8, vi v9, vr (some (111, this))]) (M1 := M) (pc' := 577) (tb_Model hγ) [.iload 8] (by decide +kernel) rfl rfl trivial ?_
        refine E_goto (off := 10) (tgt := 587) (by decide +kernel) (by decide) ?_
        refine E_mask [true, false, true, false, false, false, false, true, true, true] rfl ?_
        exact lk_Model_act_j587 hγ this Q (w_Model_act_L540 this Q n) ih v2 v7 v8 v9 v8 v9 M h
      · rw [if_neg b99] at h
        obtain ⟨c101, h⟩ := h
        refine E_blk (lv' := [some (vr (some (11, this))), none, some (vi v2), none, none, none, none, some (vi v7), some (vi v8), some (vi v9)]) (st' := [vi (mI M 111 this v9.toNatClampNeg), vi v9, vr (some (111, this))]) (M1 := M) (pc' := 587) (tb_Model hγ) [.aload_n 0, .getfield 305, .iload 9, .iaload] (by decide +kernel) rfl rfl ⟨c101, trivial⟩ ?_
        refine E_mask [true, false, true, false, false, false, false, true, true, true] rfl ?_
        exact lk_Model_act_j587 hγ this Q (w_Model_act_L540 this Q n) ih v2 v7 v8 v9 (mI M 111 this v9.toNatClampNeg) v9 M h
set_option maxRecDepth 4096 in
theorem lk_Model_act_j534 {γ : Gm} (hγ : Gk γ) (this : Nat) (Q : Mem → Prop) (v2 : Int32) (v7 : Int32) (s0 : Int32) (s1 : Int32) (M : Mem) (h : w_Model_act_j534 this Q v2 v7 s0 s1 M) : E γ k_Model_act 1 534 [some (vr (some (11, this))), none, some (vi v2), none, none, none, none, some (vi v7), none, none] [vi s0, vi s1] M (Qv Q) := by
  unfold w_Model_act_j534 at h
  refine E_blk (lv' := [some (vr (some (11, this))), none, some (vi v2), none, none, none, none, some (vi v7), some (vi (s1 + s0)), some (vi (0 : Int32))]) (st' := []) (M1 := M) (pc' := 540) (tb_Model hγ) [.iadd, .istore 8, .iconst 0, .istore 9] (by decide +kernel) rfl rfl trivial ?_
  obtain ⟨n102, h⟩ := h
  refine E_mask [true, false, true, false, false, false, false, true, true, true] rfl ?_
  exact lk_Model_act_L540 hγ this Q n102 v2 v7 (s1 + s0) (0 : Int32) M h
set_option maxRecDepth 4096 in
theorem lk_Model_act_j100 {γ : Gm} (hγ : Gk γ) (this : Nat) (Q : Mem → Prop) (v1 : Int32) (v2 : Int32) (v3 : Int32) (v4 : Int32) (v5 : Int32) (v6 : Int32) (s0 : Int32) (M : Mem) (h : w_Model_act_j100 this Q v1 v2 v3 v4 v5 v6 s0 M) : E γ k_Model_act 1 100 [some (vr (some (11, this))), some (vi v1), some (vi v2), some (vi v3), some (vi v4), some (vi v5), some (vi v6), none, none, none] [vi s0] M (Qv Q) := by
  unfold w_Model_act_j100 at h
  refine E_blk (lv' := [some (vr (some (11, this))), some (vi v1), some (vi v2), some (vi v3), some (vi v4), some (vi v5), some (vi v6), some (vi s0), none, none]) (st' := [vi v1]) (M1 := (sI M 11 this 72 ((mI M 11 this 72) - (mI M 11 this 79)))) (pc' := 116) (tb_Model hγ) [.istore 7, .aload_n 0, .dup, .getfield 780, .aload_n 0, .getfield 823, .isub, .putfield 780, .iload_n 1] (by decide +kernel) rfl rfl trivial ?_
  by_cases b15 : v1 = (1 : Int32)
  · rw [if_pos b15] at h
    refine E.up (fun _ _ hJ => J_tswI (len := 236) (dflt := 565) (lo := 1) (hi := 55) (offs := #[236, 254, 236, 262, 276, 287, 565, 565, 565, 565, 565, 565, 565, 565, 565, 565, 565, 565, 565, 299, 314, 335, 565, 565, 565, 565, 565, 565, 565, 565, 565, 565, 565, 565, 565, 565, 565, 565, 565, 565, 350, 236, 236, 565, 236, 360, 565, 360, 565, 388, 388, 388, 388, 376, 236]) (off := 236) (tgt := 352) (by decide +kernel) (by rw [b15]; decide) (by rw [b15]; decide) (by rw [b15]; rfl) (by decide) hJ) ?_
    refine E_blk (lv' := [some (vr (some (11, this))), some (vi v1), some (vi v2), some (vi v3), some (vi v4), some (vi v5), some (vi v6), some (vi s0), none, none]) (st' := [vi (42 : Int32), vi v1, vr (some (11, this))]) (M1 := (sI M 11 this 72 ((mI M 11 this 72) - (mI M 11 this 79)))) (pc' := 356) (tb_Model hγ) [.aload_n 0, .iload_n 1, .bipush 42] (by decide +kernel) rfl rfl trivial ?_
    refine E_icmp_ne (off := 7) (tgt := 363) (by decide +kernel) (by decide) (fun b244 => ?_) (fun b244 => ?_)
    · rw [if_pos b244] at h
      refine E_blk (lv' := [some (vr (some (11, this))), some (vi v1), some (vi v2), some (vi v3), some (vi v4), some (vi v5), some (vi v6), some (vi s0), none, none]) (st' := [vi (2 : Int32), vr (some (11, this))]) (M1 := (sI M 11 this 72 ((mI M 11 this 72) - (mI M 11 this 79)))) (pc' := 360) (tb_Model hγ) [.iconst 2] (by decide +kernel) rfl rfl trivial ?_
      refine E_goto (off := 4) (tgt := 364) (by decide +kernel) (by decide) ?_
      refine E_mask [false, false, false, false, false, false, false, false, false, false] rfl ?_
      exact lk_Model_act_j364 hγ this Q (2 : Int32) (sI M 11 this 72 ((mI M 11 this 72) - (mI M 11 this 79))) h
    · rw [if_neg b244] at h
      refine E_blk (lv' := [some (vr (some (11, this))), some (vi v1), some (vi v2), some (vi v3), some (vi v4), some (vi v5), some (vi v6), some (vi s0), none, none]) (st' := [vi (1 : Int32), vr (some (11, this))]) (M1 := (sI M 11 this 72 ((mI M 11 this 72) - (mI M 11 this 79)))) (pc' := 364) (tb_Model hγ) [.iconst 1] (by decide +kernel) rfl rfl trivial ?_
      refine E_mask [false, false, false, false, false, false, false, false, false, false] rfl ?_
      exact lk_Model_act_j364 hγ this Q (1 : Int32) (sI M 11 this 72 ((mI M 11 this 72) - (mI M 11 this 79))) h
  · rw [if_neg b15] at h
    by_cases b16 : v1 = (2 : Int32)
    · rw [if_pos b16] at h
      refine E.up (fun _ _ hJ => J_tswI (len := 236) (dflt := 565) (lo := 1) (hi := 55) (offs := #[236, 254, 236, 262, 276, 287, 565, 565, 565, 565, 565, 565, 565, 565, 565, 565, 565, 565, 565, 299, 314, 335, 565, 565, 565, 565, 565, 565, 565, 565, 565, 565, 565, 565, 565, 565, 565, 565, 565, 565, 350, 236, 236, 565, 236, 360, 565, 360, 565, 388, 388, 388, 388, 376, 236]) (off := 254) (tgt := 370) (by decide +kernel) (by rw [b16]; decide) (by rw [b16]; decide) (by rw [b16]; rfl) (by decide) hJ) ?_
      refine E_blk (lv' := [some (vr (some (11, this))), some (vi v1), some (vi v2), some (vi v3), some (vi v4), some (vi v5), some (vi v6), some (vi s0), none, none]) (st' := [vi (3 : Int32), vr (some (11, this))]) (M1 := (sI M 11 this 72 ((mI M 11 this 72) - (mI M 11 this 79)))) (pc' := 372) (tb_Model hγ) [.aload_n 0, .iconst 3] (by decide +kernel) rfl rfl trivial ?_
      refine E_callV (κ' := k_Model_lay) (As := [vi (3 : Int32)]) (st := []) mv_Model_lay (Or.inl (tbk_mem (j := 16) (k := 7) rfl)) rfl (by decide +kernel) (Nat.le_of_ble_eq_true rfl) (Nat.le_of_ble_eq_true rfl) rfl (by decide) (lk_Model_lay hγ this (3 : Int32) _ (sI M 11 this 72 ((mI M 11 this 72) - (mI M 11 this 79))) h) (fun _ _ => Qv_r) (fun v M243 hp => Qv_k (R := fun st => E γ k_Model_act 1 375 [some (vr (some (11, this))), some (vi v1), some (vi v2), some (vi v3), some (vi v4), some (vi v5), some (vi v6), some (vi s0), none, none] st M243 (Qv Q)) hp (fun h => ?_))
      refine E_goto (off := 323) (tgt := 698) (by decide +kernel) (by decide) ?_
      exact E_vret rfl (by decide +kernel) h
    · rw [if_neg b16] at h
      by_cases b17 : v1 = (3 : Int32)
      · rw [if_pos b17] at h
        refine E.up (fun _ _ hJ => J_tswI (len := 236) (dflt := 565) (lo := 1) (hi := 55) (offs := #[236, 254, 236, 262, 276, 287, 565, 565, 565, 565, 565, 565, 565, 565, 565, 565, 565, 565, 565, 299, 314, 335, 565, 565, 565, 565, 565, 565, 565, 565, 565, 565, 565, 565, 565, 565, 565, 565, 565, 565, 350, 236, 236, 565, 236, 360, 565, 360, 565, 388, 388, 388, 388, 376, 236]) (off := 236) (tgt := 352) (by decide +kernel) (by rw [b17]; decide) (by rw [b17]; decide) (by rw [b17]; rfl) (by decide) hJ) ?_
        refine E_blk (lv' := [some (vr (some (11, this))), some (vi v1), some (vi v2), some (vi v3), some (vi v4), some (vi v5), some (vi v6), some (vi s0), none, none]) (st' := [vi (42 : Int32), vi v1, vr (some (11, this))]) (M1 := (sI M 11 this 72 ((mI M 11 this 72) - (mI M 11 this 79)))) (pc' := 356) (tb_Model hγ) [.aload_n 0, .iload_n 1, .bipush 42] (by decide +kernel) rfl rfl trivial ?_
        refine E_icmp_ne (off := 7) (tgt := 363) (by decide +kernel) (by decide) (fun b242 => ?_) (fun b242 => ?_)
        · rw [if_pos b242] at h
          refine E_blk (lv' := [some (vr (some (11, this))), some (vi v1), some (vi v2), some (vi v3), some (vi v4), some (vi v5), some (vi v6), some (vi s0), none, none]) (st' := [vi (2 : Int32), vr (some (11, this))]) (M1 := (sI M 11 this 72 ((mI M 11 this 72) - (mI M 11 this 79)))) (pc' := 360) (tb_Model hγ) [.iconst 2] (by decide +kernel) rfl rfl trivial ?_
          refine E_goto (off := 4) (tgt := 364) (by decide +kernel) (by decide) ?_
          refine E_mask [false, false, false, false, false, false, false, false, false, false] rfl ?_
          exact lk_Model_act_j364 hγ this Q (2 : Int32) (sI M 11 this 72 ((mI M 11 this 72) - (mI M 11 this 79))) h
        · rw [if_neg b242] at h
          refine E_blk (lv' := [some (vr (some (11, this))), some (vi v1), some (vi v2), some (vi v3), some (vi v4), some (vi v5), some (vi v6), some (vi s0), none, none]) (st' := [vi (1 : Int32), vr (some (11, this))]) (M1 := (sI M 11 this 72 ((mI M 11 this 72) - (mI M 11 this 79)))) (pc' := 364) (tb_Model hγ) [.iconst 1] (by decide +kernel) rfl rfl trivial ?_
          refine E_mask [false, false, false, false, false, false, false, false, false, false] rfl ?_
          exact lk_Model_act_j364 hγ this Q (1 : Int32) (sI M 11 this 72 ((mI M 11 this 72) - (mI M 11 this 79))) h
      · rw [if_neg b17] at h
        by_cases b18 : v1 = (4 : Int32)
        · rw [if_pos b18] at h
          refine E.up (fun _ _ hJ => J_tswI (len := 236) (dflt := 565) (lo := 1) (hi := 55) (offs := #[236, 254, 236, 262, 276, 287, 565, 565, 565, 565, 565, 565, 565, 565, 565, 565, 565, 565, 565, 299, 314, 335, 565, 565, 565, 565, 565, 565, 565, 565, 565, 565, 565, 565, 565, 565, 565, 565, 565, 565, 350, 236, 236, 565, 236, 360, 565, 360, 565, 388, 388, 388, 388, 376, 236]) (off := 262) (tgt := 378) (by decide +kernel) (by rw [b18]; decide) (by rw [b18]; decide) (by rw [b18]; rfl) (by decide) hJ) ?_
          obtain ⟨c240, h⟩ := h
          refine E_blk (lv' := [some (vr (some (11, this))), some (vi v1), some (vi v2), some (vi v3), some (vi v4), some (vi v5), some (vi v6), some (vi s0), none, none]) (st' := [vi (mI (sI M 11 this 72 ((mI M 11 this 72) - (mI M 11 this 79))) 111 this v4.toNatClampNeg), vr (some (11, this))]) (M1 := (sI M 11 this 72 ((mI M 11 this 72) - (mI M 11 this 79)))) (pc' := 386) (tb_Model hγ) [.aload_n 0, .aload_n 0, .getfield 305, .iload 4, .iaload] (by decide +kernel) rfl rfl ⟨c240, trivial⟩ ?_
          refine E_callV (κ' := k_Model_lay) (As := [vi (mI (sI M 11 this 72 ((mI M 11 this 72) - (mI M 11 this 79))) 111 this v4.toNatClampNeg)]) (st := []) mv_Model_lay (Or.inl (tbk_mem (j := 16) (k := 7) rfl)) rfl (by decide +kernel) (Nat.le_of_ble_eq_true rfl) (Nat.le_of_ble_eq_true rfl) rfl (by decide) (lk_Model_lay hγ this (mI (sI M 11 this 72 ((mI M 11 this 72) - (mI M 11 this 79))) 111 this v4.toNatClampNeg) _ (sI M 11 this 72 ((mI M 11 this 72) - (mI M 11 this 79))) h) (fun _ _ => Qv_r) (fun v M241 hp => Qv_k (R := fun st => E γ k_Model_act 1 389 [some (vr (some (11, this))), some (vi v1), some (vi v2), some (vi v3), some (vi v4), some (vi v5), some (vi v6), some (vi s0), none, none] st M241 (Qv Q)) hp (fun h => ?_))
          refine E_goto (off := 309) (tgt := 698) (by decide +kernel) (by decide) ?_
          exact E_vret rfl (by decide +kernel) h
        · rw [if_neg b18] at h
          by_cases b19 : v1 = (5 : Int32)
          · rw [if_pos b19] at h
            refine E.up (fun _ _ hJ => J_tswI (len := 236) (dflt := 565) (lo := 1) (hi := 55) (offs := #[236, 254, 236, 262, 276, 287, 565, 565, 565, 565, 565, 565, 565, 565, 565, 565, 565, 565, 565, 299, 314, 335, 565, 565, 565, 565, 565, 565, 565, 565, 565, 565, 565, 565, 565, 565, 565, 565, 565, 565, 350, 236, 236, 565, 236, 360, 565, 360, 565, 388, 388, 388, 388, 376, 236]) (off := 276) (tgt := 392) (by decide +kernel) (by rw [b19]; decide) (by rw [b19]; decide) (by rw [b19]; rfl) (by decide) hJ) ?_
            obtain ⟨c238, h⟩ := h
            refine E_blk (lv' := [some (vr (some (11, this))), some (vi v1), some (vi v2), some (vi v3), some (vi v4), some (vi v5), some (vi v6), some (vi s0), none, none]) (st' := []) (M1 := (sI (sI M 11 this 72 ((mI M 11 this 72) - (mI M 11 this 79))) 111 this v4.toNatClampNeg (1 : Int32))) (pc' := 400) (tb_Model hγ) [.aload_n 0, .getfield 305, .iload 4, .iconst 1, .iastore] (by decide +kernel) rfl rfl ⟨c238, trivial⟩ ?_
            obtain ⟨M239, eM239, h⟩ := h
            rw [← eM239]
            refine E_goto (off := 298) (tgt := 698) (by decide +kernel) (by decide) ?_
            exact E_vret rfl (by decide +kernel) h
          · rw [if_neg b19] at h
            by_cases b20 : v1 = (6 : Int32)
            · rw [if_pos b20] at h
              refine E.up (fun _ _ hJ => J_tswI (len := 236) (dflt := 565) (lo := 1) (hi := 55) (offs := #[236, 254, 236, 262, 276, 287, 565, 565, 565, 565, 565, 565, 565, 565, 565, 565, 565, 565, 565, 299, 314, 335, 565, 565, 565, 565, 565, 565, 565, 565, 565, 565, 565, 565, 565, 565, 565, 565, 565, 565, 350, 236, 236, 565, 236, 360, 565, 360, 565, 388, 388, 388, 388, 376, 236]) (off := 287) (tgt := 403) (by decide +kernel) (by rw [b20]; decide) (by rw [b20]; decide) (by rw [b20]; rfl) (by decide) hJ) ?_
              obtain ⟨c236, h⟩ := h
              refine E_blk (lv' := [some (vr (some (11, this))), some (vi v1), some (vi v2), some (vi v3), some (vi v4), some (vi v5), some (vi v6), some (vi s0), none, none]) (st' := []) (M1 := (sI (sI M 11 this 72 ((mI M 11 this 72) - (mI M 11 this 79))) 111 this v4.toNatClampNeg v5)) (pc' := 412) (tb_Model hγ) [.aload_n 0, .getfield 305, .iload 4, .iload 5, .iastore] (by decide +kernel) rfl rfl ⟨c236, trivial⟩ ?_
              obtain ⟨M237, eM237, h⟩ := h
              rw [← eM237]
              refine E_goto (off := 286) (tgt := 698) (by decide +kernel) (by decide) ?_
              exact E_vret rfl (by decide +kernel) h
            · rw [if_neg b20] at h
              by_cases b21 : v1 = (7 : Int32)
              · rw [if_pos b21] at h
                refine E.up (fun _ _ hJ => J_tswI (len := 236) (dflt := 565) (lo := 1) (hi := 55) (offs := #[236, 254, 236, 262, 276, 287, 565, 565, 565, 565, 565, 565, 565, 565, 565, 565, 565, 565, 565, 299, 314, 335, 565, 565, 565, 565, 565, 565, 565, 565, 565, 565, 565, 565, 565, 565, 565, 565, 565, 565, 350, 236, 236, 565, 236, 360, 565, 360, 565, 388, 388, 388, 388, 376, 236]) (off := 565) (tgt := 681) (by decide +kernel) (by rw [b21]; decide) (by rw [b21]; decide) (by rw [b21]; rfl) (by decide) hJ) ?_
                refine E_blk (lv' := [some (vr (some (11, this))), some (vi v1), some (vi v2), some (vi v3), some (vi v4), some (vi v5), some (vi v6), some (vi s0), none, none]) (st' := [vi (8 : Int32), vi v1]) (M1 := (sI M 11 this 72 ((mI M 11 this 72) - (mI M 11 this 79)))) (pc' := 684) (tb_Model hγ) [.iload_n 1, .bipush 8] (by decide +kernel) rfl rfl trivial ?_
                refine E_icmp_lt (off := 14) (tgt := 698) (by decide +kernel) (by decide) (fun b233 => ?_) (fun b233 => ?_)
                · rw [if_pos b233] at h
                  exact E_vret rfl (by decide +kernel) h
                · rw [if_neg b233] at h
                  refine E_blk (lv' := [some (vr (some (11, this))), some (vi v1), some (vi v2), some (vi v3), some (vi v4), some (vi v5), some (vi v6), some (vi s0), none, none]) (st' := [vi (18 : Int32), vi v1]) (M1 := (sI M 11 this 72 ((mI M 11 this 72) - (mI M 11 this 79)))) (pc' := 690) (tb_Model hγ) [.iload_n 1, .bipush 18] (by decide +kernel) rfl rfl trivial ?_
                  refine E_icmp_gt (off := 8) (tgt := 698) (by decide +kernel) (by decide) (fun b234 => ?_) (fun b234 => ?_)
                  · rw [if_pos b234] at h
                    exact E_vret rfl (by decide +kernel) h
                  · rw [if_neg b234] at h
                    refine E_blk (lv' := [some (vr (some (11, this))), some (vi v1), some (vi v2), some (vi v3), some (vi v4), some (vi v5), some (vi v6), some (vi s0), none, none]) (st' := [vi (1 : Int32), vr (some (11, this))]) (M1 := (sI M 11 this 72 ((mI M 11 this 72) - (mI M 11 this 79)))) (pc' := 695) (tb_Model hγ) [.aload_n 0, .iconst 1] (by decide +kernel) rfl rfl trivial ?_
                    refine E_callV (κ' := k_Model_lay) (As := [vi (1 : Int32)]) (st := []) mv_Model_lay (Or.inl (tbk_mem (j := 16) (k := 7) rfl)) rfl (by decide +kernel) (Nat.le_of_ble_eq_true rfl) (Nat.le_of_ble_eq_true rfl) rfl (by decide) (lk_Model_lay hγ this (1 : Int32) _ (sI M 11 this 72 ((mI M 11 this 72) - (mI M 11 this 79))) h) (fun _ _ => Qv_r) (fun v M235 hp => Qv_k (R := fun st => E γ k_Model_act 1 698 [some (vr (some (11, this))), some (vi v1), some (vi v2), some (vi v3), some (vi v4), some (vi v5), some (vi v6), some (vi s0), none, none] st M235 (Qv Q)) hp (fun h => ?_))
                    exact E_vret rfl (by decide +kernel) h
              · rw [if_neg b21] at h
                by_cases b22 : v1 = (8 : Int32)
                · rw [if_pos b22] at h
                  refine E.up (fun _ _ hJ => J_tswI (len := 236) (dflt := 565) (lo := 1) (hi := 55) (offs := #[236, 254, 236, 262, 276, 287, 565, 565, 565, 565, 565, 565, 565, 565, 565, 565, 565, 565, 565, 299, 314, 335, 565, 565, 565, 565, 565, 565, 565, 565, 565, 565, 565, 565, 565, 565, 565, 565, 565, 565, 350, 236, 236, 565, 236, 360, 565, 360, 565, 388, 388, 388, 388, 376, 236]) (off := 565) (tgt := 681) (by decide +kernel) (by rw [b22]; decide) (by rw [b22]; decide) (by rw [b22]; rfl) (by decide) hJ) ?_
                  refine E_blk (lv' := [some (vr (some (11, this))), some (vi v1), some (vi v2), some (vi v3), some (vi v4), some (vi v5), some (vi v6), some (vi s0), none, none]) (st' := [vi (8 : Int32), vi v1]) (M1 := (sI M 11 this 72 ((mI M 11 this 72) - (mI M 11 this 79)))) (pc' := 684) (tb_Model hγ) [.iload_n 1, .bipush 8] (by decide +kernel) rfl rfl trivial ?_
                  refine E_icmp_lt (off := 14) (tgt := 698) (by decide +kernel) (by decide) (fun b230 => ?_) (fun b230 => ?_)
                  · rw [if_pos b230] at h
                    exact E_vret rfl (by decide +kernel) h
                  · rw [if_neg b230] at h
                    refine E_blk (lv' := [some (vr (some (11, this))), some (vi v1), some (vi v2), some (vi v3), some (vi v4), some (vi v5), some (vi v6), some (vi s0), none, none]) (st' := [vi (18 : Int32), vi v1]) (M1 := (sI M 11 this 72 ((mI M 11 this 72) - (mI M 11 this 79)))) (pc' := 690) (tb_Model hγ) [.iload_n 1, .bipush 18] (by decide +kernel) rfl rfl trivial ?_
                    refine E_icmp_gt (off := 8) (tgt := 698) (by decide +kernel) (by decide) (fun b231 => ?_) (fun b231 => ?_)
                    · rw [if_pos b231] at h
                      exact E_vret rfl (by decide +kernel) h
                    · rw [if_neg b231] at h
                      refine E_blk (lv' := [some (vr (some (11, this))), some (vi v1), some (vi v2), some (vi v3), some (vi v4), some (vi v5), some (vi v6), some (vi s0), none, none]) (st' := [vi (1 : Int32), vr (some (11, this))]) (M1 := (sI M 11 this 72 ((mI M 11 this 72) - (mI M 11 this 79)))) (pc' := 695) (tb_Model hγ) [.aload_n 0, .iconst 1] (by decide +kernel) rfl rfl trivial ?_
                      refine E_callV (κ' := k_Model_lay) (As := [vi (1 : Int32)]) (st := []) mv_Model_lay (Or.inl (tbk_mem (j := 16) (k := 7) rfl)) rfl (by decide +kernel) (Nat.le_of_ble_eq_true rfl) (Nat.le_of_ble_eq_true rfl) rfl (by decide) (lk_Model_lay hγ this (1 : Int32) _ (sI M 11 this 72 ((mI M 11 this 72) - (mI M 11 this 79))) h) (fun _ _ => Qv_r) (fun v M232 hp => Qv_k (R := fun st => E γ k_Model_act 1 698 [some (vr (some (11, this))), some (vi v1), some (vi v2), some (vi v3), some (vi v4), some (vi v5), some (vi v6), some (vi s0), none, none] st M232 (Qv Q)) hp (fun h => ?_))
                      exact E_vret rfl (by decide +kernel) h
                · rw [if_neg b22] at h
                  by_cases b23 : v1 = (9 : Int32)
                  · rw [if_pos b23] at h
                    refine E.up (fun _ _ hJ => J_tswI (len := 236) (dflt := 565) (lo := 1) (hi := 55) (offs := #[236, 254, 236, 262, 276, 287, 565, 565, 565, 565, 565, 565, 565, 565, 565, 565, 565, 565, 565, 299, 314, 335, 565, 565, 565, 565, 565, 565, 565, 565, 565, 565, 565, 565, 565, 565, 565, 565, 565, 565, 350, 236, 236, 565, 236, 360, 565, 360, 565, 388, 388, 388, 388, 376, 236]) (off := 565) (tgt := 681) (by decide +kernel) (by rw [b23]; decide) (by rw [b23]; decide) (by rw [b23]; rfl) (by decide) hJ) ?_
                    refine E_blk (lv' := [some (vr (some (11, this))), some (vi v1), some (vi v2), some (vi v3), some (vi v4), some (vi v5), some (vi v6), some (vi s0), none, none]) (st' := [vi (8 : Int32), vi v1]) (M1 := (sI M 11 this 72 ((mI M 11 this 72) - (mI M 11 this 79)))) (pc' := 684) (tb_Model hγ) [.iload_n 1, .bipush 8] (by decide +kernel) rfl rfl trivial ?_
                    refine E_icmp_lt (off := 14) (tgt := 698) (by decide +kernel) (by decide) (fun b227 => ?_) (fun b227 => ?_)
                    · rw [if_pos b227] at h
                      exact E_vret rfl (by decide +kernel) h
                    · rw [if_neg b227] at h
                      refine E_blk (lv' := [some (vr (some (11, this))), some (vi v1), some (vi v2), some (vi v3), some (vi v4), some (vi v5), some (vi v6), some (vi s0), none, none]) (st' := [vi (18 : Int32), vi v1]) (M1 := (sI M 11 this 72 ((mI M 11 this 72) - (mI M 11 this 79)))) (pc' := 690) (tb_Model hγ) [.iload_n 1, .bipush 18] (by decide +kernel) rfl rfl trivial ?_
                      refine E_icmp_gt (off := 8) (tgt := 698) (by decide +kernel) (by decide) (fun b228 => ?_) (fun b228 => ?_)
                      · rw [if_pos b228] at h
                        exact E_vret rfl (by decide +kernel) h
                      · rw [if_neg b228] at h
                        refine E_blk (lv' := [some (vr (some (11, this))), some (vi v1), some (vi v2), some (vi v3), some (vi v4), some (vi v5), some (vi v6), some (vi s0), none, none]) (st' := [vi (1 : Int32), vr (some (11, this))]) (M1 := (sI M 11 this 72 ((mI M 11 this 72) - (mI M 11 this 79)))) (pc' := 695) (tb_Model hγ) [.aload_n 0, .iconst 1] (by decide +kernel) rfl rfl trivial ?_
                        refine E_callV (κ' := k_Model_lay) (As := [vi (1 : Int32)]) (st := []) mv_Model_lay (Or.inl (tbk_mem (j := 16) (k := 7) rfl)) rfl (by decide +kernel) (Nat.le_of_ble_eq_true rfl) (Nat.le_of_ble_eq_true rfl) rfl (by decide) (lk_Model_lay hγ this (1 : Int32) _ (sI M 11 this 72 ((mI M 11 this 72) - (mI M 11 this 79))) h) (fun _ _ => Qv_r) (fun v M229 hp => Qv_k (R := fun st => E γ k_Model_act 1 698 [some (vr (some (11, this))), some (vi v1), some (vi v2), some (vi v3), some (vi v4), some (vi v5), some (vi v6), some (vi s0), none, none] st M229 (Qv Q)) hp (fun h => ?_))
                        exact E_vret rfl (by decide +kernel) h
                  · rw [if_neg b23] at h
                    by_cases b24 : v1 = (10 : Int32)
                    · rw [if_pos b24] at h
                      refine E.up (fun _ _ hJ => J_tswI (len := 236) (dflt := 565) (lo := 1) (hi := 55) (offs := #[236, 254, 236, 262, 276, 287, 565, 565, 565, 565, 565, 565, 565, 565, 565, 565, 565, 565, 565, 299, 314, 335, 565, 565, 565, 565, 565, 565, 565, 565, 565, 565, 565, 565, 565, 565, 565, 565, 565, 565, 350, 236, 236, 565, 236, 360, 565, 360, 565, 388, 388, 388, 388, 376, 236]) (off := 565) (tgt := 681) (by decide +kernel) (by rw [b24]; decide) (by rw [b24]; decide) (by rw [b24]; rfl) (by decide) hJ) ?_
                      refine E_blk (lv' := [some (vr (some (11, this))), some (vi v1), some (vi v2), some (vi v3), some (vi v4), some (vi v5), some (vi v6), some (vi s0), none, none]) (st' := [vi (8 : Int32), vi v1]) (M1 := (sI M 11 this 72 ((mI M 11 this 72) - (mI M 11 this 79)))) (pc' := 684) (tb_Model hγ) [.iload_n 1, .bipush 8] (by decide +kernel) rfl rfl trivial ?_
                      refine E_icmp_lt (off := 14) (tgt := 698) (by decide +kernel) (by decide) (fun b224 => ?_) (fun b224 => ?_)
                      · rw [if_pos b224] at h
                        exact E_vret rfl (by decide +kernel) h
                      · rw [if_neg b224] at h
                        refine E_blk (lv' := [some (vr (some (11, this))), some (vi v1), some (vi v2), some (vi v3), some (vi v4), some (vi v5), some (vi v6), some (vi s0), none, none]) (st' := [vi (18 : Int32), vi v1]) (M1 := (sI M 11 this 72 ((mI M 11 this 72) - (mI M 11 this 79)))) (pc' := 690) (tb_Model hγ) [.iload_n 1, .bipush 18] (by decide +kernel) rfl rfl trivial ?_
                        refine E_icmp_gt (off := 8) (tgt := 698) (by decide +kernel) (by decide) (fun b225 => ?_) (fun b225 => ?_)
                        · rw [if_pos b225] at h
                          exact E_vret rfl (by decide +kernel) h
                        · rw [if_neg b225] at h
                          refine E_blk (lv' := [some (vr (some (11, this))), some (vi v1), some (vi v2), some (vi v3), some (vi v4), some (vi v5), some (vi v6), some (vi s0), none, none]) (st' := [vi (1 : Int32), vr (some (11, this))]) (M1 := (sI M 11 this 72 ((mI M 11 this 72) - (mI M 11 this 79)))) (pc' := 695) (tb_Model hγ) [.aload_n 0, .iconst 1] (by decide +kernel) rfl rfl trivial ?_
                          refine E_callV (κ' := k_Model_lay) (As := [vi (1 : Int32)]) (st := []) mv_Model_lay (Or.inl (tbk_mem (j := 16) (k := 7) rfl)) rfl (by decide +kernel) (Nat.le_of_ble_eq_true rfl) (Nat.le_of_ble_eq_true rfl) rfl (by decide) (lk_Model_lay hγ this (1 : Int32) _ (sI M 11 this 72 ((mI M 11 this 72) - (mI M 11 this 79))) h) (fun _ _ => Qv_r) (fun v M226 hp => Qv_k (R := fun st => E γ k_Model_act 1 698 [some (vr (some (11, this))), some (vi v1), some (vi v2), some (vi v3), some (vi v4), some (vi v5), some (vi v6), some (vi s0), none, none] st M226 (Qv Q)) hp (fun h => ?_))
                          exact E_vret rfl (by decide +kernel) h
                    · rw [if_neg b24] at h
                      by_cases b25 : v1 = (11 : Int32)
                      · rw [if_pos b25] at h
                        refine E.up (fun _ _ hJ => J_tswI (len := 236) (dflt := 565) (lo := 1) (hi := 55) (offs := #[236, 254, 236, 262, 276, 287, 565, 565, 565, 565, 565, 565, 565, 565, 565, 565, 565, 565, 565, 299, 314, 335, 565, 565, 565, 565, 565, 565, 565, 565, 565, 565, 565, 565, 565, 565, 565, 565, 565, 565, 350, 236, 236, 565, 236, 360, 565, 360, 565, 388, 388, 388, 388, 376, 236]) (off := 565) (tgt := 681) (by decide +kernel) (by rw [b25]; decide) (by rw [b25]; decide) (by rw [b25]; rfl) (by decide) hJ) ?_
                        refine E_blk (lv' := [some (vr (some (11, this))), some (vi v1), some (vi v2), some (vi v3), some (vi v4), some (vi v5), some (vi v6), some (vi s0), none, none]) (st' := [vi (8 : Int32), vi v1]) (M1 := (sI M 11 this 72 ((mI M 11 this 72) - (mI M 11 this 79)))) (pc' := 684) (tb_Model hγ) [.iload_n 1, .bipush 8] (by decide +kernel) rfl rfl trivial ?_
                        refine E_icmp_lt (off := 14) (tgt := 698) (by decide +kernel) (by decide) (fun b221 => ?_) (fun b221 => ?_)
                        · rw [if_pos b221] at h
                          exact E_vret rfl (by decide +kernel) h
                        · rw [if_neg b221] at h
                          refine E_blk (lv' := [some (vr (some (11, this))), some (vi v1), some (vi v2), some (vi v3), some (vi v4), some (vi v5), some (vi v6), some (vi s0), none, none]) (st' := [vi (18 : Int32), vi v1]) (M1 := (sI M 11 this 72 ((mI M 11 this 72) - (mI M 11 this 79)))) (pc' := 690) (tb_Model hγ) [.iload_n 1, .bipush 18] (by decide +kernel) rfl rfl trivial ?_
                          refine E_icmp_gt (off := 8) (tgt := 698) (by decide +kernel) (by decide) (fun b222 => ?_) (fun b222 => ?_)
                          · rw [if_pos b222] at h
                            exact E_vret rfl (by decide +kernel) h
                          · rw [if_neg b222] at h
                            refine E_blk (lv' := [some (vr (some (11, this))), some (vi v1), some (vi v2), some (vi v3), some (vi v4), some (vi v5), some (vi v6), some (vi s0), none, none]) (st' := [vi (1 : Int32), vr (some (11, this))]) (M1 := (sI M 11 this 72 ((mI M 11 this 72) - (mI M 11 this 79)))) (pc' := 695) (tb_Model hγ) [.aload_n 0, .iconst 1] (by decide +kernel) rfl rfl trivial ?_
                            refine E_callV (κ' := k_Model_lay) (As := [vi (1 : Int32)]) (st := []) mv_Model_lay (Or.inl (tbk_mem (j := 16) (k := 7) rfl)) rfl (by decide +kernel) (Nat.le_of_ble_eq_true rfl) (Nat.le_of_ble_eq_true rfl) rfl (by decide) (lk_Model_lay hγ this (1 : Int32) _ (sI M 11 this 72 ((mI M 11 this 72) - (mI M 11 this 79))) h) (fun _ _ => Qv_r) (fun v M223 hp => Qv_k (R := fun st => E γ k_Model_act 1 698 [some (vr (some (11, this))), some (vi v1), some (vi v2), some (vi v3), some (vi v4), some (vi v5), some (vi v6), some (vi s0), none, none] st M223 (Qv Q)) hp (fun h => ?_))
                            exact E_vret rfl (by decide +kernel) h
                      · rw [if_neg b25] at h
                        by_cases b26 : v1 = (12 : Int32)
                        · rw [if_pos b26] at h
                          refine E.up (fun _ _ hJ => J_tswI (len := 236) (dflt := 565) (lo := 1) (hi := 55) (offs := #[236, 254, 236, 262, 276, 287, 565, 565, 565, 565, 565, 565, 565, 565, 565, 565, 565, 565, 565, 299, 314, 335, 565, 565, 565, 565, 565, 565, 565, 565, 565, 565, 565, 565, 565, 565, 565, 565, 565, 565, 350, 236, 236, 565, 236, 360, 565, 360, 565, 388, 388, 388, 388, 376, 236]) (off := 565) (tgt := 681) (by decide +kernel) (by rw [b26]; decide) (by rw [b26]; decide) (by rw [b26]; rfl) (by decide) hJ) ?_
                          refine E_blk (lv' := [some (vr (some (11, this))), some (vi v1), some (vi v2), some (vi v3), some (vi v4), some (vi v5), some (vi v6), some (vi s0), none, none]) (st' := [vi (8 : Int32), vi v1]) (M1 := (sI M 11 this 72 ((mI M 11 this 72) - (mI M 11 this 79)))) (pc' := 684) (tb_Model hγ) [.iload_n 1, .bipush 8] (by decide +kernel) rfl rfl trivial ?_
                          refine E_icmp_lt (off := 14) (tgt := 698) (by decide +kernel) (by decide) (fun b218 => ?_) (fun b218 => ?_)
                          · rw [if_pos b218] at h
                            exact E_vret rfl (by decide +kernel) h
                          · rw [if_neg b218] at h
                            refine E_blk (lv' := [some (vr (some (11, this))), some (vi v1), some (vi v2), some (vi v3), some (vi v4), some (vi v5), some (vi v6), some (vi s0), none, none]) (st' := [vi (18 : Int32), vi v1]) (M1 := (sI M 11 this 72 ((mI M 11 this 72) - (mI M 11 this 79)))) (pc' := 690) (tb_Model hγ) [.iload_n 1, .bipush 18] (by decide +kernel) rfl rfl trivial ?_
                            refine E_icmp_gt (off := 8) (tgt := 698) (by decide +kernel) (by decide) (fun b219 => ?_) (fun b219 => ?_)
                            · rw [if_pos b219] at h
                              exact E_vret rfl (by decide +kernel) h
                            · rw [if_neg b219] at h
                              refine E_blk (lv' := [some (vr (some (11, this))), some (vi v1), some (vi v2), some (vi v3), some (vi v4), some (vi v5), some (vi v6), some (vi s0), none, none]) (st' := [vi (1 : Int32), vr (some (11, this))]) (M1 := (sI M 11 this 72 ((mI M 11 this 72) - (mI M 11 this 79)))) (pc' := 695) (tb_Model hγ) [.aload_n 0, .iconst 1] (by decide +kernel) rfl rfl trivial ?_
                              refine E_callV (κ' := k_Model_lay) (As := [vi (1 : Int32)]) (st := []) mv_Model_lay (Or.inl (tbk_mem (j := 16) (k := 7) rfl)) rfl (by decide +kernel) (Nat.le_of_ble_eq_true rfl) (Nat.le_of_ble_eq_true rfl) rfl (by decide) (lk_Model_lay hγ this (1 : Int32) _ (sI M 11 this 72 ((mI M 11 this 72) - (mI M 11 this 79))) h) (fun _ _ => Qv_r) (fun v M220 hp => Qv_k (R := fun st => E γ k_Model_act 1 698 [some (vr (some (11, this))), some (vi v1), some (vi v2), some (vi v3), some (vi v4), some (vi v5), some (vi v6), some (vi s0), none, none] st M220 (Qv Q)) hp (fun h => ?_))
                              exact E_vret rfl (by decide +kernel) h
                        · rw [if_neg b26] at h
                          by_cases b27 : v1 = (13 : Int32)
                          · rw [if_pos b27] at h
                            refine E.up (fun _ _ hJ => J_tswI (len := 236) (dflt := 565) (lo := 1) (hi := 55) (offs := #[236, 254, 236, 262, 276, 287, 565, 565, 565, 565, 565, 565, 565, 565, 565, 565, 565, 565, 565, 299, 314, 335, 565, 565, 565, 565, 565, 565, 565, 565, 565, 565, 565, 565, 565, 565, 565, 565, 565, 565, 350, 236, 236, 565, 236, 360, 565, 360, 565, 388, 388, 388, 388, 376, 236]) (off := 565) (tgt := 681) (by decide +kernel) (by rw [b27]; decide) (by rw [b27]; decide) (by rw [b27]; rfl) (by decide) hJ) ?_
                            refine E_blk (lv' := [some (vr (some (11, this))), some (vi v1), some (vi v2), some (vi v3), some (vi v4), some (vi v5), some (vi v6), some (vi s0), none, none]) (st' := [vi (8 : Int32), vi v1]) (M1 := (sI M 11 this 72 ((mI M 11 this 72) - (mI M 11 this 79)))) (pc' := 684) (tb_Model hγ) [.iload_n 1, .bipush 8] (by decide +kernel) rfl rfl trivial ?_
                            refine E_icmp_lt (off := 14) (tgt := 698) (by decide +kernel) (by decide) (fun b215 => ?_) (fun b215 => ?_)
                            · rw [if_pos b215] at h
                              exact E_vret rfl (by decide +kernel) h
                            · rw [if_neg b215] at h
                              refine E_blk (lv' := [some (vr (some (11, this))), some (vi v1), some (vi v2), some (vi v3), some (vi v4), some (vi v5), some (vi v6), some (vi s0), none, none]) (st' := [vi (18 : Int32), vi v1]) (M1 := (sI M 11 this 72 ((mI M 11 this 72) - (mI M 11 this 79)))) (pc' := 690) (tb_Model hγ) [.iload_n 1, .bipush 18] (by decide +kernel) rfl rfl trivial ?_
                              refine E_icmp_gt (off := 8) (tgt := 698) (by decide +kernel) (by decide) (fun b216 => ?_) (fun b216 => ?_)
                              · rw [if_pos b216] at h
                                exact E_vret rfl (by decide +kernel) h
                              · rw [if_neg b216] at h
                                refine E_blk (lv' := [some (vr (some (11, this))), some (vi v1), some (vi v2), some (vi v3), some (vi v4), some (vi v5), some (vi v6), some (vi s0), none, none]) (st' := [vi (1 : Int32), vr (some (11, this))]) (M1 := (sI M 11 this 72 ((mI M 11 this 72) - (mI M 11 this 79)))) (pc' := 695) (tb_Model hγ) [.aload_n 0, .iconst 1] (by decide +kernel) rfl rfl trivial ?_
                                refine E_callV (κ' := k_Model_lay) (As := [vi (1 : Int32)]) (st := []) mv_Model_lay (Or.inl (tbk_mem (j := 16) (k := 7) rfl)) rfl (by decide +kernel) (Nat.le_of_ble_eq_true rfl) (Nat.le_of_ble_eq_true rfl) rfl (by decide) (lk_Model_lay hγ this (1 : Int32) _ (sI M 11 this 72 ((mI M 11 this 72) - (mI M 11 this 79))) h) (fun _ _ => Qv_r) (fun v M217 hp => Qv_k (R := fun st => E γ k_Model_act 1 698 [some (vr (some (11, this))), some (vi v1), some (vi v2), some (vi v3), some (vi v4), some (vi v5), some (vi v6), some (vi s0), none, none] st M217 (Qv Q)) hp (fun h => ?_))
                                exact E_vret rfl (by decide +kernel) h
                          · rw [if_neg b27] at h
                            by_cases b28 : v1 = (14 : Int32)
                            · rw [if_pos b28] at h
                              refine E.up (fun _ _ hJ => J_tswI (len := 236) (dflt := 565) (lo := 1) (hi := 55) (offs := #[236, 254, 236, 262, 276, 287, 565, 565, 565, 565, 565, 565, 565, 565, 565, 565, 565, 565, 565, 299, 314, 335, 565, 565, 565, 565, 565, 565, 565, 565, 565, 565, 565, 565, 565, 565, 565, 565, 565, 565, 350, 236, 236, 565, 236, 360, 565, 360, 565, 388, 388, 388, 388, 376, 236]) (off := 565) (tgt := 681) (by decide +kernel) (by rw [b28]; decide) (by rw [b28]; decide) (by rw [b28]; rfl) (by decide) hJ) ?_
                              refine E_blk (lv' := [some (vr (some (11, this))), some (vi v1), some (vi v2), some (vi v3), some (vi v4), some (vi v5), some (vi v6), some (vi s0), none, none]) (st' := [vi (8 : Int32), vi v1]) (M1 := (sI M 11 this 72 ((mI M 11 this 72) - (mI M 11 this 79)))) (pc' := 684) (tb_Model hγ) [.iload_n 1, .bipush 8] (by decide +kernel) rfl rfl trivial ?_
                              refine E_icmp_lt (off := 14) (tgt := 698) (by decide +kernel) (by decide) (fun b212 => ?_) (fun b212 => ?_)
                              · rw [if_pos b212] at h
                                exact E_vret rfl (by decide +kernel) h
                              · rw [if_neg b212] at h
                                refine E_blk (lv' := [some (vr (some (11, this))), some (vi v1), some (vi v2), some (vi v3), some (vi v4), some (vi v5), some (vi v6), some (vi s0), none, none]) (st' := [vi (18 : Int32), vi v1]) (M1 := (sI M 11 this 72 ((mI M 11 this 72) - (mI M 11 this 79)))) (pc' := 690) (tb_Model hγ) [.iload_n 1, .bipush 18] (by decide +kernel) rfl rfl trivial ?_
                                refine E_icmp_gt (off := 8) (tgt := 698) (by decide +kernel) (by decide) (fun b213 => ?_) (fun b213 => ?_)
                                · rw [if_pos b213] at h
                                  exact E_vret rfl (by decide +kernel) h
                                · rw [if_neg b213] at h
                                  refine E_blk (lv' := [some (vr (some (11, this))), some (vi v1), some (vi v2), some (vi v3), some (vi v4), some (vi v5), some (vi v6), some (vi s0), none, none]) (st' := [vi (1 : Int32), vr (some (11, this))]) (M1 := (sI M 11 this 72 ((mI M 11 this 72) - (mI M 11 this 79)))) (pc' := 695) (tb_Model hγ) [.aload_n 0, .iconst 1] (by decide +kernel) rfl rfl trivial ?_
                                  refine E_callV (κ' := k_Model_lay) (As := [vi (1 : Int32)]) (st := []) mv_Model_lay (Or.inl (tbk_mem (j := 16) (k := 7) rfl)) rfl (by decide +kernel) (Nat.le_of_ble_eq_true rfl) (Nat.le_of_ble_eq_true rfl) rfl (by decide) (lk_Model_lay hγ this (1 : Int32) _ (sI M 11 this 72 ((mI M 11 this 72) - (mI M 11 this 79))) h) (fun _ _ => Qv_r) (fun v M214 hp => Qv_k (R := fun st => E γ k_Model_act 1 698 [some (vr (some (11, this))), some (vi v1), some (vi v2), some (vi v3), some (vi v4), some (vi v5), some (vi v6), some (vi s0), none, none] st M214 (Qv Q)) hp (fun h => ?_))
                                  exact E_vret rfl (by decide +kernel) h
                            · rw [if_neg b28] at h
                              by_cases b29 : v1 = (15 : Int32)
                              · rw [if_pos b29] at h
                                refine E.up (fun _ _ hJ => J_tswI (len := 236) (dflt := 565) (lo := 1) (hi := 55) (offs := #[236, 254, 236, 262, 276, 287, 565, 565, 565, 565, 565, 565, 565, 565, 565, 565, 565, 565, 565, 299, 314, 335, 565, 565, 565, 565, 565, 565, 565, 565, 565, 565, 565, 565, 565, 565, 565, 565, 565, 565, 350, 236, 236, 565, 236, 360, 565, 360, 565, 388, 388, 388, 388, 376, 236]) (off := 565) (tgt := 681) (by decide +kernel) (by rw [b29]; decide) (by rw [b29]; decide) (by rw [b29]; rfl) (by decide) hJ) ?_
                                refine E_blk (lv' := [some (vr (some (11, this))), some (vi v1), some (vi v2), some (vi v3), some (vi v4), some (vi v5), some (vi v6), some (vi s0), none, none]) (st' := [vi (8 : Int32), vi v1]) (M1 := (sI M 11 this 72 ((mI M 11 this 72) - (mI M 11 this 79)))) (pc' := 684) (tb_Model hγ) [.iload_n 1, .bipush 8] (by decide +kernel) rfl rfl trivial ?_
                                refine E_icmp_lt (off := 14) (tgt := 698) (by decide +kernel) (by decide) (fun b209 => ?_) (fun b209 => ?_)
                                · rw [if_pos b209] at h
                                  exact E_vret rfl (by decide +kernel) h
                                · rw [if_neg b209] at h
                                  refine E_blk (lv' := [some (vr (some (11, this))), some (vi v1), some (vi v2), some (vi v3), some (vi v4), some (vi v5), some (vi v6), some (vi s0), none, none]) (st' := [vi (18 : Int32), vi v1]) (M1 := (sI M 11 this 72 ((mI M 11 this 72) - (mI M 11 this 79)))) (pc' := 690) (tb_Model hγ) [.iload_n 1, .bipush 18] (by decide +kernel) rfl rfl trivial ?_
                                  refine E_icmp_gt (off := 8) (tgt := 698) (by decide +kernel) (by decide) (fun b210 => ?_) (fun b210 => ?_)
                                  · rw [if_pos b210] at h
                                    exact E_vret rfl (by decide +kernel) h
                                  · rw [if_neg b210] at h
                                    refine E_blk (lv' := [some (vr (some (11, this))), some (vi v1), some (vi v2), some (vi v3), some (vi v4), some (vi v5), some (vi v6), some (vi s0), none, none]) (st' := [vi (1 : Int32), vr (some (11, this))]) (M1 := (sI M 11 this 72 ((mI M 11 this 72) - (mI M 11 this 79)))) (pc' := 695) (tb_Model hγ) [.aload_n 0, .iconst 1] (by decide +kernel) rfl rfl trivial ?_
                                    refine E_callV (κ' := k_Model_lay) (As := [vi (1 : Int32)]) (st := []) mv_Model_lay (Or.inl (tbk_mem (j := 16) (k := 7) rfl)) rfl (by decide +kernel) (Nat.le_of_ble_eq_true rfl) (Nat.le_of_ble_eq_true rfl) rfl (by decide) (lk_Model_lay hγ this (1 : Int32) _ (sI M 11 this 72 ((mI M 11 this 72) - (mI M 11 this 79))) h) (fun _ _ => Qv_r) (fun v M211 hp => Qv_k (R := fun st => E γ k_Model_act 1 698 [some (vr (some (11, this))), some (vi v1), some (vi v2), some (vi v3), some (vi v4), some (vi v5), some (vi v6), some (vi s0), none, none] st M211 (Qv Q)) hp (fun h => ?_))
                                    exact E_vret rfl (by decide +kernel) h
                              · rw [if_neg b29] at h
                                by_cases b30 : v1 = (16 : Int32)
                                · rw [if_pos b30] at h
                                  refine E.up (fun _ _ hJ => J_tswI (len := 236) (dflt := 565) (lo := 1) (hi := 55) (offs := #[236, 254, 236, 262, 276, 287, 565, 565, 565, 565, 565, 565, 565, 565, 565, 565, 565, 565, 565, 299, 314, 335, 565, 565, 565, 565, 565, 565, 565, 565, 565, 565, 565, 565, 565, 565, 565, 565, 565, 565, 350, 236, 236, 565, 236, 360, 565, 360, 565, 388, 388, 388, 388, 376, 236]) (off := 565) (tgt := 681) (by decide +kernel) (by rw [b30]; decide) (by rw [b30]; decide) (by rw [b30]; rfl) (by decide) hJ) ?_
                                  refine E_blk (lv' := [some (vr (some (11, this))), some (vi v1), some (vi v2), some (vi v3), some (vi v4), some (vi v5), some (vi v6), some (vi s0), none, none]) (st' := [vi (8 : Int32), vi v1]) (M1 := (sI M 11 this 72 ((mI M 11 this 72) - (mI M 11 this 79)))) (pc' := 684) (tb_Model hγ) [.iload_n 1, .bipush 8] (by decide +kernel) rfl rfl trivial ?_
                                  refine E_icmp_lt (off := 14) (tgt := 698) (by decide +kernel) (by decide) (fun b206 => ?_) (fun b206 => ?_)
                                  · rw [if_pos b206] at h
                                    exact E_vret rfl (by decide +kernel) h
                                  · rw [if_neg b206] at h
                                    refine E_blk (lv' := [some (vr (some (11, this))), some (vi v1), some (vi v2), some (vi v3), some (vi v4), some (vi v5), some (vi v6), some (vi s0), none, none]) (st' := [vi (18 : Int32), vi v1]) (M1 := (sI M 11 this 72 ((mI M 11 this 72) - (mI M 11 this 79)))) (pc' := 690) (tb_Model hγ) [.iload_n 1, .bipush 18] (by decide +kernel) rfl rfl trivial ?_
                                    refine E_icmp_gt (off := 8) (tgt := 698) (by decide +kernel) (by decide) (fun b207 => ?_) (fun b207 => ?_)
                                    · rw [if_pos b207] at h
                                      exact E_vret rfl (by decide +kernel) h
                                    · rw [if_neg b207] at h
                                      refine E_blk (lv' := [some (vr (some (11, this))), some (vi v1), some (vi v2), some (vi v3), some (vi v4), some (vi v5), some (vi v6), some (vi s0), none, none]) (st' := [vi (1 : Int32), vr (some (11, this))]) (M1 := (sI M 11 this 72 ((mI M 11 this 72) - (mI M 11 this 79)))) (pc' := 695) (tb_Model hγ) [.aload_n 0, .iconst 1] (by decide +kernel) rfl rfl trivial ?_
                                      refine E_callV (κ' := k_Model_lay) (As := [vi (1 : Int32)]) (st := []) mv_Model_lay (Or.inl (tbk_mem (j := 16) (k := 7) rfl)) rfl (by decide +kernel) (Nat.le_of_ble_eq_true rfl) (Nat.le_of_ble_eq_true rfl) rfl (by decide) (lk_Model_lay hγ this (1 : Int32) _ (sI M 11 this 72 ((mI M 11 this 72) - (mI M 11 this 79))) h) (fun _ _ => Qv_r) (fun v M208 hp => Qv_k (R := fun st => E γ k_Model_act 1 698 [some (vr (some (11, this))), some (vi v1), some (vi v2), some (vi v3), some (vi v4), some (vi v5), some (vi v6), some (vi s0), none, none] st M208 (Qv Q)) hp (fun h => ?_))
                                      exact E_vret rfl (by decide +kernel) h
                                · rw [if_neg b30] at h
                                  by_cases b31 : v1 = (17 : Int32)
                                  · rw [if_pos b31] at h
                                    refine E.up (fun _ _ hJ => J_tswI (len := 236) (dflt := 565) (lo := 1) (hi := 55) (offs := #[236, 254, 236, 262, 276, 287, 565, 565, 565, 565, 565, 565, 565, 565, 565, 565, 565, 565, 565, 299, 314, 335, 565, 565, 565, 565, 565, 565, 565, 565, 565, 565, 565, 565, 565, 565, 565, 565, 565, 565, 350, 236, 236, 565, 236, 360, 565, 360, 565, 388, 388, 388, 388, 376, 236]) (off := 565) (tgt := 681) (by decide +kernel) (by rw [b31]; decide) (by rw [b31]; decide) (by rw [b31]; rfl) (by decide) hJ) ?_
                                    refine E_blk (lv' := [some (vr (some (11, this))), some (vi v1), some (vi v2), some (vi v3), some (vi v4), some (vi v5), some (vi v6), some (vi s0), none, none]) (st' := [vi (8 : Int32), vi v1]) (M1 := (sI M 11 this 72 ((mI M 11 this 72) - (mI M 11 this 79)))) (pc' := 684) (tb_Model hγ) [.iload_n 1, .bipush 8] (by decide +kernel) rfl rfl trivial ?_
                                    refine E_icmp_lt (off := 14) (tgt := 698) (by decide +kernel) (by decide) (fun b203 => ?_) (fun b203 => ?_)
                                    · rw [if_pos b203] at h
                                      exact E_vret rfl (by decide +kernel) h
                                    · rw [if_neg b203] at h
                                      refine E_blk (lv' := [some (vr (some (11, this))), some (vi v1), some (vi v2), some (vi v3), some (vi v4), some (vi v5), some (vi v6), some (vi s0), none, none]) (st' := [vi (18 : Int32), vi v1]) (M1 := (sI M 11 this 72 ((mI M 11 this 72) - (mI M 11 this 79)))) (pc' := 690) (tb_Model hγ) [.iload_n 1, .bipush 18] (by decide +kernel) rfl rfl trivial ?_
                                      refine E_icmp_gt (off := 8) (tgt := 698) (by decide +kernel) (by decide) (fun b204 => ?_) (fun b204 => ?_)
                                      · rw [if_pos b204] at h
                                        exact E_vret rfl (by decide +kernel) h
                                      · rw [if_neg b204] at h
                                        refine E_blk (lv' := [some (vr (some (11, this))), some (vi v1), some (vi v2), some (vi v3), some (vi v4), some (vi v5), some (vi v6), some (vi s0), none, none]) (st' := [vi (1 : Int32), vr (some (11, this))]) (M1 := (sI M 11 this 72 ((mI M 11 this 72) - (mI M 11 this 79)))) (pc' := 695) (tb_Model hγ) [.aload_n 0, .iconst 1] (by decide +kernel) rfl rfl trivial ?_
                                        refine E_callV (κ' := k_Model_lay) (As := [vi (1 : Int32)]) (st := []) mv_Model_lay (Or.inl (tbk_mem (j := 16) (k := 7) rfl)) rfl (by decide +kernel) (Nat.le_of_ble_eq_true rfl) (Nat.le_of_ble_eq_true rfl) rfl (by decide) (lk_Model_lay hγ this (1 : Int32) _ (sI M 11 this 72 ((mI M 11 this 72) - (mI M 11 this 79))) h) (fun _ _ => Qv_r) (fun v M205 hp => Qv_k (R := fun st => E γ k_Model_act 1 698 [some (vr (some (11, this))), some (vi v1), some (vi v2), some (vi v3), some (vi v4), some (vi v5), some (vi v6), some (vi s0), none, none] st M205 (Qv Q)) hp (fun h => ?_))
                                        exact E_vret rfl (by decide +kernel) h
                                  · rw [if_neg b31] at h
                                    by_cases b32 : v1 = (18 : Int32)
                                    · rw [if_pos b32] at h
                                      refine E.up (fun _ _ hJ => J_tswI (len := 236) (dflt := 565) (lo := 1) (hi := 55) (offs := #[236, 254, 236, 262, 276, 287, 565, 565, 565, 565, 565, 565, 565, 565, 565, 565, 565, 565, 565, 299, 314, 335, 565, 565, 565, 565, 565, 565, 565, 565, 565, 565, 565, 565, 565, 565, 565, 565, 565, 565, 350, 236, 236, 565, 236, 360, 565, 360, 565, 388, 388, 388, 388, 376, 236]) (off := 565) (tgt := 681) (by decide +kernel) (by rw [b32]; decide) (by rw [b32]; decide) (by rw [b32]; rfl) (by decide) hJ) ?_
                                      refine E_blk (lv' := [some (vr (some (11, this))), some (vi v1), some (vi v2), some (vi v3), some (vi v4), some (vi v5), some (vi v6), some (vi s0), none, none]) (st' := [vi (8 : Int32), vi v1]) (M1 := (sI M 11 this 72 ((mI M 11 this 72) - (mI M 11 this 79)))) (pc' := 684) (tb_Model hγ) [.iload_n 1, .bipush 8] (by decide +kernel) rfl rfl trivial ?_
                                      refine E_icmp_lt (off := 14) (tgt := 698) (by decide +kernel) (by decide) (fun b200 => ?_) (fun b200 => ?_)
                                      · rw [if_pos b200] at h
                                        exact E_vret rfl (by decide +kernel) h
                                      · rw [if_neg b200] at h
                                        refine E_blk (lv' := [some (vr (some (11, this))), some (vi v1), some (vi v2), some (vi v3), some (vi v4), some (vi v5), some (vi v6), some (vi s0), none, none]) (st' := [vi (18 : Int32), vi v1]) (M1 := (sI M 11 this 72 ((mI M 11 this 72) - (mI M 11 this 79)))) (pc' := 690) (tb_Model hγ) [.iload_n 1, .bipush 18] (by decide +kernel) rfl rfl trivial ?_
                                        refine E_icmp_gt (off := 8) (tgt := 698) (by decide +kernel) (by decide) (fun b201 => ?_) (fun b201 => ?_)
                                        · rw [if_pos b201] at h
                                          exact E_vret rfl (by decide +kernel) h
                                        · rw [if_neg b201] at h
                                          refine E_blk (lv' := [some (vr (some (11, this))), some (vi v1), some (vi v2), some (vi v3), some (vi v4), some (vi v5), some (vi v6), some (vi s0), none, none]) (st' := [vi (1 : Int32), vr (some (11, this))]) (M1 := (sI M 11 this 72 ((mI M 11 this 72) - (mI M 11 this 79)))) (pc' := 695) (tb_Model hγ) [.aload_n 0, .iconst 1] (by decide +kernel) rfl rfl trivial ?_
                                          refine E_callV (κ' := k_Model_lay) (As := [vi (1 : Int32)]) (st := []) mv_Model_lay (Or.inl (tbk_mem (j := 16) (k := 7) rfl)) rfl (by decide +kernel) (Nat.le_of_ble_eq_true rfl) (Nat.le_of_ble_eq_true rfl) rfl (by decide) (lk_Model_lay hγ this (1 : Int32) _ (sI M 11 this 72 ((mI M 11 this 72) - (mI M 11 this 79))) h) (fun _ _ => Qv_r) (fun v M202 hp => Qv_k (R := fun st => E γ k_Model_act 1 698 [some (vr (some (11, this))), some (vi v1), some (vi v2), some (vi v3), some (vi v4), some (vi v5), some (vi v6), some (vi s0), none, none] st M202 (Qv Q)) hp (fun h => ?_))
                                          exact E_vret rfl (by decide +kernel) h
                                    · rw [if_neg b32] at h
                                      by_cases b33 : v1 = (19 : Int32)
                                      · rw [if_pos b33] at h
                                        refine E.up (fun _ _ hJ => J_tswI (len := 236) (dflt := 565) (lo := 1) (hi := 55) (offs := #[236, 254, 236, 262, 276, 287, 565, 565, 565, 565, 565, 565, 565, 565, 565, 565, 565, 565, 565, 299, 314, 335, 565, 565, 565, 565, 565, 565, 565, 565, 565, 565, 565, 565, 565, 565, 565, 565, 565, 565, 350, 236, 236, 565, 236, 360, 565, 360, 565, 388, 388, 388, 388, 376, 236]) (off := 565) (tgt := 681) (by decide +kernel) (by rw [b33]; decide) (by rw [b33]; decide) (by rw [b33]; rfl) (by decide) hJ) ?_
                                        refine E_blk (lv' := [some (vr (some (11, this))), some (vi v1), some (vi v2), some (vi v3), some (vi v4), some (vi v5), some (vi v6), some (vi s0), none, none]) (st' := [vi (8 : Int32), vi v1]) (M1 := (sI M 11 this 72 ((mI M 11 this 72) - (mI M 11 this 79)))) (pc' := 684) (tb_Model hγ) [.iload_n 1, .bipush 8] (by decide +kernel) rfl rfl trivial ?_
                                        refine E_icmp_lt (off := 14) (tgt := 698) (by decide +kernel) (by decide) (fun b197 => ?_) (fun b197 => ?_)
                                        · rw [if_pos b197] at h
                                          exact E_vret rfl (by decide +kernel) h
                                        · rw [if_neg b197] at h
                                          refine E_blk (lv' := [some (vr (some (11, this))), some (vi v1), some (vi v2), some (vi v3), some (vi v4), some (vi v5), some (vi v6), some (vi s0), none, none]) (st' := [vi (18 : Int32), vi v1]) (M1 := (sI M 11 this 72 ((mI M 11 this 72) - (mI M 11 this 79)))) (pc' := 690) (tb_Model hγ) [.iload_n 1, .bipush 18] (by decide +kernel) rfl rfl trivial ?_
                                          refine E_icmp_gt (off := 8) (tgt := 698) (by decide +kernel) (by decide) (fun b198 => ?_) (fun b198 => ?_)
                                          · rw [if_pos b198] at h
                                            exact E_vret rfl (by decide +kernel) h
                                          · rw [if_neg b198] at h
                                            refine E_blk (lv' := [some (vr (some (11, this))), some (vi v1), some (vi v2), some (vi v3), some (vi v4), some (vi v5), some (vi v6), some (vi s0), none, none]) (st' := [vi (1 : Int32), vr (some (11, this))]) (M1 := (sI M 11 this 72 ((mI M 11 this 72) - (mI M 11 this 79)))) (pc' := 695) (tb_Model hγ) [.aload_n 0, .iconst 1] (by decide +kernel) rfl rfl trivial ?_
                                            refine E_callV (κ' := k_Model_lay) (As := [vi (1 : Int32)]) (st := []) mv_Model_lay (Or.inl (tbk_mem (j := 16) (k := 7) rfl)) rfl (by decide +kernel) (Nat.le_of_ble_eq_true rfl) (Nat.le_of_ble_eq_true rfl) rfl (by decide) (lk_Model_lay hγ this (1 : Int32) _ (sI M 11 this 72 ((mI M 11 this 72) - (mI M 11 this 79))) h) (fun _ _ => Qv_r) (fun v M199 hp => Qv_k (R := fun st => E γ k_Model_act 1 698 [some (vr (some (11, this))), some (vi v1), some (vi v2), some (vi v3), some (vi v4), some (vi v5), some (vi v6), some (vi s0), none, none] st M199 (Qv Q)) hp (fun h => ?_))
                                            exact E_vret rfl (by decide +kernel) h
                                      · rw [if_neg b33] at h
                                        by_cases b34 : v1 = (20 : Int32)
                                        · rw [if_pos b34] at h
                                          refine E.up (fun _ _ hJ => J_tswI (len := 236) (dflt := 565) (lo := 1) (hi := 55) (offs := #[236, 254, 236, 262, 276, 287, 565, 565, 565, 565, 565, 565, 565, 565, 565, 565, 565, 565, 565, 299, 314, 335, 565, 565, 565, 565, 565, 565, 565, 565, 565, 565, 565, 565, 565, 565, 565, 565, 565, 565, 350, 236, 236, 565, 236, 360, 565, 360, 565, 388, 388, 388, 388, 376, 236]) (off := 299) (tgt := 415) (by decide +kernel) (by rw [b34]; decide) (by rw [b34]; decide) (by rw [b34]; rfl) (by decide) hJ) ?_
                                          refine E_blk (lv' := [some (vr (some (11, this))), some (vi v1), some (vi v2), some (vi v3), some (vi v4), some (vi v5), some (vi v6), some (vi s0), none, none]) (st' := [vi v5, vr (some (11, this))]) (M1 := (sI M 11 this 72 ((mI M 11 this 72) - (mI M 11 this 79)))) (pc' := 418) (tb_Model hγ) [.aload_n 0, .iload 5] (by decide +kernel) rfl rfl trivial ?_
                                          refine E_callV (κ' := k_Model_lay) (As := [vi v5]) (st := []) mv_Model_lay (Or.inl (tbk_mem (j := 16) (k := 7) rfl)) rfl (by decide +kernel) (Nat.le_of_ble_eq_true rfl) (Nat.le_of_ble_eq_true rfl) rfl (by decide) (lk_Model_lay hγ this v5 _ (sI M 11 this 72 ((mI M 11 this 72) - (mI M 11 this 79))) h) (fun _ _ => Qv_r) (fun v M195 hp => Qv_k (R := fun st => E γ k_Model_act 1 421 [some (vr (some (11, this))), some (vi v1), some (vi v2), some (vi v3), some (vi v4), some (vi v5), some (vi v6), some (vi s0), none, none] st M195 (Qv Q)) hp (fun h => ?_))
                                          refine E_blk (lv' := [some (vr (some (11, this))), some (vi v1), some (vi v2), some (vi v3), some (vi v4), some (vi v5), some (vi v6), some (vi s0), none, none]) (st' := [vi v5, vr (some (11, this))]) (M1 := M195) (pc' := 424) (tb_Model hγ) [.aload_n 0, .iload 5] (by decide +kernel) rfl rfl trivial ?_
                                          refine E_callV (κ' := k_Model_lay) (As := [vi v5]) (st := []) mv_Model_lay (Or.inl (tbk_mem (j := 16) (k := 7) rfl)) rfl (by decide +kernel) (Nat.le_of_ble_eq_true rfl) (Nat.le_of_ble_eq_true rfl) rfl (by decide) (lk_Model_lay hγ this v5 _ M195 h) (fun _ _ => Qv_r) (fun v M196 hp => Qv_k (R := fun st => E γ k_Model_act 1 427 [some (vr (some (11, this))), some (vi v1), some (vi v2), some (vi v3), some (vi v4), some (vi v5), some (vi v6), some (vi s0), none, none] st M196 (Qv Q)) hp (fun h => ?_))
                                          refine E_goto (off := 271) (tgt := 698) (by decide +kernel) (by decide) ?_
                                          exact E_vret rfl (by decide +kernel) h
                                        · rw [if_neg b34] at h
                                          by_cases b35 : v1 = (21 : Int32)
                                          · rw [if_pos b35] at h
                                            refine E.up (fun _ _ hJ => J_tswI (len := 236) (dflt := 565) (lo := 1) (hi := 55) (offs := #[236, 254, 236, 262, 276, 287, 565, 565, 565, 565, 565, 565, 565, 565, 565, 565, 565, 565, 565, 299, 314, 335, 565, 565, 565, 565, 565, 565, 565, 565, 565, 565, 565, 565, 565, 565, 565, 565, 565, 565, 350, 236, 236, 565, 236, 360, 565, 360, 565, 388, 388, 388, 388, 376, 236]) (off := 314) (tgt := 430) (by decide +kernel) (by rw [b35]; decide) (by rw [b35]; decide) (by rw [b35]; rfl) (by decide) hJ) ?_
                                            refine E_blk (lv' := [some (vr (some (11, this))), some (vi v1), some (vi v2), some (vi v3), some (vi v4), some (vi v5), some (vi v6), some (vi s0), none, none]) (st' := [vi v5, vr (some (11, this))]) (M1 := (sI M 11 this 72 ((mI M 11 this 72) - (mI M 11 this 79)))) (pc' := 433) (tb_Model hγ) [.aload_n 0, .iload 5] (by decide +kernel) rfl rfl trivial ?_
                                            refine E_callV (κ' := k_Model_lay) (As := [vi v5]) (st := []) mv_Model_lay (Or.inl (tbk_mem (j := 16) (k := 7) rfl)) rfl (by decide +kernel) (Nat.le_of_ble_eq_true rfl) (Nat.le_of_ble_eq_true rfl) rfl (by decide) (lk_Model_lay hγ this v5 _ (sI M 11 this 72 ((mI M 11 this 72) - (mI M 11 this 79))) h) (fun _ _ => Qv_r) (fun v M192 hp => Qv_k (R := fun st => E γ k_Model_act 1 436 [some (vr (some (11, this))), some (vi v1), some (vi v2), some (vi v3), some (vi v4), some (vi v5), some (vi v6), some (vi s0), none, none] st M192 (Qv Q)) hp (fun h => ?_))
                                            refine E_blk (lv' := [some (vr (some (11, this))), some (vi v1), some (vi v2), some (vi v3), some (vi v4), some (vi v5), some (vi v6), some (vi s0), none, none]) (st' := [vi v6, vr (some (11, this))]) (M1 := M192) (pc' := 439) (tb_Model hγ) [.aload_n 0, .iload 6] (by decide +kernel) rfl rfl trivial ?_
                                            refine E_callV (κ' := k_Model_lay) (As := [vi v6]) (st := []) mv_Model_lay (Or.inl (tbk_mem (j := 16) (k := 7) rfl)) rfl (by decide +kernel) (Nat.le_of_ble_eq_true rfl) (Nat.le_of_ble_eq_true rfl) rfl (by decide) (lk_Model_lay hγ this v6 _ M192 h) (fun _ _ => Qv_r) (fun v M193 hp => Qv_k (R := fun st => E γ k_Model_act 1 442 [some (vr (some (11, this))), some (vi v1), some (vi v2), some (vi v3), some (vi v4), some (vi v5), some (vi v6), some (vi s0), none, none] st M193 (Qv Q)) hp (fun h => ?_))
                                            refine E_blk (lv' := [some (vr (some (11, this))), some (vi v1), some (vi v2), some (vi v3), some (vi v4), some (vi v5), some (vi v6), some (vi s0), none, none]) (st' := [vi v5, vr (some (11, this))]) (M1 := M193) (pc' := 445) (tb_Model hγ) [.aload_n 0, .iload 5] (by decide +kernel) rfl rfl trivial ?_
                                            refine E_callV (κ' := k_Model_lay) (As := [vi v5]) (st := []) mv_Model_lay (Or.inl (tbk_mem (j := 16) (k := 7) rfl)) rfl (by decide +kernel) (Nat.le_of_ble_eq_true rfl) (Nat.le_of_ble_eq_true rfl) rfl (by decide) (lk_Model_lay hγ this v5 _ M193 h) (fun _ _ => Qv_r) (fun v M194 hp => Qv_k (R := fun st => E γ k_Model_act 1 448 [some (vr (some (11, this))), some (vi v1), some (vi v2), some (vi v3), some (vi v4), some (vi v5), some (vi v6), some (vi s0), none, none] st M194 (Qv Q)) hp (fun h => ?_))
                                            refine E_goto (off := 250) (tgt := 698) (by decide +kernel) (by decide) ?_
                                            exact E_vret rfl (by decide +kernel) h
                                          · rw [if_neg b35] at h
                                            by_cases b36 : v1 = (22 : Int32)
                                            · rw [if_pos b36] at h
                                              refine E.up (fun _ _ hJ => J_tswI (len := 236) (dflt := 565) (lo := 1) (hi := 55) (offs := #[236, 254, 236, 262, 276, 287, 565, 565, 565, 565, 565, 565, 565, 565, 565, 565, 565, 565, 565, 299, 314, 335, 565, 565, 565, 565, 565, 565, 565, 565, 565, 565, 565, 565, 565, 565, 565, 565, 565, 565, 350, 236, 236, 565, 236, 360, 565, 360, 565, 388, 388, 388, 388, 376, 236]) (off := 335) (tgt := 451) (by decide +kernel) (by rw [b36]; decide) (by rw [b36]; decide) (by rw [b36]; rfl) (by decide) hJ) ?_
                                              refine E_blk (lv' := [some (vr (some (11, this))), some (vi v1), some (vi v2), some (vi v3), some (vi v4), some (vi v5), some (vi v6), some (vi s0), none, none]) (st' := [vi v5, vr (some (11, this))]) (M1 := (sI M 11 this 72 ((mI M 11 this 72) - (mI M 11 this 79)))) (pc' := 454) (tb_Model hγ) [.aload_n 0, .iload 5] (by decide +kernel) rfl rfl trivial ?_
                                              refine E_callV (κ' := k_Model_lay) (As := [vi v5]) (st := []) mv_Model_lay (Or.inl (tbk_mem (j := 16) (k := 7) rfl)) rfl (by decide +kernel) (Nat.le_of_ble_eq_true rfl) (Nat.le_of_ble_eq_true rfl) rfl (by decide) (lk_Model_lay hγ this v5 _ (sI M 11 this 72 ((mI M 11 this 72) - (mI M 11 this 79))) h) (fun _ _ => Qv_r) (fun v M190 hp => Qv_k (R := fun st => E γ k_Model_act 1 457 [some (vr (some (11, this))), some (vi v1), some (vi v2), some (vi v3), some (vi v4), some (vi v5), some (vi v6), some (vi s0), none, none] st M190 (Qv Q)) hp (fun h => ?_))
                                              refine E_blk (lv' := [some (vr (some (11, this))), some (vi v1), some (vi v2), some (vi v3), some (vi v4), some (vi v5), some (vi v6), some (vi s0), none, none]) (st' := [vi v6, vr (some (11, this))]) (M1 := M190) (pc' := 460) (tb_Model hγ) [.aload_n 0, .iload 6] (by decide +kernel) rfl rfl trivial ?_
                                              refine E_callV (κ' := k_Model_lay) (As := [vi v6]) (st := []) mv_Model_lay (Or.inl (tbk_mem (j := 16) (k := 7) rfl)) rfl (by decide +kernel) (Nat.le_of_ble_eq_true rfl) (Nat.le_of_ble_eq_true rfl) rfl (by decide) (lk_Model_lay hγ this v6 _ M190 h) (fun _ _ => Qv_r) (fun v M191 hp => Qv_k (R := fun st => E γ k_Model_act 1 463 [some (vr (some (11, this))), some (vi v1), some (vi v2), some (vi v3), some (vi v4), some (vi v5), some (vi v6), some (vi s0), none, none] st M191 (Qv Q)) hp (fun h => ?_))
                                              refine E_goto (off := 235) (tgt := 698) (by decide +kernel) (by decide) ?_
                                              exact E_vret rfl (by decide +kernel) h
                                            · rw [if_neg b36] at h
                                              by_cases b37 : v1 = (23 : Int32)
                                              · rw [if_pos b37] at h
                                                refine E.up (fun _ _ hJ => J_tswI (len := 236) (dflt := 565) (lo := 1) (hi := 55) (offs := #[236, 254, 236, 262, 276, 287, 565, 565, 565, 565, 565, 565, 565, 565, 565, 565, 565, 565, 565, 299, 314, 335, 565, 565, 565, 565, 565, 565, 565, 565, 565, 565, 565, 565, 565, 565, 565, 565, 565, 565, 350, 236, 236, 565, 236, 360, 565, 360, 565, 388, 388, 388, 388, 376, 236]) (off := 565) (tgt := 681) (by decide +kernel) (by rw [b37]; decide) (by rw [b37]; decide) (by rw [b37]; rfl) (by decide) hJ) ?_
                                                refine E_blk (lv' := [some (vr (some (11, this))), some (vi v1), some (vi v2), some (vi v3), some (vi v4), some (vi v5), some (vi v6), some (vi s0), none, none]) (st' := [vi (8 : Int32), vi v1]) (M1 := (sI M 11 this 72 ((mI M 11 this 72) - (mI M 11 this 79)))) (pc' := 684) (tb_Model hγ) [.iload_n 1, .bipush 8] (by decide +kernel) rfl rfl trivial ?_
                                                refine E_icmp_lt (off := 14) (tgt := 698) (by decide +kernel) (by decide) (fun b187 => ?_) (fun b187 => ?_)
                                                · rw [if_pos b187] at h
                                                  exact E_vret rfl (by decide +kernel) h
                                                · rw [if_neg b187] at h
                                                  refine E_blk (lv' := [some (vr (some (11, this))), some (vi v1), some (vi v2), some (vi v3), some (vi v4), some (vi v5), some (vi v6), some (vi s0), none, none]) (st' := [vi (18 : Int32), vi v1]) (M1 := (sI M 11 this 72 ((mI M 11 this 72) - (mI M 11 this 79)))) (pc' := 690) (tb_Model hγ) [.iload_n 1, .bipush 18] (by decide +kernel) rfl rfl trivial ?_
                                                  refine E_icmp_gt (off := 8) (tgt := 698) (by decide +kernel) (by decide) (fun b188 => ?_) (fun b188 => ?_)
                                                  · rw [if_pos b188] at h
                                                    exact E_vret rfl (by decide +kernel) h
                                                  · rw [if_neg b188] at h
                                                    refine E_blk (lv' := [some (vr (some (11, this))), some (vi v1), some (vi v2), some (vi v3), some (vi v4), some (vi v5), some (vi v6), some (vi s0), none, none]) (st' := [vi (1 : Int32), vr (some (11, this))]) (M1 := (sI M 11 this 72 ((mI M 11 this 72) - (mI M 11 this 79)))) (pc' := 695) (tb_Model hγ) [.aload_n 0, .iconst 1] (by decide +kernel) rfl rfl trivial ?_
                                                    refine E_callV (κ' := k_Model_lay) (As := [vi (1 : Int32)]) (st := []) mv_Model_lay (Or.inl (tbk_mem (j := 16) (k := 7) rfl)) rfl (by decide +kernel) (Nat.le_of_ble_eq_true rfl) (Nat.le_of_ble_eq_true rfl) rfl (by decide) (lk_Model_lay hγ this (1 : Int32) _ (sI M 11 this 72 ((mI M 11 this 72) - (mI M 11 this 79))) h) (fun _ _ => Qv_r) (fun v M189 hp => Qv_k (R := fun st => E γ k_Model_act 1 698 [some (vr (some (11, this))), some (vi v1), some (vi v2), some (vi v3), some (vi v4), some (vi v5), some (vi v6), some (vi s0), none, none] st M189 (Qv Q)) hp (fun h => ?_))
                                                    exact E_vret rfl (by decide +kernel) h
                                              · rw [if_neg b37] at h
                                                by_cases b38 : v1 = (24 : Int32)
                                                · rw [if_pos b38] at h
                                                  refine E.up (fun _ _ hJ => J_tswI (len := 236) (dflt := 565) (lo := 1) (hi := 55) (offs := #[236, 254, 236, 262, 276, 287, 565, 565, 565, 565, 565, 565, 565, 565, 565, 565, 565, 565, 565, 299, 314, 335, 565, 565, 565, 565, 565, 565, 565, 565, 565, 565, 565, 565, 565, 565, 565, 565, 565, 565, 350, 236, 236, 565, 236, 360, 565, 360, 565, 388, 388, 388, 388, 376, 236]) (off := 565) (tgt := 681) (by decide +kernel) (by rw [b38]; decide) (by rw [b38]; decide) (by rw [b38]; rfl) (by decide) hJ) ?_
                                                  refine E_blk (lv' := [some (vr (some (11, this))), some (vi v1), some (vi v2), some (vi v3), some (vi v4), some (vi v5), some (vi v6), some (vi s0), none, none]) (st' := [vi (8 : Int32), vi v1]) (M1 := (sI M 11 this 72 ((mI M 11 this 72) - (mI M 11 this 79)))) (pc' := 684) (tb_Model hγ) [.iload_n 1, .bipush 8] (by decide +kernel) rfl rfl trivial ?_
                                                  refine E_icmp_lt (off := 14) (tgt := 698) (by decide +kernel) (by decide) (fun b184 => ?_) (fun b184 => ?_)
                                                  · rw [if_pos b184] at h
                                                    exact E_vret rfl (by decide +kernel) h
                                                  · rw [if_neg b184] at h
                                                    refine E_blk (lv' := [some (vr (some (11, this))), some (vi v1), some (vi v2), some (vi v3), some (vi v4), some (vi v5), some (vi v6), some (vi s0), none, none]) (st' := [vi (18 : Int32), vi v1]) (M1 := (sI M 11 this 72 ((mI M 11 this 72) - (mI M 11 this 79)))) (pc' := 690) (tb_Model hγ) [.iload_n 1, .bipush 18] (by decide +kernel) rfl rfl trivial ?_
                                                    refine E_icmp_gt (off := 8) (tgt := 698) (by decide +kernel) (by decide) (fun b185 => ?_) (fun b185 => ?_)
                                                    · rw [if_pos b185] at h
                                                      exact E_vret rfl (by decide +kernel) h
                                                    · rw [if_neg b185] at h
                                                      refine E_blk (lv' := [some (vr (some (11, this))), some (vi v1), some (vi v2), some (vi v3), some (vi v4), some (vi v5), some (vi v6), some (vi s0), none, none]) (st' := [vi (1 : Int32), vr (some (11, this))]) (M1 := (sI M 11 this 72 ((mI M 11 this 72) - (mI M 11 this 79)))) (pc' := 695) (tb_Model hγ) [.aload_n 0, .iconst 1] (by decide +kernel) rfl rfl trivial ?_
                                                      refine E_callV (κ' := k_Model_lay) (As := [vi (1 : Int32)]) (st := []) mv_Model_lay (Or.inl (tbk_mem (j := 16) (k := 7) rfl)) rfl (by decide +kernel) (Nat.le_of_ble_eq_true rfl) (Nat.le_of_ble_eq_true rfl) rfl (by decide) (lk_Model_lay hγ this (1 : Int32) _ (sI M 11 this 72 ((mI M 11 this 72) - (mI M 11 this 79))) h) (fun _ _ => Qv_r) (fun v M186 hp => Qv_k (R := fun st => E γ k_Model_act 1 698 [some (vr (some (11, this))), some (vi v1), some (vi v2), some (vi v3), some (vi v4), some (vi v5), some (vi v6), some (vi s0), none, none] st M186 (Qv Q)) hp (fun h => ?_))
                                                      exact E_vret rfl (by decide +kernel) h
                                                · rw [if_neg b38] at h
                                                  by_cases b39 : v1 = (25 : Int32)
                                                  · rw [if_pos b39] at h
                                                    refine E.up (fun _ _ hJ => J_tswI (len := 236) (dflt := 565) (lo := 1) (hi := 55) (offs := #[236, 254, 236, 262, 276, 287, 565, 565, 565, 565, 565, 565, 565, 565, 565, 565, 565, 565, 565, 299, 314, 335, 565, 565, 565, 565, 565, 565, 565, 565, 565, 565, 565, 565, 565, 565, 565, 565, 565, 565, 350, 236, 236, 565, 236, 360, 565, 360, 565, 388, 388, 388, 388, 376, 236]) (off := 565) (tgt := 681) (by decide +kernel) (by rw [b39]; decide) (by rw [b39]; decide) (by rw [b39]; rfl) (by decide) hJ) ?_
                                                    refine E_blk (lv' := [some (vr (some (11, this))), some (vi v1), some (vi v2), some (vi v3), some (vi v4), some (vi v5), some (vi v6), some (vi s0), none, none]) (st' := [vi (8 : Int32), vi v1]) (M1 := (sI M 11 this 72 ((mI M 11 this 72) - (mI M 11 this 79)))) (pc' := 684) (tb_Model hγ) [.iload_n 1, .bipush 8] (by decide +kernel) rfl rfl trivial ?_
                                                    refine E_icmp_lt (off := 14) (tgt := 698) (by decide +kernel) (by decide) (fun b181 => ?_) (fun b181 => ?_)
                                                    · rw [if_pos b181] at h
                                                      exact E_vret rfl (by decide +kernel) h
                                                    · rw [if_neg b181] at h
                                                      refine E_blk (lv' := [some (vr (some (11, this))), some (vi v1), some (vi v2), some (vi v3), some (vi v4), some (vi v5), some (vi v6), some (vi s0), none, none]) (st' := [vi (18 : Int32), vi v1]) (M1 := (sI M 11 this 72 ((mI M 11 this 72) - (mI M 11 this 79)))) (pc' := 690) (tb_Model hγ) [.iload_n 1, .bipush 18] (by decide +kernel) rfl rfl trivial ?_
                                                      refine E_icmp_gt (off := 8) (tgt := 698) (by decide +kernel) (by decide) (fun b182 => ?_) (fun b182 => ?_)
                                                      · rw [if_pos b182] at h
                                                        exact E_vret rfl (by decide +kernel) h
                                                      · rw [if_neg b182] at h
                                                        refine E_blk (lv' := [some (vr (some (11, this))), some (vi v1), some (vi v2), some (vi v3), some (vi v4), some (vi v5), some (vi v6), some (vi s0), none, none]) (st' := [vi (1 : Int32), vr (some (11, this))]) (M1 := (sI M 11 this 72 ((mI M 11 this 72) - (mI M 11 this 79)))) (pc' := 695) (tb_Model hγ) [.aload_n 0, .iconst 1] (by decide +kernel) rfl rfl trivial ?_
                                                        refine E_callV (κ' := k_Model_lay) (As := [vi (1 : Int32)]) (st := []) mv_Model_lay (Or.inl (tbk_mem (j := 16) (k := 7) rfl)) rfl (by decide +kernel) (Nat.le_of_ble_eq_true rfl) (Nat.le_of_ble_eq_true rfl) rfl (by decide) (lk_Model_lay hγ this (1 : Int32) _ (sI M 11 this 72 ((mI M 11 this 72) - (mI M 11 this 79))) h) (fun _ _ => Qv_r) (fun v M183 hp => Qv_k (R := fun st => E γ k_Model_act 1 698 [some (vr (some (11, this))), some (vi v1), some (vi v2), some (vi v3), some (vi v4), some (vi v5), some (vi v6), some (vi s0), none, none] st M183 (Qv Q)) hp (fun h => ?_))
                                                        exact E_vret rfl (by decide +kernel) h
                                                  · rw [if_neg b39] at h
                                                    by_cases b40 : v1 = (26 : Int32)
                                                    · rw [if_pos b40] at h
                                                      refine E.up (fun _ _ hJ => J_tswI (len := 236) (dflt := 565) (lo := 1) (hi := 55) (offs := #[236, 254, 236, 262, 276, 287, 565, 565, 565, 565, 565, 565, 565, 565, 565, 565, 565, 565, 565, 299, 314, 335, 565, 565, 565, 565, 565, 565, 565, 565, 565, 565, 565, 565, 565, 565, 565, 565, 565, 565, 350, 236, 236, 565, 236, 360, 565, 360, 565, 388, 388, 388, 388, 376, 236]) (off := 565) (tgt := 681) (by decide +kernel) (by rw [b40]; decide) (by rw [b40]; decide) (by rw [b40]; rfl) (by decide) hJ) ?_
                                                      refine E_blk (lv' := [some (vr (some (11, this))), some (vi v1), some (vi v2), some (vi v3), some (vi v4), some (vi v5), some (vi v6), some (vi s0), none, none]) (st' := [vi (8 : Int32), vi v1]) (M1 := (sI M 11 this 72 ((mI M 11 this 72) - (mI M 11 this 79)))) (pc' := 684) (tb_Model hγ) [.iload_n 1, .bipush 8] (by decide +kernel) rfl rfl trivial ?_
                                                      refine E_icmp_lt (off := 14) (tgt := 698) (by decide +kernel) (by decide) (fun b178 => ?_) (fun b178 => ?_)
                                                      · rw [if_pos b178] at h
                                                        exact E_vret rfl (by decide +kernel) h
                                                      · rw [if_neg b178] at h
                                                        refine E_blk (lv' := [some (vr (some (11, this))), some (vi v1), some (vi v2), some (vi v3), some (vi v4), some (vi v5), some (vi v6), some (vi s0), none, none]) (st' := [vi (18 : Int32), vi v1]) (M1 := (sI M 11 this 72 ((mI M 11 this 72) - (mI M 11 this 79)))) (pc' := 690) (tb_Model hγ) [.iload_n 1, .bipush 18] (by decide +kernel) rfl rfl trivial ?_
                                                        refine E_icmp_gt (off := 8) (tgt := 698) (by decide +kernel) (by decide) (fun b179 => ?_) (fun b179 => ?_)
                                                        · rw [if_pos b179] at h
                                                          exact E_vret rfl (by decide +kernel) h
                                                        · rw [if_neg b179] at h
                                                          refine E_blk (lv' := [some (vr (some (11, this))), some (vi v1), some (vi v2), some (vi v3), some (vi v4), some (vi v5), some (vi v6), some (vi s0), none, none]) (st' := [vi (1 : Int32), vr (some (11, this))]) (M1 := (sI M 11 this 72 ((mI M 11 this 72) - (mI M 11 this 79)))) (pc' := 695) (tb_Model hγ) [.aload_n 0, .iconst 1] (by decide +kernel) rfl rfl trivial ?_
                                                          refine E_callV (κ' := k_Model_lay) (As := [vi (1 : Int32)]) (st := []) mv_Model_lay (Or.inl (tbk_mem (j := 16) (k := 7) rfl)) rfl (by decide +kernel) (Nat.le_of_ble_eq_true rfl) (Nat.le_of_ble_eq_true rfl) rfl (by decide) (lk_Model_lay hγ this (1 : Int32) _ (sI M 11 this 72 ((mI M 11 this 72) - (mI M 11 this 79))) h) (fun _ _ => Qv_r) (fun v M180 hp => Qv_k (R := fun st => E γ k_Model_act 1 698 [some (vr (some (11, this))), some (vi v1), some (vi v2), some (vi v3), some (vi v4), some (vi v5), some (vi v6), some (vi s0), none, none] st M180 (Qv Q)) hp (fun h => ?_))
                                                          exact E_vret rfl (by decide +kernel) h
                                                    · rw [if_neg b40] at h
                                                      by_cases b41 : v1 = (27 : Int32)
                                                      · rw [if_pos b41] at h
                                                        refine E.up (fun _ _ hJ => J_tswI (len := 236) (dflt := 565) (lo := 1) (hi := 55) (offs := #[236, 254, 236, 262, 276, 287, 565, 565, 565, 565, 565, 565, 565, 565, 565, 565, 565, 565, 565, 299, 314, 335, 565, 565, 565, 565, 565, 565, 565, 565, 565, 565, 565, 565, 565, 565, 565, 565, 565, 565, 350, 236, 236, 565, 236, 360, 565, 360, 565, 388, 388, 388, 388, 376, 236]) (off := 565) (tgt := 681) (by decide +kernel) (by rw [b41]; decide) (by rw [b41]; decide) (by rw [b41]; rfl) (by decide) hJ) ?_
                                                        refine E_blk (lv' := [some (vr (some (11, this))), some (vi v1), some (vi v2), some (vi v3), some (vi v4), some (vi v5), some (vi v6), some (vi s0), none, none]) (st' := [vi (8 : Int32), vi v1]) (M1 := (sI M 11 this 72 ((mI M 11 this 72) - (mI M 11 this 79)))) (pc' := 684) (tb_Model hγ) [.iload_n 1, .bipush 8] (by decide +kernel) rfl rfl trivial ?_
                                                        refine E_icmp_lt (off := 14) (tgt := 698) (by decide +kernel) (by decide) (fun b175 => ?_) (fun b175 => ?_)
                                                        · rw [if_pos b175] at h
                                                          exact E_vret rfl (by decide +kernel) h
                                                        · rw [if_neg b175] at h
                                                          refine E_blk (lv' := [some (vr (some (11, this))), some (vi v1), some (vi v2), some (vi v3), some (vi v4), some (vi v5), some (vi v6), some (vi s0), none, none]) (st' := [vi (18 : Int32), vi v1]) (M1 := (sI M 11 this 72 ((mI M 11 this 72) - (mI M 11 this 79)))) (pc' := 690) (tb_Model hγ) [.iload_n 1, .bipush 18] (by decide +kernel) rfl rfl trivial ?_
                                                          refine E_icmp_gt (off := 8) (tgt := 698) (by decide +kernel) (by decide) (fun b176 => ?_) (fun b176 => ?_)
                                                          · rw [if_pos b176] at h
                                                            exact E_vret rfl (by decide +kernel) h
                                                          · rw [if_neg b176] at h
                                                            refine E_blk (lv' := [some (vr (some (11, this))), some (vi v1), some (vi v2), some (vi v3), some (vi v4), some (vi v5), some (vi v6), some (vi s0), none, none]) (st' := [vi (1 : Int32), vr (some (11, this))]) (M1 := (sI M 11 this 72 ((mI M 11 this 72) - (mI M 11 this 79)))) (pc' := 695) (tb_Model hγ) [.aload_n 0, .iconst 1] (by decide +kernel) rfl rfl trivial ?_
                                                            refine E_callV (κ' := k_Model_lay) (As := [vi (1 : Int32)]) (st := []) mv_Model_lay (Or.inl (tbk_mem (j := 16) (k := 7) rfl)) rfl (by decide +kernel) (Nat.le_of_ble_eq_true rfl) (Nat.le_of_ble_eq_true rfl) rfl (by decide) (lk_Model_lay hγ this (1 : Int32) _ (sI M 11 this 72 ((mI M 11 this 72) - (mI M 11 this 79))) h) (fun _ _ => Qv_r) (fun v M177 hp => Qv_k (R := fun st => E γ k_Model_act 1 698 [some (vr (some (11, this))), some (vi v1), some (vi v2), some (vi v3), some (vi v4), some (vi v5), some (vi v6), some (vi s0), none, none] st M177 (Qv Q)) hp (fun h => ?_))
                                                            exact E_vret rfl (by decide +kernel) h
                                                      · rw [if_neg b41] at h
                                                        by_cases b42 : v1 = (28 : Int32)
                                                        · rw [if_pos b42] at h
                                                          refine E.up (fun _ _ hJ => J_tswI (len := 236) (dflt := 565) (lo := 1) (hi := 55) (offs := #[236, 254, 236, 262, 276, 287, 565, 565, 565, 565, 565, 565, 565, 565, 565, 565, 565, 565, 565, 299, 314, 335, 565, 565, 565, 565, 565, 565, 565, 565, 565, 565, 565, 565, 565, 565, 565, 565, 565, 565, 350, 236, 236, 565, 236, 360, 565, 360, 565, 388, 388, 388, 388, 376, 236]) (off := 565) (tgt := 681) (by decide +kernel) (by rw [b42]; decide) (by rw [b42]; decide) (by rw [b42]; rfl) (by decide) hJ) ?_
                                                          refine E_blk (lv' := [some (vr (some (11, this))), some (vi v1), some (vi v2), some (vi v3), some (vi v4), some (vi v5), some (vi v6), some (vi s0), none, none]) (st' := [vi (8 : Int32), vi v1]) (M1 := (sI M 11 this 72 ((mI M 11 this 72) - (mI M 11 this 79)))) (pc' := 684) (tb_Model hγ) [.iload_n 1, .bipush 8] (by decide +kernel) rfl rfl trivial ?_
                                                          refine E_icmp_lt (off := 14) (tgt := 698) (by decide +kernel) (by decide) (fun b172 => ?_) (fun b172 => ?_)
                                                          · rw [if_pos b172] at h
                                                            exact E_vret rfl (by decide +kernel) h
                                                          · rw [if_neg b172] at h
                                                            refine E_blk (lv' := [some (vr (some (11, this))), some (vi v1), some (vi v2), some (vi v3), some (vi v4), some (vi v5), some (vi v6), some (vi s0), none, none]) (st' := [vi (18 : Int32), vi v1]) (M1 := (sI M 11 this 72 ((mI M 11 this 72) - (mI M 11 this 79)))) (pc' := 690) (tb_Model hγ) [.iload_n 1, .bipush 18] (by decide +kernel) rfl rfl trivial ?_
                                                            refine E_icmp_gt (off := 8) (tgt := 698) (by decide +kernel) (by decide) (fun b173 => ?_) (fun b173 => ?_)
                                                            · rw [if_pos b173] at h
                                                              exact E_vret rfl (by decide +kernel) h
                                                            · rw [if_neg b173] at h
                                                              refine E_blk (lv' := [some (vr (some (11, this))), some (vi v1), some (vi v2), some (vi v3), some (vi v4), some (vi v5), some (vi v6), some (vi s0), none, none]) (st' := [vi (1 : Int32), vr (some (11, this))]) (M1 := (sI M 11 this 72 ((mI M 11 this 72) - (mI M 11 this 79)))) (pc' := 695) (tb_Model hγ) [.aload_n 0, .iconst 1] (by decide +kernel) rfl rfl trivial ?_
                                                              refine E_callV (κ' := k_Model_lay) (As := [vi (1 : Int32)]) (st := []) mv_Model_lay (Or.inl (tbk_mem (j := 16) (k := 7) rfl)) rfl (by decide +kernel) (Nat.le_of_ble_eq_true rfl) (Nat.le_of_ble_eq_true rfl) rfl (by decide) (lk_Model_lay hγ this (1 : Int32) _ (sI M 11 this 72 ((mI M 11 this 72) - (mI M 11 this 79))) h) (fun _ _ => Qv_r) (fun v M174 hp => Qv_k (R := fun st => E γ k_Model_act 1 698 [some (vr (some (11, this))), some (vi v1), some (vi v2), some (vi v3), some (vi v4), some (vi v5), some (vi v6), some (vi s0), none, none] st M174 (Qv Q)) hp (fun h => ?_))
                                                              exact E_vret rfl (by decide +kernel) h
                                                        · rw [if_neg b42] at h
                                                          by_cases b43 : v1 = (29 : Int32)
                                                          · rw [if_pos b43] at h
                                                            refine E.up (fun _ _ hJ => J_tswI (len := 236) (dflt := 565) (lo := 1) (hi := 55) (offs := #[236, 254, 236, 262, 276, 287, 565, 565, 565, 565, 565, 565, 565, 565, 565, 565, 565, 565, 565, 299, 314, 335, 565, 565, 565, 565, 565, 565, 565, 565, 565, 565, 565, 565, 565, 565, 565, 565, 565, 565, 350, 236, 236, 565, 236, 360, 565, 360, 565, 388, 388, 388, 388, 376, 236]) (off := 565) (tgt := 681) (by decide +kernel) (by rw [b43]; decide) (by rw [b43]; decide) (by rw [b43]; rfl) (by decide) hJ) ?_
                                                            refine E_blk (lv' := [some (vr (some (11, this))), some (vi v1), some (vi v2), some (vi v3), some (vi v4), some (vi v5), some (vi v6), some (vi s0), none, none]) (st' := [vi (8 : Int32), vi v1]) (M1 := (sI M 11 this 72 ((mI M 11 this 72) - (mI M 11 this 79)))) (pc' := 684) (tb_Model hγ) [.iload_n 1, .bipush 8] (by decide +kernel) rfl rfl trivial ?_
                                                            refine E_icmp_lt (off := 14) (tgt := 698) (by decide +kernel) (by decide) (fun b169 => ?_) (fun b169 => ?_)
                                                            · rw [if_pos b169] at h
                                                              exact E_vret rfl (by decide +kernel) h
                                                            · rw [if_neg b169] at h
                                                              refine E_blk (lv' := [some (vr (some (11, this))), some (vi v1), some (vi v2), some (vi v3), some (vi v4), some (vi v5), some (vi v6), some (vi s0), none, none]) (st' := [vi (18 : Int32), vi v1]) (M1 := (sI M 11 this 72 ((mI M 11 this 72) - (mI M 11 this 79)))) (pc' := 690) (tb_Model hγ) [.iload_n 1, .bipush 18] (by decide +kernel) rfl rfl trivial ?_
                                                              refine E_icmp_gt (off := 8) (tgt := 698) (by decide +kernel) (by decide) (fun b170 => ?_) (fun b170 => ?_)
                                                              · rw [if_pos b170] at h
                                                                exact E_vret rfl (by decide +kernel) h
                                                              · rw [if_neg b170] at h
                                                                refine E_blk (lv' := [some (vr (some (11, this))), some (vi v1), some (vi v2), some (vi v3), some (vi v4), some (vi v5), some (vi v6), some (vi s0), none, none]) (st' := [vi (1 : Int32), vr (some (11, this))]) (M1 := (sI M 11 this 72 ((mI M 11 this 72) - (mI M 11 this 79)))) (pc' := 695) (tb_Model hγ) [.aload_n 0, .iconst 1] (by decide +kernel) rfl rfl trivial ?_
                                                                refine E_callV (κ' := k_Model_lay) (As := [vi (1 : Int32)]) (st := []) mv_Model_lay (Or.inl (tbk_mem (j := 16) (k := 7) rfl)) rfl (by decide +kernel) (Nat.le_of_ble_eq_true rfl) (Nat.le_of_ble_eq_true rfl) rfl (by decide) (lk_Model_lay hγ this (1 : Int32) _ (sI M 11 this 72 ((mI M 11 this 72) - (mI M 11 this 79))) h) (fun _ _ => Qv_r) (fun v M171 hp => Qv_k (R := fun st => E γ k_Model_act 1 698 [some (vr (some (11, this))), some (vi v1), some (vi v2), some (vi v3), some (vi v4), some (vi v5), some (vi v6), some (vi s0), none, none] st M171 (Qv Q)) hp (fun h => ?_))
                                                                exact E_vret rfl (by decide +kernel) h
                                                          · rw [if_neg b43] at h
                                                            by_cases b44 : v1 = (30 : Int32)
                                                            · rw [if_pos b44] at h
                                                              refine E.up (fun _ _ hJ => J_tswI (len := 236) (dflt := 565) (lo := 1) (hi := 55) (offs := #[236, 254, 236, 262, 276, 287, 565, 565, 565, 565, 565, 565, 565, 565, 565, 565, 565, 565, 565, 299, 314, 335, 565, 565, 565, 565, 565, 565, 565, 565, 565, 565, 565, 565, 565, 565, 565, 565, 565, 565, 350, 236, 236, 565, 236, 360, 565, 360, 565, 388, 388, 388, 388, 376, 236]) (off := 565) (tgt := 681) (by decide +kernel) (by rw [b44]; decide) (by rw [b44]; decide) (by rw [b44]; rfl) (by decide) hJ) ?_
                                                              refine E_blk (lv' := [some (vr (some (11, this))), some (vi v1), some (vi v2), some (vi v3), some (vi v4), some (vi v5), some (vi v6), some (vi s0), none, none]) (st' := [vi (8 : Int32), vi v1]) (M1 := (sI M 11 this 72 ((mI M 11 this 72) - (mI M 11 this 79)))) (pc' := 684) (tb_Model hγ) [.iload_n 1, .bipush 8] (by decide +kernel) rfl rfl trivial ?_
                                                              refine E_icmp_lt (off := 14) (tgt := 698) (by decide +kernel) (by decide) (fun b166 => ?_) (fun b166 => ?_)
                                                              · rw [if_pos b166] at h
                                                                exact E_vret rfl (by decide +kernel) h
                                                              · rw [if_neg b166] at h
                                                                refine E_blk (lv' := [some (vr (some (11, this))), some (vi v1), some (vi v2), some (vi v3), some (vi v4), some (vi v5), some (vi v6), some (vi s0), none, none]) (st' := [vi (18 : Int32), vi v1]) (M1 := (sI M 11 this 72 ((mI M 11 this 72) - (mI M 11 this 79)))) (pc' := 690) (tb_Model hγ) [.iload_n 1, .bipush 18] (by decide +kernel) rfl rfl trivial ?_
                                                                refine E_icmp_gt (off := 8) (tgt := 698) (by decide +kernel) (by decide) (fun b167 => ?_) (fun b167 => ?_)
                                                                · rw [if_pos b167] at h
                                                                  exact E_vret rfl (by decide +kernel) h
                                                                · rw [if_neg b167] at h
                                                                  refine E_blk (lv' := [some (vr (some (11, this))), some (vi v1), some (vi v2), some (vi v3), some (vi v4), some (vi v5), some (vi v6), some (vi s0), none, none]) (st' := [vi (1 : Int32), vr (some (11, this))]) (M1 := (sI M 11 this 72 ((mI M 11 this 72) - (mI M 11 this 79)))) (pc' := 695) (tb_Model hγ) [.aload_n 0, .iconst 1] (by decide +kernel) rfl rfl trivial ?_
                                                                  refine E_callV (κ' := k_Model_lay) (As := [vi (1 : Int32)]) (st := []) mv_Model_lay (Or.inl (tbk_mem (j := 16) (k := 7) rfl)) rfl (by decide +kernel) (Nat.le_of_ble_eq_true rfl) (Nat.le_of_ble_eq_true rfl) rfl (by decide) (lk_Model_lay hγ this (1 : Int32) _ (sI M 11 this 72 ((mI M 11 this 72) - (mI M 11 this 79))) h) (fun _ _ => Qv_r) (fun v M168 hp => Qv_k (R := fun st => E γ k_Model_act 1 698 [some (vr (some (11, this))), some (vi v1), some (vi v2), some (vi v3), some (vi v4), some (vi v5), some (vi v6), some (vi s0), none, none] st M168 (Qv Q)) hp (fun h => ?_))
                                                                  exact E_vret rfl (by decide +kernel) h
                                                            · rw [if_neg b44] at h
                                                              by_cases b45 : v1 = (31 : Int32)
                                                              · rw [if_pos b45] at h
                                                                refine E.up (fun _ _ hJ => J_tswI (len := 236) (dflt := 565) (lo := 1) (hi := 55) (offs := #[236, 254, 236, 262, 276, 287, 565, 565, 565, 565, 565, 565, 565, 565, 565, 565, 565, 565, 565, 299, 314, 335, 565, 565, 565, 565, 565, 565, 565, 565, 565, 565, 565, 565, 565, 565, 565, 565, 565, 565, 350, 236, 236, 565, 236, 360, 565, 360, 565, 388, 388, 388, 388, 376, 236]) (off := 565) (tgt := 681) (by decide +kernel) (by rw [b45]; decide) (by rw [b45]; decide) (by rw [b45]; rfl) (by decide) hJ) ?_
                                                                refine E_blk (lv' := [some (vr (some (11, this))), some (vi v1), some (vi v2), some (vi v3), some (vi v4), some (vi v5), some (vi v6), some (vi s0), none, none]) (st' := [vi (8 : Int32), vi v1]) (M1 := (sI M 11 this 72 ((mI M 11 this 72) - (mI M 11 this 79)))) (pc' := 684) (tb_Model hγ) [.iload_n 1, .bipush 8] (by decide +kernel) rfl rfl trivial ?_
                                                                refine E_icmp_lt (off := 14) (tgt := 698) (by decide +kernel) (by decide) (fun b163 => ?_) (fun b163 => ?_)
                                                                · rw [if_pos b163] at h
                                                                  exact E_vret rfl (by decide +kernel) h
                                                                · rw [if_neg b163] at h
                                                                  refine E_blk (lv' := [some (vr (some (11, this))), some (vi v1), some (vi v2), some (vi v3), some (vi v4), some (vi v5), some (vi v6), some (vi s0), none, none]) (st' := [vi (18 : Int32), vi v1]) (M1 := (sI M 11 this 72 ((mI M 11 this 72) - (mI M 11 this 79)))) (pc' := 690) (tb_Model hγ) [.iload_n 1, .bipush 18] (by decide +kernel) rfl rfl trivial ?_
                                                                  refine E_icmp_gt (off := 8) (tgt := 698) (by decide +kernel) (by decide) (fun b164 => ?_) (fun b164 => ?_)
                                                                  · rw [if_pos b164] at h
                                                                    exact E_vret rfl (by decide +kernel) h
                                                                  · rw [if_neg b164] at h
                                                                    refine E_blk (lv' := [some (vr (some (11, this))), some (vi v1), some (vi v2), some (vi v3), some (vi v4), some (vi v5), some (vi v6), some (vi s0), none, none]) (st' := [vi (1 : Int32), vr (some (11, this))]) (M1 := (sI M 11 this 72 ((mI M 11 this 72) - (mI M 11 this 79)))) (pc' := 695) (tb_Model hγ) [.aload_n 0, .iconst 1] (by decide +kernel) rfl rfl trivial ?_
                                                                    refine E_callV (κ' := k_Model_lay) (As := [vi (1 : Int32)]) (st := []) mv_Model_lay (Or.inl (tbk_mem (j := 16) (k := 7) rfl)) rfl (by decide +kernel) (Nat.le_of_ble_eq_true rfl) (Nat.le_of_ble_eq_true rfl) rfl (by decide) (lk_Model_lay hγ this (1 : Int32) _ (sI M 11 this 72 ((mI M 11 this 72) - (mI M 11 this 79))) h) (fun _ _ => Qv_r) (fun v M165 hp => Qv_k (R := fun st => E γ k_Model_act 1 698 [some (vr (some (11, this))), some (vi v1), some (vi v2), some (vi v3), some (vi v4), some (vi v5), some (vi v6), some (vi s0), none, none] st M165 (Qv Q)) hp (fun h => ?_))
                                                                    exact E_vret rfl (by decide +kernel) h
                                                              · rw [if_neg b45] at h
                                                                by_cases b46 : v1 = (32 : Int32)
                                                                · rw [if_pos b46] at h
                                                                  refine E.up (fun _ _ hJ => J_tswI (len := 236) (dflt := 565) (lo := 1) (hi := 55) (offs := #[236, 254, 236, 262, 276, 287, 565, 565, 565, 565, 565, 565, 565, 565, 565, 565, 565, 565, 565, 299, 314, 335, 565, 565, 565, 565, 565, 565, 565, 565, 565, 565, 565, 565, 565, 565, 565, 565, 565, 565, 350, 236, 236, 565, 236, 360, 565, 360, 565, 388, 388, 388, 388, 376, 236]) (off := 565) (tgt := 681) (by decide +kernel) (by rw [b46]; decide) (by rw [b46]; decide) (by rw [b46]; rfl) (by decide) hJ) ?_
                                                                  refine E_blk (lv' := [some (vr (some (11, this))), some (vi v1), some (vi v2), some (vi v3), some (vi v4), some (vi v5), some (vi v6), some (vi s0), none, none]) (st' := [vi (8 : Int32), vi v1]) (M1 := (sI M 11 this 72 ((mI M 11 this 72) - (mI M 11 this 79)))) (pc' := 684) (tb_Model hγ) [.iload_n 1, .bipush 8] (by decide +kernel) rfl rfl trivial ?_
                                                                  refine E_icmp_lt (off := 14) (tgt := 698) (by decide +kernel) (by decide) (fun b160 => ?_) (fun b160 => ?_)
                                                                  · rw [if_pos b160] at h
                                                                    exact E_vret rfl (by decide +kernel) h
                                                                  · rw [if_neg b160] at h
                                                                    refine E_blk (lv' := [some (vr (some (11, this))), some (vi v1), some (vi v2), some (vi v3), some (vi v4), some (vi v5), some (vi v6), some (vi s0), none, none]) (st' := [vi (18 : Int32), vi v1]) (M1 := (sI M 11 this 72 ((mI M 11 this 72) - (mI M 11 this 79)))) (pc' := 690) (tb_Model hγ) [.iload_n 1, .bipush 18] (by decide +kernel) rfl rfl trivial ?_
                                                                    refine E_icmp_gt (off := 8) (tgt := 698) (by decide +kernel) (by decide) (fun b161 => ?_) (fun b161 => ?_)
                                                                    · rw [if_pos b161] at h
                                                                      exact E_vret rfl (by decide +kernel) h
                                                                    · rw [if_neg b161] at h
                                                                      refine E_blk (lv' := [some (vr (some (11, this))), some (vi v1), some (vi v2), some (vi v3), some (vi v4), some (vi v5), some (vi v6), some (vi s0), none, none]) (st' := [vi (1 : Int32), vr (some (11, this))]) (M1 := (sI M 11 this 72 ((mI M 11 this 72) - (mI M 11 this 79)))) (pc' := 695) (tb_Model hγ) [.aload_n 0, .iconst 1] (by decide +kernel) rfl rfl trivial ?_
                                                                      refine E_callV (κ' := k_Model_lay) (As := [vi (1 : Int32)]) (st := []) mv_Model_lay (Or.inl (tbk_mem (j := 16) (k := 7) rfl)) rfl (by decide +kernel) (Nat.le_of_ble_eq_true rfl) (Nat.le_of_ble_eq_true rfl) rfl (by decide) (lk_Model_lay hγ this (1 : Int32) _ (sI M 11 this 72 ((mI M 11 this 72) - (mI M 11 this 79))) h) (fun _ _ => Qv_r) (fun v M162 hp => Qv_k (R := fun st => E γ k_Model_act 1 698 [some (vr (some (11, this))), some (vi v1), some (vi v2), some (vi v3), some (vi v4), some (vi v5), some (vi v6), some (vi s0), none, none] st M162 (Qv Q)) hp (fun h => ?_))
                                                                      exact E_vret rfl (by decide +kernel) h
                                                                · rw [if_neg b46] at h
                                                                  by_cases b47 : v1 = (33 : Int32)
                                                                  · rw [if_pos b47] at h
                                                                    refine E.up (fun _ _ hJ => J_tswI (len := 236) (dflt := 565) (lo := 1) (hi := 55) (offs := #[236, 254, 236, 262, 276, 287, 565, 565, 565, 565, 565, 565, 565, 565, 565, 565, 565, 565, 565, 299, 314, 335, 565, 565, 565, 565, 565, 565, 565, 565, 565, 565, 565, 565, 565, 565, 565, 565, 565, 565, 350, 236, 236, 565, 236, 360, 565, 360, 565, 388, 388, 388, 388, 376, 236]) (off := 565) (tgt := 681) (by decide +kernel) (by rw [b47]; decide) (by rw [b47]; decide) (by rw [b47]; rfl) (by decide) hJ) ?_
                                                                    refine E_blk (lv' := [some (vr (some (11, this))), some (vi v1), some (vi v2), some (vi v3), some (vi v4), some (vi v5), some (vi v6), some (vi s0), none, none]) (st' := [vi (8 : Int32), vi v1]) (M1 := (sI M 11 this 72 ((mI M 11 this 72) - (mI M 11 this 79)))) (pc' := 684) (tb_Model hγ) [.iload_n 1, .bipush 8] (by decide +kernel) rfl rfl trivial ?_
                                                                    refine E_icmp_lt (off := 14) (tgt := 698) (by decide +kernel) (by decide) (fun b157 => ?_) (fun b157 => ?_)
                                                                    · rw [if_pos b157] at h
                                                                      exact E_vret rfl (by decide +kernel) h
                                                                    · rw [if_neg b157] at h
                                                                      refine E_blk (lv' := [some (vr (some (11, this))), some (vi v1), some (vi v2), some (vi v3), some (vi v4), some (vi v5), some (vi v6), some (vi s0), none, none]) (st' := [vi (18 : Int32), vi v1]) (M1 := (sI M 11 this 72 ((mI M 11 this 72) - (mI M 11 this 79)))) (pc' := 690) (tb_Model hγ) [.iload_n 1, .bipush 18] (by decide +kernel) rfl rfl trivial ?_
                                                                      refine E_icmp_gt (off := 8) (tgt := 698) (by decide +kernel) (by decide) (fun b158 => ?_) (fun b158 => ?_)
                                                                      · rw [if_pos b158] at h
                                                                        exact E_vret rfl (by decide +kernel) h
                                                                      · rw [if_neg b158] at h
                                                                        refine E_blk (lv' := [some (vr (some (11, this))), some (vi v1), some (vi v2), some (vi v3), some (vi v4), some (vi v5), some (vi v6), some (vi s0), none, none]) (st' := [vi (1 : Int32), vr (some (11, this))]) (M1 := (sI M 11 this 72 ((mI M 11 this 72) - (mI M 11 this 79)))) (pc' := 695) (tb_Model hγ) [.aload_n 0, .iconst 1] (by decide +kernel) rfl rfl trivial ?_
                                                                        refine E_callV (κ' := k_Model_lay) (As := [vi (1 : Int32)]) (st := []) mv_Model_lay (Or.inl (tbk_mem (j := 16) (k := 7) rfl)) rfl (by decide +kernel) (Nat.le_of_ble_eq_true rfl) (Nat.le_of_ble_eq_true rfl) rfl (by decide) (lk_Model_lay hγ this (1 : Int32) _ (sI M 11 this 72 ((mI M 11 this 72) - (mI M 11 this 79))) h) (fun _ _ => Qv_r) (fun v M159 hp => Qv_k (R := fun st => E γ k_Model_act 1 698 [some (vr (some (11, this))), some (vi v1), some (vi v2), some (vi v3), some (vi v4), some (vi v5), some (vi v6), some (vi s0), none, none] st M159 (Qv Q)) hp (fun h => ?_))
                                                                        exact E_vret rfl (by decide +kernel) h
                                                                  · rw [if_neg b47] at h
                                                                    by_cases b48 : v1 = (34 : Int32)
                                                                    · rw [if_pos b48] at h
                                                                      refine E.up (fun _ _ hJ => J_tswI (len := 236) (dflt := 565) (lo := 1) (hi := 55) (offs := #[236, 254, 236, 262, 276, 287, 565, 565, 565, 565, 565, 565, 565, 565, 565, 565, 565, 565, 565, 299, 314, 335, 565, 565, 565, 565, 565, 565, 565, 565, 565, 565, 565, 565, 565, 565, 565, 565, 565, 565, 350, 236, 236, 565, 236, 360, 565, 360, 565, 388, 388, 388, 388, 376, 236]) (off := 565) (tgt := 681) (by decide +kernel) (by rw [b48]; decide) (by rw [b48]; decide) (by rw [b48]; rfl) (by decide) hJ) ?_
                                                                      refine E_blk (lv' := [some (vr (some (11, this))), some (vi v1), some (vi v2), some (vi v3), some (vi v4), some (vi v5), some (vi v6), some (vi s0), none, none]) (st' := [vi (8 : Int32), vi v1]) (M1 := (sI M 11 this 72 ((mI M 11 this 72) - (mI M 11 this 79)))) (pc' := 684) (tb_Model hγ) [.iload_n 1, .bipush 8] (by decide +kernel) rfl rfl trivial ?_
                                                                      refine E_icmp_lt (off := 14) (tgt := 698) (by decide +kernel) (by decide) (fun b154 => ?_) (fun b154 => ?_)
                                                                      · rw [if_pos b154] at h
                                                                        exact E_vret rfl (by decide +kernel) h
                                                                      · rw [if_neg b154] at h
                                                                        refine E_blk (lv' := [some (vr (some (11, this))), some (vi v1), some (vi v2), some (vi v3), some (vi v4), some (vi v5), some (vi v6), some (vi s0), none, none]) (st' := [vi (18 : Int32), vi v1]) (M1 := (sI M 11 this 72 ((mI M 11 this 72) - (mI M 11 this 79)))) (pc' := 690) (tb_Model hγ) [.iload_n 1, .bipush 18] (by decide +kernel) rfl rfl trivial ?_
                                                                        refine E_icmp_gt (off := 8) (tgt := 698) (by decide +kernel) (by decide) (fun b155 => ?_) (fun b155 => ?_)
                                                                        · rw [if_pos b155] at h
                                                                          exact E_vret rfl (by decide +kernel) h
                                                                        · rw [if_neg b155] at h
                                                                          refine E_blk (lv' := [some (vr (some (11, this))), some (vi v1), some (vi v2), some (vi v3), some (vi v4), some (vi v5), some (vi v6), some (vi s0), none, none]) (st' := [vi (1 : Int32), vr (some (11, this))]) (M1 := (sI M 11 this 72 ((mI M 11 this 72) - (mI M 11 this 79)))) (pc' := 695) (tb_Model hγ) [.aload_n 0, .iconst 1] (by decide +kernel) rfl rfl trivial ?_
                                                                          refine E_callV (κ' := k_Model_lay) (As := [vi (1 : Int32)]) (st := []) mv_Model_lay (Or.inl (tbk_mem (j := 16) (k := 7) rfl)) rfl (by decide +kernel) (Nat.le_of_ble_eq_true rfl) (Nat.le_of_ble_eq_true rfl) rfl (by decide) (lk_Model_lay hγ this (1 : Int32) _ (sI M 11 this 72 ((mI M 11 this 72) - (mI M 11 this 79))) h) (fun _ _ => Qv_r) (fun v M156 hp => Qv_k (R := fun st => E γ k_Model_act 1 698 [some (vr (some (11, this))), some (vi v1), some (vi v2), some (vi v3), some (vi v4), some (vi v5), some (vi v6), some (vi s0), none, none] st M156 (Qv Q)) hp (fun h => ?_))
                                                                          exact E_vret rfl (by decide +kernel) h
                                                                    · rw [if_neg b48] at h
                                                                      by_cases b49 : v1 = (35 : Int32)
                                                                      · rw [if_pos b49] at h
                                                                        refine E.up (fun _ _ hJ => J_tswI (len := 236) (dflt := 565) (lo := 1) (hi := 55) (offs := #[236, 254, 236, 262, 276, 287, 565, 565, 565, 565, 565, 565, 565, 565, 565, 565, 565, 565, 565, 299, 314, 335, 565, 565, 565, 565, 565, 565, 565, 565, 565, 565, 565, 565, 565, 565, 565, 565, 565, 565, 350, 236, 236, 565, 236, 360, 565, 360, 565, 388, 388, 388, 388, 376, 236]) (off := 565) (tgt := 681) (by decide +kernel) (by rw [b49]; decide) (by rw [b49]; decide) (by rw [b49]; rfl) (by decide) hJ) ?_
                                                                        refine E_blk (lv' := [some (vr (some (11, this))), some (vi v1), some (vi v2), some (vi v3), some (vi v4), some (vi v5), some (vi v6), some (vi s0), none, none]) (st' := [vi (8 : Int32), vi v1]) (M1 := (sI M 11 this 72 ((mI M 11 this 72) - (mI M 11 this 79)))) (pc' := 684) (tb_Model hγ) [.iload_n 1, .bipush 8] (by decide +kernel) rfl rfl trivial ?_
                                                                        refine E_icmp_lt (off := 14) (tgt := 698) (by decide +kernel) (by decide) (fun b151 => ?_) (fun b151 => ?_)
                                                                        · rw [if_pos b151] at h
                                                                          exact E_vret rfl (by decide +kernel) h
                                                                        · rw [if_neg b151] at h
                                                                          refine E_blk (lv' := [some (vr (some (11, this))), some (vi v1), some (vi v2), some (vi v3), some (vi v4), some (vi v5), some (vi v6), some (vi s0), none, none]) (st' := [vi (18 : Int32), vi v1]) (M1 := (sI M 11 this 72 ((mI M 11 this 72) - (mI M 11 this 79)))) (pc' := 690) (tb_Model hγ) [.iload_n 1, .bipush 18] (by decide +kernel) rfl rfl trivial ?_
                                                                          refine E_icmp_gt (off := 8) (tgt := 698) (by decide +kernel) (by decide) (fun b152 => ?_) (fun b152 => ?_)
                                                                          · rw [if_pos b152] at h
                                                                            exact E_vret rfl (by decide +kernel) h
                                                                          · rw [if_neg b152] at h
                                                                            refine E_blk (lv' := [some (vr (some (11, this))), some (vi v1), some (vi v2), some (vi v3), some (vi v4), some (vi v5), some (vi v6), some (vi s0), none, none]) (st' := [vi (1 : Int32), vr (some (11, this))]) (M1 := (sI M 11 this 72 ((mI M 11 this 72) - (mI M 11 this 79)))) (pc' := 695) (tb_Model hγ) [.aload_n 0, .iconst 1] (by decide +kernel) rfl rfl trivial ?_
                                                                            refine E_callV (κ' := k_Model_lay) (As := [vi (1 : Int32)]) (st := []) mv_Model_lay (Or.inl (tbk_mem (j := 16) (k := 7) rfl)) rfl (by decide +kernel) (Nat.le_of_ble_eq_true rfl) (Nat.le_of_ble_eq_true rfl) rfl (by decide) (lk_Model_lay hγ this (1 : Int32) _ (sI M 11 this 72 ((mI M 11 this 72) - (mI M 11 this 79))) h) (fun _ _ => Qv_r) (fun v M153 hp => Qv_k (R := fun st => E γ k_Model_act 1 698 [some (vr (some (11, this))), some (vi v1), some (vi v2), some (vi v3), some (vi v4), some (vi v5), some (vi v6), some (vi s0), none, none] st M153 (Qv Q)) hp (fun h => ?_))
                                                                            exact E_vret rfl (by decide +kernel) h
                                                                      · rw [if_neg b49] at h
                                                                        by_cases b50 : v1 = (36 : Int32)
                                                                        · rw [if_pos b50] at h
                                                                          refine E.up (fun _ _ hJ => J_tswI (len := 236) (dflt := 565) (lo := 1) (hi := 55) (offs := #[236, 254, 236, 262, 276, 287, 565, 565, 565, 565, 565, 565, 565, 565, 565, 565, 565, 565, 565, 299, 314, 335, 565, 565, 565, 565, 565, 565, 565, 565, 565, 565, 565, 565, 565, 565, 565, 565, 565, 565, 350, 236, 236, 565, 236, 360, 565, 360, 565, 388, 388, 388, 388, 376, 236]) (off := 565) (tgt := 681) (by decide +kernel) (by rw [b50]; decide) (by rw [b50]; decide) (by rw [b50]; rfl) (by decide) hJ) ?_
                                                                          refine E_blk (lv' := [some (vr (some (11, this))), some (vi v1), some (vi v2), some (vi v3), some (vi v4), some (vi v5), some (vi v6), some (vi s0), none, none]) (st' := [vi (8 : Int32), vi v1]) (M1 := (sI M 11 this 72 ((mI M 11 this 72) - (mI M 11 this 79)))) (pc' := 684) (tb_Model hγ) [.iload_n 1, .bipush 8] (by decide +kernel) rfl rfl trivial ?_
                                                                          refine E_icmp_lt (off := 14) (tgt := 698) (by decide +kernel) (by decide) (fun b148 => ?_) (fun b148 => ?_)
                                                                          · rw [if_pos b148] at h
                                                                            exact E_vret rfl (by decide +kernel) h
                                                                          · rw [if_neg b148] at h
                                                                            refine E_blk (lv' := [some (vr (some (11, this))), some (vi v1), some (vi v2), some (vi v3), some (vi v4), some (vi v5), some (vi v6), some (vi s0), none, none]) (st' := [vi (18 : Int32), vi v1]) (M1 := (sI M 11 this 72 ((mI M 11 this 72) - (mI M 11 this 79)))) (pc' := 690) (tb_Model hγ) [.iload_n 1, .bipush 18] (by decide +kernel) rfl rfl trivial ?_
                                                                            refine E_icmp_gt (off := 8) (tgt := 698) (by decide +kernel) (by decide) (fun b149 => ?_) (fun b149 => ?_)
                                                                            · rw [if_pos b149] at h
                                                                              exact E_vret rfl (by decide +kernel) h
                                                                            · rw [if_neg b149] at h
                                                                              refine E_blk (lv' := [some (vr (some (11, this))), some (vi v1), some (vi v2), some (vi v3), some (vi v4), some (vi v5), some (vi v6), some (vi s0), none, none]) (st' := [vi (1 : Int32), vr (some (11, this))]) (M1 := (sI M 11 this 72 ((mI M 11 this 72) - (mI M 11 this 79)))) (pc' := 695) (tb_Model hγ) [.aload_n 0, .iconst 1] (by decide +kernel) rfl rfl trivial ?_
                                                                              refine E_callV (κ' := k_Model_lay) (As := [vi (1 : Int32)]) (st := []) mv_Model_lay (Or.inl (tbk_mem (j := 16) (k := 7) rfl)) rfl (by decide +kernel) (Nat.le_of_ble_eq_true rfl) (Nat.le_of_ble_eq_true rfl) rfl (by decide) (lk_Model_lay hγ this (1 : Int32) _ (sI M 11 this 72 ((mI M 11 this 72) - (mI M 11 this 79))) h) (fun _ _ => Qv_r) (fun v M150 hp => Qv_k (R := fun st => E γ k_Model_act 1 698 [some (vr (some (11, this))), some (vi v1), some (vi v2), some (vi v3), some (vi v4), some (vi v5), some (vi v6), some (vi s0), none, none] st M150 (Qv Q)) hp (fun h => ?_))
                                                                              exact E_vret rfl (by decide +kernel) h
                                                                        · rw [if_neg b50] at h
                                                                          by_cases b51 : v1 = (37 : Int32)
                                                                          · rw [if_pos b51] at h
                                                                            refine E.up (fun _ _ hJ => J_tswI (len := 236) (dflt := 565) (lo := 1) (hi := 55) (offs := #[236, 254, 236, 262, 276, 287, 565, 565, 565, 565, 565, 565, 565, 565, 565, 565, 565, 565, 565, 299, 314, 335, 565, 565, 565, 565, 565, 565, 565, 565, 565, 565, 565, 565, 565, 565, 565, 565, 565, 565, 350, 236, 236, 565, 236, 360, 565, 360, 565, 388, 388, 388, 388, 376, 236]) (off := 565) (tgt := 681) (by decide +kernel) (by rw [b51]; decide) (by rw [b51]; decide) (by rw [b51]; rfl) (by decide) hJ) ?_
                                                                            refine E_blk (lv' := [some (vr (some (11, this))), some (vi v1), some (vi v2), some (vi v3), some (vi v4), some (vi v5), some (vi v6), some (vi s0), none, none]) (st' := [vi (8 : Int32), vi v1]) (M1 := (sI M 11 this 72 ((mI M 11 this 72) - (mI M 11 this 79)))) (pc' := 684) (tb_Model hγ) [.iload_n 1, .bipush 8] (by decide +kernel) rfl rfl trivial ?_
                                                                            refine E_icmp_lt (off := 14) (tgt := 698) (by decide +kernel) (by decide) (fun b145 => ?_) (fun b145 => ?_)
                                                                            · rw [if_pos b145] at h
                                                                              exact E_vret rfl (by decide +kernel) h
                                                                            · rw [if_neg b145] at h
                                                                              refine E_blk (lv' := [some (vr (some (11, this))), some (vi v1), some (vi v2), some (vi v3), some (vi v4), some (vi v5), some (vi v6), some (vi s0), none, none]) (st' := [vi (18 : Int32), vi v1]) (M1 := (sI M 11 this 72 ((mI M 11 this 72) - (mI M 11 this 79)))) (pc' := 690) (tb_Model hγ) [.iload_n 1, .bipush 18] (by decide +kernel) rfl rfl trivial ?_
                                                                              refine E_icmp_gt (off := 8) (tgt := 698) (by decide +kernel) (by decide) (fun b146 => ?_) (fun b146 => ?_)
                                                                              · rw [if_pos b146] at h
                                                                                exact E_vret rfl (by decide +kernel) h
                                                                              · rw [if_neg b146] at h
                                                                                refine E_blk (lv' := [some (vr (some (11, this))), some (vi v1), some (vi v2), some (vi v3), some (vi v4), some (vi v5), some (vi v6), some (vi s0), none, none]) (st' := [vi (1 : Int32), vr (some (11, this))]) (M1 := (sI M 11 this 72 ((mI M 11 this 72) - (mI M 11 this 79)))) (pc' := 695) (tb_Model hγ) [.aload_n 0, .iconst 1] (by decide +kernel) rfl rfl trivial ?_
                                                                                refine E_callV (κ' := k_Model_lay) (As := [vi (1 : Int32)]) (st := []) mv_Model_lay (Or.inl (tbk_mem (j := 16) (k := 7) rfl)) rfl (by decide +kernel) (Nat.le_of_ble_eq_true rfl) (Nat.le_of_ble_eq_true rfl) rfl (by decide) (lk_Model_lay hγ this (1 : Int32) _ (sI M 11 this 72 ((mI M 11 this 72) - (mI M 11 this 79))) h) (fun _ _ => Qv_r) (fun v M147 hp => Qv_k (R := fun st => E γ k_Model_act 1 698 [some (vr (some (11, this))), some (vi v1), some (vi v2), some (vi v3), some (vi v4), some (vi v5), some (vi v6), some (vi s0), none, none] st M147 (Qv Q)) hp (fun h => ?_))
                                                                                exact E_vret rfl (by decide +kernel) h
                                                                          · rw [if_neg b51] at h
                                                                            by_cases b52 : v1 = (38 : Int32)
                                                                            · rw [if_pos b52] at h
                                                                              refine E.up (fun _ _ hJ => J_tswI (len := 236) (dflt := 565) (lo := 1) (hi := 55) (offs := #[236, 254, 236, 262, 276, 287, 565, 565, 565, 565, 565, 565, 565, 565, 565, 565, 565, 565, 565, 299, 314, 335, 565, 565, 565, 565, 565, 565, 565, 565, 565, 565, 565, 565, 565, 565, 565, 565, 565, 565, 350, 236, 236, 565, 236, 360, 565, 360, 565, 388, 388, 388, 388, 376, 236]) (off := 565) (tgt := 681) (by decide +kernel) (by rw [b52]; decide) (by rw [b52]; decide) (by rw [b52]; rfl) (by decide) hJ) ?_
                                                                              refine E_blk (lv' := [some (vr (some (11, this))), some (vi v1), some (vi v2), some (vi v3), some (vi v4), some (vi v5), some (vi v6), some (vi s0), none, none]) (st' := [vi (8 : Int32), vi v1]) (M1 := (sI M 11 this 72 ((mI M 11 this 72) - (mI M 11 this 79)))) (pc' := 684) (tb_Model hγ) [.iload_n 1, .bipush 8] (by decide +kernel) rfl rfl trivial ?_
                                                                              refine E_icmp_lt (off := 14) (tgt := 698) (by decide +kernel) (by decide) (fun b142 => ?_) (fun b142 => ?_)
                                                                              · rw [if_pos b142] at h
                                                                                exact E_vret rfl (by decide +kernel) h
                                                                              · rw [if_neg b142] at h
                                                                                refine E_blk (lv' := [some (vr (some (11, this))), some (vi v1), some (vi v2), some (vi v3), some (vi v4), some (vi v5), some (vi v6), some (vi s0), none, none]) (st' := [vi (18 : Int32), vi v1]) (M1 := (sI M 11 this 72 ((mI M 11 this 72) - (mI M 11 this 79)))) (pc' := 690) (tb_Model hγ) [.iload_n 1, .bipush 18] (by decide +kernel) rfl rfl trivial ?_
                                                                                refine E_icmp_gt (off := 8) (tgt := 698) (by decide +kernel) (by decide) (fun b143 => ?_) (fun b143 => ?_)
                                                                                · rw [if_pos b143] at h
                                                                                  exact E_vret rfl (by decide +kernel) h
                                                                                · rw [if_neg b143] at h
                                                                                  refine E_blk (lv' := [some (vr (some (11, this))), some (vi v1), some (vi v2), some (vi v3), some (vi v4), some (vi v5), some (vi v6), some (vi s0), none, none]) (st' := [vi (1 : Int32), vr (some (11, this))]) (M1 := (sI M 11 this 72 ((mI M 11 this 72) - (mI M 11 this 79)))) (pc' := 695) (tb_Model hγ) [.aload_n 0, .iconst 1] (by decide +kernel) rfl rfl trivial ?_
                                                                                  refine E_callV (κ' := k_Model_lay) (As := [vi (1 : Int32)]) (st := []) mv_Model_lay (Or.inl (tbk_mem (j := 16) (k := 7) rfl)) rfl (by decide +kernel) (Nat.le_of_ble_eq_true rfl) (Nat.le_of_ble_eq_true rfl) rfl (by decide) (lk_Model_lay hγ this (1 : Int32) _ (sI M 11 this 72 ((mI M 11 this 72) - (mI M 11 this 79))) h) (fun _ _ => Qv_r) (fun v M144 hp => Qv_k (R := fun st => E γ k_Model_act 1 698 [some (vr (some (11, this))), some (vi v1), some (vi v2), some (vi v3), some (vi v4), some (vi v5), some (vi v6), some (vi s0), none, none] st M144 (Qv Q)) hp (fun h => ?_))
                                                                                  exact E_vret rfl (by decide +kernel) h
                                                                            · rw [if_neg b52] at h
                                                                              by_cases b53 : v1 = (39 : Int32)
                                                                              · rw [if_pos b53] at h
                                                                                refine E.up (fun _ _ hJ => J_tswI (len := 236) (dflt := 565) (lo := 1) (hi := 55) (offs := #[236, 254, 236, 262, 276, 287, 565, 565, 565, 565, 565, 565, 565, 565, 565, 565, 565, 565, 565, 299, 314, 335, 565, 565, 565, 565, 565, 565, 565, 565, 565, 565, 565, 565, 565, 565, 565, 565, 565, 565, 350, 236, 236, 565, 236, 360, 565, 360, 565, 388, 388, 388, 388, 376, 236]) (off := 565) (tgt := 681) (by decide +kernel) (by rw [b53]; decide) (by rw [b53]; decide) (by rw [b53]; rfl) (by decide) hJ) ?_
                                                                                refine E_blk (lv' := [some (vr (some (11, this))), some (vi v1), some (vi v2), some (vi v3), some (vi v4), some (vi v5), some (vi v6), some (vi s0), none, none]) (st' := [vi (8 : Int32), vi v1]) (M1 := (sI M 11 this 72 ((mI M 11 this 72) - (mI M 11 this 79)))) (pc' := 684) (tb_Model hγ) [.iload_n 1, .bipush 8] (by decide +kernel) rfl rfl trivial ?_
                                                                                refine E_icmp_lt (off := 14) (tgt := 698) (by decide +kernel) (by decide) (fun b139 => ?_) (fun b139 => ?_)
                                                                                · rw [if_pos b139] at h
                                                                                  exact E_vret rfl (by decide +kernel) h
                                                                                · rw [if_neg b139] at h
                                                                                  refine E_blk (lv' := [some (vr (some (11, this))), some (vi v1), some (vi v2), some (vi v3), some (vi v4), some (vi v5), some (vi v6), some (vi s0), none, none]) (st' := [vi (18 : Int32), vi v1]) (M1 := (sI M 11 this 72 ((mI M 11 this 72) - (mI M 11 this 79)))) (pc' := 690) (tb_Model hγ) [.iload_n 1, .bipush 18] (by decide +kernel) rfl rfl trivial ?_
                                                                                  refine E_icmp_gt (off := 8) (tgt := 698) (by decide +kernel) (by decide) (fun b140 => ?_) (fun b140 => ?_)
                                                                                  · rw [if_pos b140] at h
                                                                                    exact E_vret rfl (by decide +kernel) h
                                                                                  · rw [if_neg b140] at h
                                                                                    refine E_blk (lv' := [some (vr (some (11, this))), some (vi v1), some (vi v2), some (vi v3), some (vi v4), some (vi v5), some (vi v6), some (vi s0), none, none]) (st' := [vi (1 : Int32), vr (some (11, this))]) (M1 := (sI M 11 this 72 ((mI M 11 this 72) - (mI M 11 this 79)))) (pc' := 695) (tb_Model hγ) [.aload_n 0, .iconst 1] (by decide +kernel) rfl rfl trivial ?_
                                                                                    refine E_callV (κ' := k_Model_lay) (As := [vi (1 : Int32)]) (st := []) mv_Model_lay (Or.inl (tbk_mem (j := 16) (k := 7) rfl)) rfl (by decide +kernel) (Nat.le_of_ble_eq_true rfl) (Nat.le_of_ble_eq_true rfl) rfl (by decide) (lk_Model_lay hγ this (1 : Int32) _ (sI M 11 this 72 ((mI M 11 this 72) - (mI M 11 this 79))) h) (fun _ _ => Qv_r) (fun v M141 hp => Qv_k (R := fun st => E γ k_Model_act 1 698 [some (vr (some (11, this))), some (vi v1), some (vi v2), some (vi v3), some (vi v4), some (vi v5), some (vi v6), some (vi s0), none, none] st M141 (Qv Q)) hp (fun h => ?_))
                                                                                    exact E_vret rfl (by decide +kernel) h
                                                                              · rw [if_neg b53] at h
                                                                                by_cases b54 : v1 = (40 : Int32)
                                                                                · rw [if_pos b54] at h
                                                                                  refine E.up (fun _ _ hJ => J_tswI (len := 236) (dflt := 565) (lo := 1) (hi := 55) (offs := #[236, 254, 236, 262, 276, 287, 565, 565, 565, 565, 565, 565, 565, 565, 565, 565, 565, 565, 565, 299, 314, 335, 565, 565, 565, 565, 565, 565, 565, 565, 565, 565, 565, 565, 565, 565, 565, 565, 565, 565, 350, 236, 236, 565, 236, 360, 565, 360, 565, 388, 388, 388, 388, 376, 236]) (off := 565) (tgt := 681) (by decide +kernel) (by rw [b54]; decide) (by rw [b54]; decide) (by rw [b54]; rfl) (by decide) hJ) ?_
                                                                                  refine E_blk (lv' := [some (vr (some (11, this))), some (vi v1), some (vi v2), some (vi v3), some (vi v4), some (vi v5), some (vi v6), some (vi s0), none, none]) (st' := [vi (8 : Int32), vi v1]) (M1 := (sI M 11 this 72 ((mI M 11 this 72) - (mI M 11 this 79)))) (pc' := 684) (tb_Model hγ) [.iload_n 1, .bipush 8] (by decide +kernel) rfl rfl trivial ?_
                                                                                  refine E_icmp_lt (off := 14) (tgt := 698) (by decide +kernel) (by decide) (fun b136 => ?_) (fun b136 => ?_)
                                                                                  · rw [if_pos b136] at h
                                                                                    exact E_vret rfl (by decide +kernel) h
                                                                                  · rw [if_neg b136] at h
                                                                                    refine E_blk (lv' := [some (vr (some (11, this))), some (vi v1), some (vi v2), some (vi v3), some (vi v4), some (vi v5), some (vi v6), some (vi s0), none, none]) (st' := [vi (18 : Int32), vi v1]) (M1 := (sI M 11 this 72 ((mI M 11 this 72) - (mI M 11 this 79)))) (pc' := 690) (tb_Model hγ) [.iload_n 1, .bipush 18] (by decide +kernel) rfl rfl trivial ?_
                                                                                    refine E_icmp_gt (off := 8) (tgt := 698) (by decide +kernel) (by decide) (fun b137 => ?_) (fun b137 => ?_)
                                                                                    · rw [if_pos b137] at h
                                                                                      exact E_vret rfl (by decide +kernel) h
                                                                                    · rw [if_neg b137] at h
                                                                                      refine E_blk (lv' := [some (vr (some (11, this))), some (vi v1), some (vi v2), some (vi v3), some (vi v4), some (vi v5), some (vi v6), some (vi s0), none, none]) (st' := [vi (1 : Int32), vr (some (11, this))]) (M1 := (sI M 11 this 72 ((mI M 11 this 72) - (mI M 11 this 79)))) (pc' := 695) (tb_Model hγ) [.aload_n 0, .iconst 1] (by decide +kernel) rfl rfl trivial ?_
                                                                                      refine E_callV (κ' := k_Model_lay) (As := [vi (1 : Int32)]) (st := []) mv_Model_lay (Or.inl (tbk_mem (j := 16) (k := 7) rfl)) rfl (by decide +kernel) (Nat.le_of_ble_eq_true rfl) (Nat.le_of_ble_eq_true rfl) rfl (by decide) (lk_Model_lay hγ this (1 : Int32) _ (sI M 11 this 72 ((mI M 11 this 72) - (mI M 11 this 79))) h) (fun _ _ => Qv_r) (fun v M138 hp => Qv_k (R := fun st => E γ k_Model_act 1 698 [some (vr (some (11, this))), some (vi v1), some (vi v2), some (vi v3), some (vi v4), some (vi v5), some (vi v6), some (vi s0), none, none] st M138 (Qv Q)) hp (fun h => ?_))
                                                                                      exact E_vret rfl (by decide +kernel) h
                                                                                · rw [if_neg b54] at h
                                                                                  by_cases b55 : v1 = (41 : Int32)
                                                                                  · rw [if_pos b55] at h
                                                                                    refine E.up (fun _ _ hJ => J_tswI (len := 236) (dflt := 565) (lo := 1) (hi := 55) (offs := #[236, 254, 236, 262, 276, 287, 565, 565, 565, 565, 565, 565, 565, 565, 565, 565, 565, 565, 565, 299, 314, 335, 565, 565, 565, 565, 565, 565, 565, 565, 565, 565, 565, 565, 565, 565, 565, 565, 565, 565, 350, 236, 236, 565, 236, 360, 565, 360, 565, 388, 388, 388, 388, 376, 236]) (off := 350) (tgt := 466) (by decide +kernel) (by rw [b55]; decide) (by rw [b55]; decide) (by rw [b55]; rfl) (by decide) hJ) ?_
                                                                                    refine E_blk (lv' := [some (vr (some (11, this))), some (vi v1), some (vi v2), some (vi v3), some (vi v4), some (vi v5), some (vi v6), some (vi s0), none, none]) (st' := [vi ((-1 : Int32) - v3), vr (some (11, this))]) (M1 := (sI M 11 this 72 ((mI M 11 this 72) - (mI M 11 this 79)))) (pc' := 470) (tb_Model hγ) [.aload_n 0, .iconst (.negSucc 0), .iload_n 3, .isub] (by decide +kernel) rfl rfl trivial ?_
                                                                                    refine E_callV (κ' := k_Model_lay) (As := [vi ((-1 : Int32) - v3)]) (st := []) mv_Model_lay (Or.inl (tbk_mem (j := 16) (k := 7) rfl)) rfl (by decide +kernel) (Nat.le_of_ble_eq_true rfl) (Nat.le_of_ble_eq_true rfl) rfl (by decide) (lk_Model_lay hγ this ((-1 : Int32) - v3) _ (sI M 11 this 72 ((mI M 11 this 72) - (mI M 11 this 79))) h) (fun _ _ => Qv_r) (fun v M135 hp => Qv_k (R := fun st => E γ k_Model_act 1 473 [some (vr (some (11, this))), some (vi v1), some (vi v2), some (vi v3), some (vi v4), some (vi v5), some (vi v6), some (vi s0), none, none] st M135 (Qv Q)) hp (fun h => ?_))
                                                                                    refine E_goto (off := 225) (tgt := 698) (by decide +kernel) (by decide) ?_
                                                                                    exact E_vret rfl (by decide +kernel) h
                                                                                  · rw [if_neg b55] at h
                                                                                    by_cases b56 : v1 = (42 : Int32)
                                                                                    · rw [if_pos b56] at h
                                                                                      refine E.up (fun _ _ hJ => J_tswI (len := 236) (dflt := 565) (lo := 1) (hi := 55) (offs := #[236, 254, 236, 262, 276, 287, 565, 565, 565, 565, 565, 565, 565, 565, 565, 565, 565, 565, 565, 299, 314, 335, 565, 565, 565, 565, 565, 565, 565, 565, 565, 565, 565, 565, 565, 565, 565, 565, 565, 565, 350, 236, 236, 565, 236, 360, 565, 360, 565, 388, 388, 388, 388, 376, 236]) (off := 236) (tgt := 352) (by decide +kernel) (by rw [b56]; decide) (by rw [b56]; decide) (by rw [b56]; rfl) (by decide) hJ) ?_
                                                                                      refine E_blk (lv' := [some (vr (some (11, this))), some (vi v1), some (vi v2), some (vi v3), some (vi v4), some (vi v5), some (vi v6), some (vi s0), none, none]) (st' := [vi (42 : Int32), vi v1, vr (some (11, this))]) (M1 := (sI M 11 this 72 ((mI M 11 this 72) - (mI M 11 this 79)))) (pc' := 356) (tb_Model hγ) [.aload_n 0, .iload_n 1, .bipush 42] (by decide +kernel) rfl rfl trivial ?_
                                                                                      refine E_icmp_ne (off := 7) (tgt := 363) (by decide +kernel) (by decide) (fun b134 => ?_) (fun b134 => ?_)
                                                                                      · rw [if_pos b134] at h
                                                                                        refine E_blk (lv' := [some (vr (some (11, this))), some (vi v1), some (vi v2), some (vi v3), some (vi v4), some (vi v5), some (vi v6), some (vi s0), none, none]) (st' := [vi (2 : Int32), vr (some (11, this))]) (M1 := (sI M 11 this 72 ((mI M 11 this 72) - (mI M 11 this 79)))) (pc' := 360) (tb_Model hγ) [.iconst 2] (by decide +kernel) rfl rfl trivial ?_
                                                                                        refine E_goto (off := 4) (tgt := 364) (by decide +kernel) (by decide) ?_
                                                                                        refine E_mask [false, false, false, false, false, false, false, false, false, false] rfl ?_
                                                                                        exact lk_Model_act_j364 hγ this Q (2 : Int32) (sI M 11 this 72 ((mI M 11 this 72) - (mI M 11 this 79))) h
                                                                                      · rw [if_neg b134] at h
                                                                                        refine E_blk (lv' := [some (vr (some (11, this))), some (vi v1), some (vi v2), some (vi v3), some (vi v4), some (vi v5), some (vi v6), some (vi s0), none, none]) (st' := [vi (1 : Int32), vr (some (11, this))]) (M1 := (sI M 11 this 72 ((mI M 11 this 72) - (mI M 11 this 79)))) (pc' := 364) (tb_Model hγ) [.iconst 1] (by decide +kernel) rfl rfl trivial ?_
                                                                                        refine E_mask [false, false, false, false, false, false, false, false, false, false] rfl ?_
                                                                                        exact lk_Model_act_j364 hγ this Q (1 : Int32) (sI M 11 this 72 ((mI M 11 this 72) - (mI M 11 this 79))) h
                                                                                    · rw [if_neg b56] at h
                                                                                      by_cases b57 : v1 = (43 : Int32)
                                                                                      · rw [if_pos b57] at h
                                                                                        refine E.up (fun _ _ hJ => J_tswI (len := 236) (dflt := 565) (lo := 1) (hi := 55) (offs := #[236, 254, 236, 262, 276, 287, 565, 565, 565, 565, 565, 565, 565, 565, 565, 565, 565, 565, 565, 299, 314, 335, 565, 565, 565, 565, 565, 565, 565, 565, 565, 565, 565, 565, 565, 565, 565, 565, 565, 565, 350, 236, 236, 565, 236, 360, 565, 360, 565, 388, 388, 388, 388, 376, 236]) (off := 236) (tgt := 352) (by decide +kernel) (by rw [b57]; decide) (by rw [b57]; decide) (by rw [b57]; rfl) (by decide) hJ) ?_
                                                                                        refine E_blk (lv' := [some (vr (some (11, this))), some (vi v1), some (vi v2), some (vi v3), some (vi v4), some (vi v5), some (vi v6), some (vi s0), none, none]) (st' := [vi (42 : Int32), vi v1, vr (some (11, this))]) (M1 := (sI M 11 this 72 ((mI M 11 this 72) - (mI M 11 this 79)))) (pc' := 356) (tb_Model hγ) [.aload_n 0, .iload_n 1, .bipush 42] (by decide +kernel) rfl rfl trivial ?_
                                                                                        refine E_icmp_ne (off := 7) (tgt := 363) (by decide +kernel) (by decide) (fun b133 => ?_) (fun b133 => ?_)
                                                                                        · rw [if_pos b133] at h
                                                                                          refine E_blk (lv' := [some (vr (some (11, this))), some (vi v1), some (vi v2), some (vi v3), some (vi v4), some (vi v5), some (vi v6), some (vi s0), none, none]) (st' := [vi (2 : Int32), vr (some (11, this))]) (M1 := (sI M 11 this 72 ((mI M 11 this 72) - (mI M 11 this 79)))) (pc' := 360) (tb_Model hγ) [.iconst 2] (by decide +kernel) rfl rfl trivial ?_
                                                                                          refine E_goto (off := 4) (tgt := 364) (by decide +kernel) (by decide) ?_
                                                                                          refine E_mask [false, false, false, false, false, false, false, false, false, false] rfl ?_
                                                                                          exact lk_Model_act_j364 hγ this Q (2 : Int32) (sI M 11 this 72 ((mI M 11 this 72) - (mI M 11 this 79))) h
                                                                                        · rw [if_neg b133] at h
                                                                                          refine E_blk (lv' := [some (vr (some (11, this))), some (vi v1), some (vi v2), some (vi v3), some (vi v4), some (vi v5), some (vi v6), some (vi s0), none, none]) (st' := [vi (1 : Int32), vr (some (11, this))]) (M1 := (sI M 11 this 72 ((mI M 11 this 72) - (mI M 11 this 79)))) (pc' := 364) (tb_Model hγ) [.iconst 1] (by decide +kernel) rfl rfl trivial ?_
                                                                                          refine E_mask [false, false, false, false, false, false, false, false, false, false] rfl ?_
                                                                                          exact lk_Model_act_j364 hγ this Q (1 : Int32) (sI M 11 this 72 ((mI M 11 this 72) - (mI M 11 this 79))) h
                                                                                      · rw [if_neg b57] at h
                                                                                        by_cases b58 : v1 = (44 : Int32)
                                                                                        · rw [if_pos b58] at h
                                                                                          refine E.up (fun _ _ hJ => J_tswI (len := 236) (dflt := 565) (lo := 1) (hi := 55) (offs := #[236, 254, 236, 262, 276, 287, 565, 565, 565, 565, 565, 565, 565, 565, 565, 565, 565, 565, 565, 299, 314, 335, 565, 565, 565, 565, 565, 565, 565, 565, 565, 565, 565, 565, 565, 565, 565, 565, 565, 565, 350, 236, 236, 565, 236, 360, 565, 360, 565, 388, 388, 388, 388, 376, 236]) (off := 565) (tgt := 681) (by decide +kernel) (by rw [b58]; decide) (by rw [b58]; decide) (by rw [b58]; rfl) (by decide) hJ) ?_
                                                                                          refine E_blk (lv' := [some (vr (some (11, this))), some (vi v1), some (vi v2), some (vi v3), some (vi v4), some (vi v5), some (vi v6), some (vi s0), none, none]) (st' := [vi (8 : Int32), vi v1]) (M1 := (sI M 11 this 72 ((mI M 11 this 72) - (mI M 11 this 79)))) (pc' := 684) (tb_Model hγ) [.iload_n 1, .bipush 8] (by decide +kernel) rfl rfl trivial ?_
                                                                                          refine E_icmp_lt (off := 14) (tgt := 698) (by decide +kernel) (by decide) (fun b130 => ?_) (fun b130 => ?_)
                                                                                          · rw [if_pos b130] at h
                                                                                            exact E_vret rfl (by decide +kernel) h
                                                                                          · rw [if_neg b130] at h
                                                                                            refine E_blk (lv' := [some (vr (some (11, this))), some (vi v1), some (vi v2), some (vi v3), some (vi v4), some (vi v5), some (vi v6), some (vi s0), none, none]) (st' := [vi (18 : Int32), vi v1]) (M1 := (sI M 11 this 72 ((mI M 11 this 72) - (mI M 11 this 79)))) (pc' := 690) (tb_Model hγ) [.iload_n 1, .bipush 18] (by decide +kernel) rfl rfl trivial ?_
                                                                                            refine E_icmp_gt (off := 8) (tgt := 698) (by decide +kernel) (by decide) (fun b131 => ?_) (fun b131 => ?_)
                                                                                            · rw [if_pos b131] at h
                                                                                              exact E_vret rfl (by decide +kernel) h
                                                                                            · rw [if_neg b131] at h
                                                                                              refine E_blk (lv' := [some (vr (some (11, this))), some (vi v1), some (vi v2), some (vi v3), some (vi v4), some (vi v5), some (vi v6), some (vi s0), none, none]) (st' := [vi (1 : Int32), vr (some (11, this))]) (M1 := (sI M 11 this 72 ((mI M 11 this 72) - (mI M 11 this 79)))) (pc' := 695) (tb_Model hγ) [.aload_n 0, .iconst 1] (by decide +kernel) rfl rfl trivial ?_
                                                                                              refine E_callV (κ' := k_Model_lay) (As := [vi (1 : Int32)]) (st := []) mv_Model_lay (Or.inl (tbk_mem (j := 16) (k := 7) rfl)) rfl (by decide +kernel) (Nat.le_of_ble_eq_true rfl) (Nat.le_of_ble_eq_true rfl) rfl (by decide) (lk_Model_lay hγ this (1 : Int32) _ (sI M 11 this 72 ((mI M 11 this 72) - (mI M 11 this 79))) h) (fun _ _ => Qv_r) (fun v M132 hp => Qv_k (R := fun st => E γ k_Model_act 1 698 [some (vr (some (11, this))), some (vi v1), some (vi v2), some (vi v3), some (vi v4), some (vi v5), some (vi v6), some (vi s0), none, none] st M132 (Qv Q)) hp (fun h => ?_))
                                                                                              exact E_vret rfl (by decide +kernel) h
                                                                                        · rw [if_neg b58] at h
                                                                                          by_cases b59 : v1 = (45 : Int32)
                                                                                          · rw [if_pos b59] at h
                                                                                            refine E.up (fun _ _ hJ => J_tswI (len := 236) (dflt := 565) (lo := 1) (hi := 55) (offs := #[236, 254, 236, 262, 276, 287, 565, 565, 565, 565, 565, 565, 565, 565, 565, 565, 565, 565, 565, 299, 314, 335, 565, 565, 565, 565, 565, 565, 565, 565, 565, 565, 565, 565, 565, 565, 565, 565, 565, 565, 350, 236, 236, 565, 236, 360, 565, 360, 565, 388, 388, 388, 388, 376, 236]) (off := 236) (tgt := 352) (by decide +kernel) (by rw [b59]; decide) (by rw [b59]; decide) (by rw [b59]; rfl) (by decide) hJ) ?_
                                                                                            refine E_blk (lv' := [some (vr (some (11, this))), some (vi v1), some (vi v2), some (vi v3), some (vi v4), some (vi v5), some (vi v6), some (vi s0), none, none]) (st' := [vi (42 : Int32), vi v1, vr (some (11, this))]) (M1 := (sI M 11 this 72 ((mI M 11 this 72) - (mI M 11 this 79)))) (pc' := 356) (tb_Model hγ) [.aload_n 0, .iload_n 1, .bipush 42] (by decide +kernel) rfl rfl trivial ?_
                                                                                            refine E_icmp_ne (off := 7) (tgt := 363) (by decide +kernel) (by decide) (fun b129 => ?_) (fun b129 => ?_)
                                                                                            · rw [if_pos b129] at h
                                                                                              refine E_blk (lv' := [some (vr (some (11, this))), some (vi v1), some (vi v2), some (vi v3), some (vi v4), some (vi v5), some (vi v6), some (vi s0), none, none]) (st' := [vi (2 : Int32), vr (some (11, this))]) (M1 := (sI M 11 this 72 ((mI M 11 this 72) - (mI M 11 this 79)))) (pc' := 360) (tb_Model hγ) [.iconst 2] (by decide +kernel) rfl rfl trivial ?_
                                                                                              refine E_goto (off := 4) (tgt := 364) (by decide +kernel) (by decide) ?_
                                                                                              refine E_mask [false, false, false, false, false, false, false, false, false, false] rfl ?_
                                                                                              exact lk_Model_act_j364 hγ this Q (2 : Int32) (sI M 11 this 72 ((mI M 11 this 72) - (mI M 11 this 79))) h
                                                                                            · rw [if_neg b129] at h
                                                                                              refine E_blk (lv' := [some (vr (some (11, this))), some (vi v1), some (vi v2), some (vi v3), some (vi v4), some (vi v5), some (vi v6), some (vi s0), none, none]) (st' := [vi (1 : Int32), vr (some (11, this))]) (M1 := (sI M 11 this 72 ((mI M 11 this 72) - (mI M 11 this 79)))) (pc' := 364) (tb_Model hγ) [.iconst 1] (by decide +kernel) rfl rfl trivial ?_
                                                                                              refine E_mask [false, false, false, false, false, false, false, false, false, false] rfl ?_
                                                                                              exact lk_Model_act_j364 hγ this Q (1 : Int32) (sI M 11 this 72 ((mI M 11 this 72) - (mI M 11 this 79))) h
                                                                                          · rw [if_neg b59] at h
                                                                                            by_cases b60 : v1 = (46 : Int32)
                                                                                            · rw [if_pos b60] at h
                                                                                              refine E.up (fun _ _ hJ => J_tswI (len := 236) (dflt := 565) (lo := 1) (hi := 55) (offs := #[236, 254, 236, 262, 276, 287, 565, 565, 565, 565, 565, 565, 565, 565, 565, 565, 565, 565, 565, 299, 314, 335, 565, 565, 565, 565, 565, 565, 565, 565, 565, 565, 565, 565, 565, 565, 565, 565, 565, 565, 350, 236, 236, 565, 236, 360, 565, 360, 565, 388, 388, 388, 388, 376, 236]) (off := 360) (tgt := 476) (by decide +kernel) (by rw [b60]; decide) (by rw [b60]; decide) (by rw [b60]; rfl) (by decide) hJ) ?_
                                                                                              refine E_blk (lv' := [some (vr (some (11, this))), some (vi v1), some (vi v2), some (vi v3), some (vi v4), some (vi v5), some (vi v6), some (vi s0), none, none]) (st' := [vr (mR (sI M 11 this 72 ((mI M 11 this 72) - (mI M 11 this 79))) 11 this 45), vr (some (11, this))]) (M1 := (sI M 11 this 72 ((mI M 11 this 72) - (mI M 11 this 79)))) (pc' := 481) (tb_Model hγ) [.aload_n 0, .aload_n 0, .getfield 522] (by decide +kernel) rfl rfl trivial ?_
                                                                                              obtain ⟨i125, ei125, h⟩ := h
                                                                                              rw [ei125]
                                                                                              refine E_blk (lv' := [some (vr (some (11, this))), some (vi v1), some (vi v2), some (vi v3), some (vi v4), some (vi v5), some (vi v6), some (vi s0), none, none]) (st' := [vr (mR (sI M 11 this 72 ((mI M 11 this 72) - (mI M 11 this 79))) 12 i125 33), vr (some (11, this))]) (M1 := (sI M 11 this 72 ((mI M 11 this 72) - (mI M 11 this 79)))) (pc' := 484) (tb_Model hγ) [.getfield 683] (by decide +kernel) rfl rfl trivial ?_
                                                                                              obtain ⟨i126, ei126, h⟩ := h
                                                                                              rw [ei126]
                                                                                              obtain ⟨c127, h⟩ := h
                                                                                              refine E_blk (lv' := [some (vr (some (11, this))), some (vi v1), some (vi v2), some (vi v3), some (vi v4), some (vi v5), some (vi v6), some (vi s0), none, none]) (st' := [vi (mI (sI M 11 this 72 ((mI M 11 this 72) - (mI M 11 this 79))) 300 i126 v2.toNatClampNeg), vr (some (11, this))]) (M1 := (sI M 11 this 72 ((mI M 11 this 72) - (mI M 11 this 79)))) (pc' := 486) (tb_Model hγ) [.iload_n 2, .iaload] (by decide +kernel) rfl rfl ⟨c127, trivial⟩ ?_
                                                                                              refine E_callV (κ' := k_Model_lay) (As := [vi (mI (sI M 11 this 72 ((mI M 11 this 72) - (mI M 11 this 79))) 300 i126 v2.toNatClampNeg)]) (st := []) mv_Model_lay (Or.inl (tbk_mem (j := 16) (k := 7) rfl)) rfl (by decide +kernel) (Nat.le_of_ble_eq_true rfl) (Nat.le_of_ble_eq_true rfl) rfl (by decide) (lk_Model_lay hγ this (mI (sI M 11 this 72 ((mI M 11 this 72) - (mI M 11 this 79))) 300 i126 v2.toNatClampNeg) _ (sI M 11 this 72 ((mI M 11 this 72) - (mI M 11 this 79))) h) (fun _ _ => Qv_r) (fun v M128 hp => Qv_k (R := fun st => E γ k_Model_act 1 489 [some (vr (some (11, this))), some (vi v1), some (vi v2), some (vi v3), some (vi v4), some (vi v5), some (vi v6), some (vi s0), none, none] st M128 (Qv Q)) hp (fun h => ?_))
                                                                                              refine E_goto (off := 209) (tgt := 698) (by decide +kernel) (by decide) ?_
                                                                                              exact E_vret rfl (by decide +kernel) h
                                                                                            · rw [if_neg b60] at h
                                                                                              by_cases b61 : v1 = (47 : Int32)
                                                                                              · rw [if_pos b61] at h
                                                                                                refine E.up (fun _ _ hJ => J_tswI (len := 236) (dflt := 565) (lo := 1) (hi := 55) (offs := #[236, 254, 236, 262, 276, 287, 565, 565, 565, 565, 565, 565, 565, 565, 565, 565, 565, 565, 565, 299, 314, 335, 565, 565, 565, 565, 565, 565, 565, 565, 565, 565, 565, 565, 565, 565, 565, 565, 565, 565, 350, 236, 236, 565, 236, 360, 565, 360, 565, 388, 388, 388, 388, 376, 236]) (off := 565) (tgt := 681) (by decide +kernel) (by rw [b61]; decide) (by rw [b61]; decide) (by rw [b61]; rfl) (by decide) hJ) ?_
                                                                                                refine E_blk (lv' := [some (vr (some (11, this))), some (vi v1), some (vi v2), some (vi v3), some (vi v4), some (vi v5), some (vi v6), some (vi s0), none, none]) (st' := [vi (8 : Int32), vi v1]) (M1 := (sI M 11 this 72 ((mI M 11 this 72) - (mI M 11 this 79)))) (pc' := 684) (tb_Model hγ) [.iload_n 1, .bipush 8] (by decide +kernel) rfl rfl trivial ?_
                                                                                                refine E_icmp_lt (off := 14) (tgt := 698) (by decide +kernel) (by decide) (fun b122 => ?_) (fun b122 => ?_)
                                                                                                · rw [if_pos b122] at h
                                                                                                  exact E_vret rfl (by decide +kernel) h
                                                                                                · rw [if_neg b122] at h
                                                                                                  refine E_blk (lv' := [some (vr (some (11, this))), some (vi v1), some (vi v2), some (vi v3), some (vi v4), some (vi v5), some (vi v6), some (vi s0), none, none]) (st' := [vi (18 : Int32), vi v1]) (M1 := (sI M 11 this 72 ((mI M 11 this 72) - (mI M 11 this 79)))) (pc' := 690) (tb_Model hγ) [.iload_n 1, .bipush 18] (by decide +kernel) rfl rfl trivial ?_
                                                                                                  refine E_icmp_gt (off := 8) (tgt := 698) (by decide +kernel) (by decide) (fun b123 => ?_) (fun b123 => ?_)
                                                                                                  · rw [if_pos b123] at h
                                                                                                    exact E_vret rfl (by decide +kernel) h
                                                                                                  · rw [if_neg b123] at h
                                                                                                    refine E_blk (lv' := [some (vr (some (11, this))), some (vi v1), some (vi v2), some (vi v3), some (vi v4), some (vi v5), some (vi v6), some (vi s0), none, none]) (st' := [vi (1 : Int32), vr (some (11, this))]) (M1 := (sI M 11 this 72 ((mI M 11 this 72) - (mI M 11 this 79)))) (pc' := 695) (tb_Model hγ) [.aload_n 0, .iconst 1] (by decide +kernel) rfl rfl trivial ?_
                                                                                                    refine E_callV (κ' := k_Model_lay) (As := [vi (1 : Int32)]) (st := []) mv_Model_lay (Or.inl (tbk_mem (j := 16) (k := 7) rfl)) rfl (by decide +kernel) (Nat.le_of_ble_eq_true rfl) (Nat.le_of_ble_eq_true rfl) rfl (by decide) (lk_Model_lay hγ this (1 : Int32) _ (sI M 11 this 72 ((mI M 11 this 72) - (mI M 11 this 79))) h) (fun _ _ => Qv_r) (fun v M124 hp => Qv_k (R := fun st => E γ k_Model_act 1 698 [some (vr (some (11, this))), some (vi v1), some (vi v2), some (vi v3), some (vi v4), some (vi v5), some (vi v6), some (vi s0), none, none] st M124 (Qv Q)) hp (fun h => ?_))
                                                                                                    exact E_vret rfl (by decide +kernel) h
                                                                                              · rw [if_neg b61] at h
                                                                                                by_cases b62 : v1 = (48 : Int32)
                                                                                                · rw [if_pos b62] at h
                                                                                                  refine E.up (fun _ _ hJ => J_tswI (len := 236) (dflt := 565) (lo := 1) (hi := 55) (offs := #[236, 254, 236, 262, 276, 287, 565, 565, 565, 565, 565, 565, 565, 565, 565, 565, 565, 565, 565, 299, 314, 335, 565, 565, 565, 565, 565, 565, 565, 565, 565, 565, 565, 565, 565, 565, 565, 565, 565, 565, 350, 236, 236, 565, 236, 360, 565, 360, 565, 388, 388, 388, 388, 376, 236]) (off := 360) (tgt := 476) (by decide +kernel) (by rw [b62]; decide) (by rw [b62]; decide) (by rw [b62]; rfl) (by decide) hJ) ?_
                                                                                                  refine E_blk (lv' := [some (vr (some (11, this))), some (vi v1), some (vi v2), some (vi v3), some (vi v4), some (vi v5), some (vi v6), some (vi s0), none, none]) (st' := [vr (mR (sI M 11 this 72 ((mI M 11 this 72) - (mI M 11 this 79))) 11 this 45), vr (some (11, this))]) (M1 := (sI M 11 this 72 ((mI M 11 this 72) - (mI M 11 this 79)))) (pc' := 481) (tb_Model hγ) [.aload_n 0, .aload_n 0, .getfield 522] (by decide +kernel) rfl rfl trivial ?_
                                                                                                  obtain ⟨i118, ei118, h⟩ := h
                                                                                                  rw [ei118]
                                                                                                  refine E_blk (lv' := [some (vr (some (11, this))), some (vi v1), some (vi v2), some (vi v3), some (vi v4), some (vi v5), some (vi v6), some (vi s0), none, none]) (st' := [vr (mR (sI M 11 this 72 ((mI M 11 this 72) - (mI M 11 this 79))) 12 i118 33), vr (some (11, this))]) (M1 := (sI M 11 this 72 ((mI M 11 this 72) - (mI M 11 this 79)))) (pc' := 484) (tb_Model hγ) [.getfield 683] (by decide +kernel) rfl rfl trivial ?_
                                                                                                  obtain ⟨i119, ei119, h⟩ := h
                                                                                                  rw [ei119]
                                                                                                  obtain ⟨c120, h⟩ := h
                                                                                                  refine E_blk (lv' := [some (vr (some (11, this))), some (vi v1), some (vi v2), some (vi v3), some (vi v4), some (vi v5), some (vi v6), some (vi s0), none, none]) (st' := [vi (mI (sI M 11 this 72 ((mI M 11 this 72) - (mI M 11 this 79))) 300 i119 v2.toNatClampNeg), vr (some (11, this))]) (M1 := (sI M 11 this 72 ((mI M 11 this 72) - (mI M 11 this 79)))) (pc' := 486) (tb_Model hγ) [.iload_n 2, .iaload] (by decide +kernel) rfl rfl ⟨c120, trivial⟩ ?_
                                                                                                  refine E_callV (κ' := k_Model_lay) (As := [vi (mI (sI M 11 this 72 ((mI M 11 this 72) - (mI M 11 this 79))) 300 i119 v2.toNatClampNeg)]) (st := []) mv_Model_lay (Or.inl (tbk_mem (j := 16) (k := 7) rfl)) rfl (by decide +kernel) (Nat.le_of_ble_eq_true rfl) (Nat.le_of_ble_eq_true rfl) rfl (by decide) (lk_Model_lay hγ this (mI (sI M 11 this 72 ((mI M 11 this 72) - (mI M 11 this 79))) 300 i119 v2.toNatClampNeg) _ (sI M 11 this 72 ((mI M 11 this 72) - (mI M 11 this 79))) h) (fun _ _ => Qv_r) (fun v M121 hp => Qv_k (R := fun st => E γ k_Model_act 1 489 [some (vr (some (11, this))), some (vi v1), some (vi v2), some (vi v3), some (vi v4), some (vi v5), some (vi v6), some (vi s0), none, none] st M121 (Qv Q)) hp (fun h => ?_))
                                                                                                  refine E_goto (off := 209) (tgt := 698) (by decide +kernel) (by decide) ?_
                                                                                                  exact E_vret rfl (by decide +kernel) h
                                                                                                · rw [if_neg b62] at h
                                                                                                  by_cases b63 : v1 = (49 : Int32)
                                                                                                  · rw [if_pos b63] at h
                                                                                                    refine E.up (fun _ _ hJ => J_tswI (len := 236) (dflt := 565) (lo := 1) (hi := 55) (offs := #[236, 254, 236, 262, 276, 287, 565, 565, 565, 565, 565, 565, 565, 565, 565, 565, 565, 565, 565, 299, 314, 335, 565, 565, 565, 565, 565, 565, 565, 565, 565, 565, 565, 565, 565, 565, 565, 565, 565, 565, 350, 236, 236, 565, 236, 360, 565, 360, 565, 388, 388, 388, 388, 376, 236]) (off := 565) (tgt := 681) (by decide +kernel) (by rw [b63]; decide) (by rw [b63]; decide) (by rw [b63]; rfl) (by decide) hJ) ?_
                                                                                                    refine E_blk (lv' := [some (vr (some (11, this))), some (vi v1), some (vi v2), some (vi v3), some (vi v4), some (vi v5), some (vi v6), some (vi s0), none, none]) (st' := [vi (8 : Int32), vi v1]) (M1 := (sI M 11 this 72 ((mI M 11 this 72) - (mI M 11 this 79)))) (pc' := 684) (tb_Model hγ) [.iload_n 1, .bipush 8] (by decide +kernel) rfl rfl trivial ?_
                                                                                                    refine E_icmp_lt (off := 14) (tgt := 698) (by decide +kernel) (by decide) (fun b115 => ?_) (fun b115 => ?_)
                                                                                                    · rw [if_pos b115] at h
                                                                                                      exact E_vret rfl (by decide +kernel) h
                                                                                                    · rw [if_neg b115] at h
                                                                                                      refine E_blk (lv' := [some (vr (some (11, this))), some (vi v1), some (vi v2), some (vi v3), some (vi v4), some (vi v5), some (vi v6), some (vi s0), none, none]) (st' := [vi (18 : Int32), vi v1]) (M1 := (sI M 11 this 72 ((mI M 11 this 72) - (mI M 11 this 79)))) (pc' := 690) (tb_Model hγ) [.iload_n 1, .bipush 18] (by decide +kernel) rfl rfl trivial ?_
                                                                                                      refine E_icmp_gt (off := 8) (tgt := 698) (by decide +kernel) (by decide) (fun b116 => ?_) (fun b116 => ?_)
                                                                                                      · rw [if_pos b116] at h
                                                                                                        exact E_vret rfl (by decide +kernel) h
                                                                                                      · rw [if_neg b116] at h
                                                                                                        refine E_blk (lv' := [some (vr (some (11, this))), some (vi v1), some (vi v2), some (vi v3), some (vi v4), some (vi v5), some (vi v6), some (vi s0), none, none]) (st' := [vi (1 : Int32), vr (some (11, this))]) (M1 := (sI M 11 this 72 ((mI M 11 this 72) - (mI M 11 this 79)))) (pc' := 695) (tb_Model hγ) [.aload_n 0, .iconst 1] (by decide +kernel) rfl rfl trivial ?_
                                                                                                        refine E_callV (κ' := k_Model_lay) (As := [vi (1 : Int32)]) (st := []) mv_Model_lay (Or.inl (tbk_mem (j := 16) (k := 7) rfl)) rfl (by decide +kernel) (Nat.le_of_ble_eq_true rfl) (Nat.le_of_ble_eq_true rfl) rfl (by decide) (lk_Model_lay hγ this (1 : Int32) _ (sI M 11 this 72 ((mI M 11 this 72) - (mI M 11 this 79))) h) (fun _ _ => Qv_r) (fun v M117 hp => Qv_k (R := fun st => E γ k_Model_act 1 698 [some (vr (some (11, this))), some (vi v1), some (vi v2), some (vi v3), some (vi v4), some (vi v5), some (vi v6), some (vi s0), none, none] st M117 (Qv Q)) hp (fun h => ?_))
                                                                                                        exact E_vret rfl (by decide +kernel) h
                                                                                                  · rw [if_neg b63] at h
                                                                                                    by_cases b64 : v1 = (50 : Int32)
                                                                                                    · rw [if_pos b64] at h
                                                                                                      refine E.up (fun _ _ hJ => J_tswI (len := 236) (dflt := 565) (lo := 1) (hi := 55) (offs := #[236, 254, 236, 262, 276, 287, 565, 565, 565, 565, 565, 565, 565, 565, 565, 565, 565, 565, 565, 299, 314, 335, 565, 565, 565, 565, 565, 565, 565, 565, 565, 565, 565, 565, 565, 565, 565, 565, 565, 565, 350, 236, 236, 565, 236, 360, 565, 360, 565, 388, 388, 388, 388, 376, 236]) (off := 388) (tgt := 504) (by decide +kernel) (by rw [b64]; decide) (by rw [b64]; decide) (by rw [b64]; rfl) (by decide) hJ) ?_
                                                                                                      refine E_blk (lv' := [some (vr (some (11, this))), some (vi v1), some (vi v2), some (vi v3), some (vi v4), some (vi v5), some (vi v6), some (vi s0), none, none]) (st' := [vi s0]) (M1 := (sI M 11 this 72 ((mI M 11 this 72) - (mI M 11 this 79)))) (pc' := 506) (tb_Model hγ) [.iload 7] (by decide +kernel) rfl rfl trivial ?_
                                                                                                      refine E_if_eq (off := 137) (tgt := 643) (by decide +kernel) (by decide) (fun b111 => ?_) (fun b111 => ?_)
                                                                                                      · rw [if_pos b111] at h
                                                                                                        refine E_mask [true, false, true, false, false, false, false, false, false, false] rfl ?_
                                                                                                        exact lk_Model_act_j643 hγ this Q v2 (sI M 11 this 72 ((mI M 11 this 72) - (mI M 11 this 79))) h
                                                                                                      · rw [if_neg b111] at h
                                                                                                        refine E_blk (lv' := [some (vr (some (11, this))), some (vi v1), some (vi v2), some (vi v3), some (vi v4), some (vi v5), some (vi v6), some (vi s0), none, none]) (st' := [vi (5 : Int32), vi s0, vi (16 : Int32)]) (M1 := (sI M 11 this 72 ((mI M 11 this 72) - (mI M 11 this 79)))) (pc' := 514) (tb_Model hγ) [.bipush 16, .iload 7, .iconst 5] (by decide +kernel) rfl rfl trivial ?_
                                                                                                        refine E_icmp_ne (off := 18) (tgt := 532) (by decide +kernel) (by decide) (fun b112 => ?_) (fun b112 => ?_)
                                                                                                        · rw [if_pos b112] at h
                                                                                                          refine E_blk (lv' := [some (vr (some (11, this))), some (vi v1), some (vi v2), some (vi v3), some (vi v4), some (vi v5), some (vi v6), some (vi s0), none, none]) (st' := [vr (mR (sI M 11 this 72 ((mI M 11 this 72) - (mI M 11 this 79))) 11 this 45), vi (16 : Int32)]) (M1 := (sI M 11 this 72 ((mI M 11 this 72) - (mI M 11 this 79)))) (pc' := 521) (tb_Model hγ) [.aload_n 0, .getfield 522] (by decide +kernel) rfl rfl trivial ?_
                                                                                                          obtain ⟨i113, ei113, h⟩ := h
                                                                                                          rw [ei113]
                                                                                                          obtain ⟨c114, h⟩ := h
                                                                                                          refine E_blk (lv' := [some (vr (some (11, this))), some (vi v1), some (vi v2), some (vi v3), some (vi v4), some (vi v5), some (vi v6), some (vi s0), none, none]) (st' := [vi (mI (sI M 11 this 72 ((mI M 11 this 72) - (mI M 11 this 79))) 130 i113 (mI (sI M 11 this 72 ((mI M 11 this 72) - (mI M 11 this 79))) 11 this 76).toNatClampNeg), vi (16 : Int32)]) (M1 := (sI M 11 this 72 ((mI M 11 this 72) - (mI M 11 this 79)))) (pc' := 529) (tb_Model hγ) [.getfield 423, .aload_n 0, .getfield 789, .iaload] (by decide +kernel) rfl rfl ⟨c114, trivial⟩ ?_
                                                                                                          refine E_goto (off := 5) (tgt := 534) (by decide +kernel) (by decide) ?_
                                                                                                          refine E_mask [true, false, true, false, false, false, false, true, false, false] rfl ?_
                                                                                                          exact lk_Model_act_j534 hγ this Q v2 s0 (mI (sI M 11 this 72 ((mI M 11 this 72) - (mI M 11 this 79))) 130 i113 (mI (sI M 11 this 72 ((mI M 11 this 72) - (mI M 11 this 79))) 11 this 76).toNatClampNeg) (16 : Int32) (sI M 11 this 72 ((mI M 11 this 72) - (mI M 11 this 79))) h
                                                                                                        · rw [if_neg b112] at h
                                                                                                          refine E_blk (lv' := [some (vr (some (11, this))), some (vi v1), some (vi v2), some (vi v3), some (vi v4), some (vi v5), some (vi v6), some (vi s0), none, none]) (st' := [vi v4, vi (16 : Int32)]) (M1 := (sI M 11 this 72 ((mI M 11 this 72) - (mI M 11 this 79)))) (pc' := 534) (tb_Model hγ) [.iload 4] (by decide +kernel) rfl rfl trivial ?_
                                                                                                          refine E_mask [true, false, true, false, false, false, false, true, false, false] rfl ?_
                                                                                                          exact lk_Model_act_j534 hγ this Q v2 s0 v4 (16 : Int32) (sI M 11 this 72 ((mI M 11 this 72) - (mI M 11 this 79))) h
                                                                                                    · rw [if_neg b64] at h
                                                                                                      by_cases b65 : v1 = (51 : Int32)
                                                                                                      · rw [if_pos b65] at h
                                                                                                        refine E.up (fun _ _ hJ => J_tswI (len := 236) (dflt := 565) (lo := 1) (hi := 55) (offs := #[236, 254, 236, 262, 276, 287, 565, 565, 565, 565, 565, 565, 565, 565, 565, 565, 565, 565, 565, 299, 314, 335, 565, 565, 565, 565, 565, 565, 565, 565, 565, 565, 565, 565, 565, 565, 565, 565, 565, 565, 350, 236, 236, 565, 236, 360, 565, 360, 565, 388, 388, 388, 388, 376, 236]) (off := 388) (tgt := 504) (by decide +kernel) (by rw [b65]; decide) (by rw [b65]; decide) (by rw [b65]; rfl) (by decide) hJ) ?_
                                                                                                        refine E_blk (lv' := [some (vr (some (11, this))), some (vi v1), some (vi v2), some (vi v3), some (vi v4), some (vi v5), some (vi v6), some (vi s0), none, none]) (st' := [vi s0]) (M1 := (sI M 11 this 72 ((mI M 11 this 72) - (mI M 11 this 79)))) (pc' := 506) (tb_Model hγ) [.iload 7] (by decide +kernel) rfl rfl trivial ?_
                                                                                                        refine E_if_eq (off := 137) (tgt := 643) (by decide +kernel) (by decide) (fun b107 => ?_) (fun b107 => ?_)
                                                                                                        · rw [if_pos b107] at h
                                                                                                          refine E_mask [true, false, true, false, false, false, false, false, false, false] rfl ?_
                                                                                                          exact lk_Model_act_j643 hγ this Q v2 (sI M 11 this 72 ((mI M 11 this 72) - (mI M 11 this 79))) h
                                                                                                        · rw [if_neg b107] at h
                                                                                                          refine E_blk (lv' := [some (vr (some (11, this))), some (vi v1), some (vi v2), some (vi v3), some (vi v4), some (vi v5), some (vi v6), some (vi s0), none, none]) (st' := [vi (5 : Int32), vi s0, vi (16 : Int32)]) (M1 := (sI M 11 this 72 ((mI M 11 this 72) - (mI M 11 this 79)))) (pc' := 514) (tb_Model hγ) [.bipush 16, .iload 7, .iconst 5] (by decide +kernel) rfl rfl trivial ?_
                                                                                                          refine E_icmp_ne (off := 18) (tgt := 532) (by decide +kernel) (by decide) (fun b108 => ?_) (fun b108 => ?_)
                                                                                                          · rw [if_pos b108] at h
                                                                                                            refine E_blk (lv' := [some (vr (some (11, this))), some (vi v1), some (vi v2), some (vi v3), some (vi v4), some (vi v5), some (vi v6), some (vi s0), none, none]) (st' := [vr (mR (sI M 11 this 72 ((mI M 11 this 72) - (mI M 11 this 79))) 11 this 45), vi (16 : Int32)]) (M1 := (sI M 11 this 72 ((mI M 11 this 72) - (mI M 11 this 79)))) (pc' := 521) (tb_Model hγ) [.aload_n 0, .getfield 522] (by decide +kernel) rfl rfl trivial ?_
                                                                                                            obtain ⟨i109, ei109, h⟩ := h
                                                                                                            rw [ei109]
                                                                                                            obtain ⟨c110, h⟩ := h
                                                                                                            refine E_blk (lv' := [some (vr (some (11, this))), some (vi v1), some (vi v2), some (vi v3), some (vi v4), some (vi v5), some (vi v6), some (vi s0), none, none]) (st' := [vi (mI (sI M 11 this 72 ((mI M 11 this 72) - (mI M 11 this 79))) 130 i109 (mI (sI M 11 this 72 ((mI M 11 this 72) - (mI M 11 this 79))) 11 this 76).toNatClampNeg), vi (16 : Int32)]) (M1 := (sI M 11 this 72 ((mI M 11 this 72) - (mI M 11 this 79)))) (pc' := 529) (tb_Model hγ) [.getfield 423, .aload_n 0, .getfield 789, .iaload] (by decide +kernel) rfl rfl ⟨c110, trivial⟩ ?_
                                                                                                            refine E_goto (off := 5) (tgt := 534) (by decide +kernel) (by decide) ?_
                                                                                                            refine E_mask [true, false, true, false, false, false, false, true, false, false] rfl ?_
                                                                                                            exact lk_Model_act_j534 hγ this Q v2 s0 (mI (sI M 11 this 72 ((mI M 11 this 72) - (mI M 11 this 79))) 130 i109 (mI (sI M 11 this 72 ((mI M 11 this 72) - (mI M 11 this 79))) 11 this 76).toNatClampNeg) (16 : Int32) (sI M 11 this 72 ((mI M 11 this 72) - (mI M 11 this 79))) h
                                                                                                          · rw [if_neg b108] at h
                                                                                                            refine E_blk (lv' := [some (vr (some (11, this))), some (vi v1), some (vi v2), some (vi v3), some (vi v4), some (vi v5), some (vi v6), some (vi s0), none, none]) (st' := [vi v4, vi (16 : Int32)]) (M1 := (sI M 11 this 72 ((mI M 11 this 72) - (mI M 11 this 79)))) (pc' := 534) (tb_Model hγ) [.iload 4] (by decide +kernel) rfl rfl trivial ?_
                                                                                                            refine E_mask [true, false, true, false, false, false, false, true, false, false] rfl ?_
                                                                                                            exact lk_Model_act_j534 hγ this Q v2 s0 v4 (16 : Int32) (sI M 11 this 72 ((mI M 11 this 72) - (mI M 11 this 79))) h
                                                                                                      · rw [if_neg b65] at h
                                                                                                        by_cases b66 : v1 = (52 : Int32)
                                                                                                        · rw [if_pos b66] at h
                                                                                                          refine E.up (fun _ _ hJ => J_tswI (len := 236) (dflt := 565) (lo := 1) (hi := 55) (offs := #[236, 254, 236, 262, 276, 287, 565, 565, 565, 565, 565, 565, 565, 565, 565, 565, 565, 565, 565, 299, 314, 335, 565, 565, 565, 565, 565, 565, 565, 565, 565, 565, 565, 565, 565, 565, 565, 565, 565, 565, 350, 236, 236, 565, 236, 360, 565, 360, 565, 388, 388, 388, 388, 376, 236]) (off := 388) (tgt := 504) (by decide +kernel) (by rw [b66]; decide) (by rw [b66]; decide) (by rw [b66]; rfl) (by decide) hJ) ?_
                                                                                                          refine E_blk (lv' := [some (vr (some (11, this))), some (vi v1), some (vi v2), some (vi v3), some (vi v4), some (vi v5), some (vi v6), some (vi s0), none, none]) (st' := [vi s0]) (M1 := (sI M 11 this 72 ((mI M 11 this 72) - (mI M 11 this 79)))) (pc' := 506) (tb_Model hγ) [.iload 7] (by decide +kernel) rfl rfl trivial ?_
                                                                                                          refine E_if_eq (off := 137) (tgt := 643) (by decide +kernel) (by decide) (fun b103 => ?_) (fun b103 => ?_)
                                                                                                          · rw [if_pos b103] at h
                                                                                                            refine E_mask [true, false, true, false, false, false, false, false, false, false] rfl ?_
                                                                                                            exact lk_Model_act_j643 hγ this Q v2 (sI M 11 this 72 ((mI M 11 this 72) - (mI M 11 this 79))) h
                                                                                                          · rw [if_neg b103] at h
                                                                                                            refine E_blk (lv' := [some (vr (some (11, this))), some (vi v1), some (vi v2), some (vi v3), some (vi v4), some (vi v5), some (vi v6), some (vi s0), none, none]) (st' := [vi (5 : Int32), vi s0, vi (16 : Int32)]) (M1 := (sI M 11 this 72 ((mI M 11 this 72) - (mI M 11 this 79)))) (pc' := 514) (tb_Model hγ) [.bipush 16, .iload 7, .iconst 5] (by decide +kernel) rfl rfl trivial ?_
                                                                                                            refine E_icmp_ne (off := 18) (tgt := 532) (by decide +kernel) (by decide) (fun b104 => ?_) (fun b104 => ?_)
                                                                                                            · rw [if_pos b104] at h
                                                                                                              refine E_blk (lv' := [some (vr (some (11, this))), some (vi v1), some (vi v2), some (vi v3), some (vi v4), some (vi v5), some (vi v6), some (vi s0), none, none]) (st' := [vr (mR (sI M 11 this 72 ((mI M 11 this 72) - (mI M 11 this 79))) 11 this 45), vi (16 : Int32)]) (M1 := (sI M 11 this 72 ((mI M 11 this 72) - (mI M 11 this 79)))) (pc' := 521) (tb_Model hγ) [.aload_n 0, .getfield 522] (by decide +kernel) rfl rfl trivial ?_
                                                                                                              obtain ⟨i105, ei105, h⟩ := h
                                                                                                              rw [ei105]
                                                                                                              obtain ⟨c106, h⟩ := h
                                                                                                              refine E_blk (lv' := [some (vr (some (11, this))), some (vi v1), some (vi v2), some (vi v3), some (vi v4), some (vi v5), some (vi v6), some (vi s0), none, none]) (st' := [vi (mI (sI M 11 this 72 ((mI M 11 this 72) - (mI M 11 this 79))) 130 i105 (mI (sI M 11 this 72 ((mI M 11 this 72) - (mI M 11 this 79))) 11 this 76).toNatClampNeg), vi (16 : Int32)]) (M1 := (sI M 11 this 72 ((mI M 11 this 72) - (mI M 11 this 79)))) (pc' := 529) (tb_Model hγ) [.getfield 423, .aload_n 0, .getfield 789, .iaload] (by decide +kernel) rfl rfl ⟨c106, trivial⟩ ?_
                                                                                                              refine E_goto (off := 5) (tgt := 534) (by decide +kernel) (by decide) ?_
                                                                                                              refine E_mask [true, false, true, false, false, false, false, true, false, false] rfl ?_
                                                                                                              exact lk_Model_act_j534 hγ this Q v2 s0 (mI (sI M 11 this 72 ((mI M 11 this 72) - (mI M 11 this 79))) 130 i105 (mI (sI M 11 this 72 ((mI M 11 this 72) - (mI M 11 this 79))) 11 this 76).toNatClampNeg) (16 : Int32) (sI M 11 this 72 ((mI M 11 this 72) - (mI M 11 this 79))) h
                                                                                                            · rw [if_neg b104] at h
                                                                                                              refine E_blk (lv' := [some (vr (some (11, this))), some (vi v1), some (vi v2), some (vi v3), some (vi v4), some (vi v5), some (vi v6), some (vi s0), none, none]) (st' := [vi v4, vi (16 : Int32)]) (M1 := (sI M 11 this 72 ((mI M 11 this 72) - (mI M 11 this 79)))) (pc' := 534) (tb_Model hγ) [.iload 4] (by decide +kernel) rfl rfl trivial ?_
                                                                                                              refine E_mask [true, false, true, false, false, false, false, true, false, false] rfl ?_
                                                                                                              exact lk_Model_act_j534 hγ this Q v2 s0 v4 (16 : Int32) (sI M 11 this 72 ((mI M 11 this 72) - (mI M 11 this 79))) h
                                                                                                        · rw [if_neg b66] at h
                                                                                                          by_cases b67 : v1 = (53 : Int32)
                                                                                                          · rw [if_pos b67] at h
                                                                                                            refine E.up (fun _ _ hJ => J_tswI (len := 236) (dflt := 565) (lo := 1) (hi := 55) (offs := #[236, 254, 236, 262, 276, 287, 565, 565, 565, 565, 565, 565, 565, 565, 565, 565, 565, 565, 565, 299, 314, 335, 565, 565, 565, 565, 565, 565, 565, 565, 565, 565, 565, 565, 565, 565, 565, 565, 565, 565, 350, 236, 236, 565, 236, 360, 565, 360, 565, 388, 388, 388, 388, 376, 236]) (off := 388) (tgt := 504) (by decide +kernel) (by rw [b67]; decide) (by rw [b67]; decide) (by rw [b67]; rfl) (by decide) hJ) ?_
                                                                                                            refine E_blk (lv' := [some (vr (some (11, this))), some (vi v1), some (vi v2), some (vi v3), some (vi v4), some (vi v5), some (vi v6), some (vi s0), none, none]) (st' := [vi s0]) (M1 := (sI M 11 this 72 ((mI M 11 this 72) - (mI M 11 this 79)))) (pc' := 506) (tb_Model hγ) [.iload 7] (by decide +kernel) rfl rfl trivial ?_
                                                                                                            refine E_if_eq (off := 137) (tgt := 643) (by decide +kernel) (by decide) (fun b73 => ?_) (fun b73 => ?_)
                                                                                                            · rw [if_pos b73] at h
                                                                                                              refine E_mask [true, false, true, false, false, false, false, false, false, false] rfl ?_
                                                                                                              exact lk_Model_act_j643 hγ this Q v2 (sI M 11 this 72 ((mI M 11 this 72) - (mI M 11 this 79))) h
                                                                                                            · rw [if_neg b73] at h
                                                                                                              refine E_blk (lv' := [some (vr (some (11, this))), some (vi v1), some (vi v2), some (vi v3), some (vi v4), some (vi v5), some (vi v6), some (vi s0), none, none]) (st' := [vi (5 : Int32), vi s0, vi (16 : Int32)]) (M1 := (sI M 11 this 72 ((mI M 11 this 72) - (mI M 11 this 79)))) (pc' := 514) (tb_Model hγ) [.bipush 16, .iload 7, .iconst 5] (by decide +kernel) rfl rfl trivial ?_
                                                                                                              refine E_icmp_ne (off := 18) (tgt := 532) (by decide +kernel) (by decide) (fun b86 => ?_) (fun b86 => ?_)
                                                                                                              · rw [if_pos b86] at h
                                                                                                                refine E_blk (lv' := [some (vr (some (11, this))), some (vi v1), some (vi v2), some (vi v3), some (vi v4), some (vi v5), some (vi v6), some (vi s0), none, none]) (st' := [vr (mR (sI M 11 this 72 ((mI M 11 this 72) - (mI M 11 this 79))) 11 this 45), vi (16 : Int32)]) (M1 := (sI M 11 this 72 ((mI M 11 this 72) - (mI M 11 this 79)))) (pc' := 521) (tb_Model hγ) [.aload_n 0, .getfield 522] (by decide +kernel) rfl rfl trivial ?_
                                                                                                                obtain ⟨i87, ei87, h⟩ := h
                                                                                                                rw [ei87]
                                                                                                                obtain ⟨c88, h⟩ := h
                                                                                                                refine E_blk (lv' := [some (vr (some (11, this))), some (vi v1), some (vi v2), some (vi v3), some (vi v4), some (vi v5), some (vi v6), some (vi s0), none, none]) (st' := [vi (mI (sI M 11 this 72 ((mI M 11 this 72) - (mI M 11 this 79))) 130 i87 (mI (sI M 11 this 72 ((mI M 11 this 72) - (mI M 11 this 79))) 11 this 76).toNatClampNeg), vi (16 : Int32)]) (M1 := (sI M 11 this 72 ((mI M 11 this 72) - (mI M 11 this 79)))) (pc' := 529) (tb_Model hγ) [.getfield 423, .aload_n 0, .getfield 789, .iaload] (by decide +kernel) rfl rfl ⟨c88, trivial⟩ ?_
                                                                                                                refine E_goto (off := 5) (tgt := 534) (by decide +kernel) (by decide) ?_
                                                                                                                refine E_mask [true, false, true, false, false, false, false, true, false, false] rfl ?_
                                                                                                                exact lk_Model_act_j534 hγ this Q v2 s0 (mI (sI M 11 this 72 ((mI M 11 this 72) - (mI M 11 this 79))) 130 i87 (mI (sI M 11 this 72 ((mI M 11 this 72) - (mI M 11 this 79))) 11 this 76).toNatClampNeg) (16 : Int32) (sI M 11 this 72 ((mI M 11 this 72) - (mI M 11 this 79))) h
                                                                                                              · rw [if_neg b86] at h
                                                                                                                refine E_blk (lv' := [some (vr (some (11, this))), some (vi v1), some (vi v2), some (vi v3), some (vi v4), some (vi v5), some (vi v6), some (vi s0), none, none]) (st' := [vi v4, vi (16 : Int32)]) (M1 := (sI M 11 this 72 ((mI M 11 this 72) - (mI M 11 this 79)))) (pc' := 534) (tb_Model hγ) [.iload 4] (by decide +kernel) rfl rfl trivial ?_
                                                                                                                refine E_mask [true, false, true, false, false, false, false, true, false, false] rfl ?_
                                                                                                                exact lk_Model_act_j534 hγ this Q v2 s0 v4 (16 : Int32) (sI M 11 this 72 ((mI M 11 this 72) - (mI M 11 this 79))) h
                                                                                                          · rw [if_neg b67] at h
                                                                                                            by_cases b68 : v1 = (54 : Int32)
                                                                                                            · rw [if_pos b68] at h
                                                                                                              refine E.up (fun _ _ hJ => J_tswI (len := 236) (dflt := 565) (lo := 1) (hi := 55) (offs := #[236, 254, 236, 262, 276, 287, 565, 565, 565, 565, 565, 565, 565, 565, 565, 565, 565, 565, 565, 299, 314, 335, 565, 565, 565, 565, 565, 565, 565, 565, 565, 565, 565, 565, 565, 565, 565, 565, 565, 565, 350, 236, 236, 565, 236, 360, 565, 360, 565, 388, 388, 388, 388, 376, 236]) (off := 376) (tgt := 492) (by decide +kernel) (by rw [b68]; decide) (by rw [b68]; decide) (by rw [b68]; rfl) (by decide) hJ) ?_
                                                                                                              refine E_blk (lv' := [some (vr (some (11, this))), some (vi v1), some (vi v2), some (vi v3), some (vi v4), some (vi v5), some (vi v6), some (vi s0), none, none]) (st' := [vi ((16 : Int32) + v4), vr (some (11, this))]) (M1 := (sI M 11 this 72 ((mI M 11 this 72) - (mI M 11 this 79)))) (pc' := 498) (tb_Model hγ) [.aload_n 0, .bipush 16, .iload 4, .iadd] (by decide +kernel) rfl rfl trivial ?_
                                                                                                              refine E_callV (κ' := k_Model_lay) (As := [vi ((16 : Int32) + v4)]) (st := []) mv_Model_lay (Or.inl (tbk_mem (j := 16) (k := 7) rfl)) rfl (by decide +kernel) (Nat.le_of_ble_eq_true rfl) (Nat.le_of_ble_eq_true rfl) rfl (by decide) (lk_Model_lay hγ this ((16 : Int32) + v4) _ (sI M 11 this 72 ((mI M 11 this 72) - (mI M 11 this 79))) h) (fun _ _ => Qv_r) (fun v M72 hp => Qv_k (R := fun st => E γ k_Model_act 1 501 [some (vr (some (11, this))), some (vi v1), some (vi v2), some (vi v3), some (vi v4), some (vi v5), some (vi v6), some (vi s0), none, none] st M72 (Qv Q)) hp (fun h => ?_))
                                                                                                              refine E_goto (off := 197) (tgt := 698) (by decide +kernel) (by decide) ?_
                                                                                                              exact E_vret rfl (by decide +kernel) h
                                                                                                            · rw [if_neg b68] at h
                                                                                                              by_cases b69 : v1 = (55 : Int32)
                                                                                                              · rw [if_pos b69] at h
                                                                                                                refine E.up (fun _ _ hJ => J_tswI (len := 236) (dflt := 565) (lo := 1) (hi := 55) (offs := #[236, 254, 236, 262, 276, 287, 565, 565, 565, 565, 565, 565, 565, 565, 565, 565, 565, 565, 565, 299, 314, 335, 565, 565, 565, 565, 565, 565, 565, 565, 565, 565, 565, 565, 565, 565, 565, 565, 565, 565, 350, 236, 236, 565, 236, 360, 565, 360, 565, 388, 388, 388, 388, 376, 236]) (off := 236) (tgt := 352) (by decide +kernel) (by rw [b69]; decide) (by rw [b69]; decide) (by rw [b69]; rfl) (by decide) hJ) ?_
                                                                                                                refine E_blk (lv' := [some (vr (some (11, this))), some (vi v1), some (vi v2), some (vi v3), some (vi v4), some (vi v5), some (vi v6), some (vi s0), none, none]) (st' := [vi (42 : Int32), vi v1, vr (some (11, this))]) (M1 := (sI M 11 this 72 ((mI M 11 this 72) - (mI M 11 this 79)))) (pc' := 356) (tb_Model hγ) [.aload_n 0, .iload_n 1, .bipush 42] (by decide +kernel) rfl rfl trivial ?_
                                                                                                                refine E_icmp_ne (off := 7) (tgt := 363) (by decide +kernel) (by decide) (fun b70 => ?_) (fun b70 => ?_)
                                                                                                                · rw [if_pos b70] at h
                                                                                                                  refine E_blk (lv' := [some (vr (some (11, this))), some (vi v1), some (vi v2), some (vi v3), some (vi v4), some (vi v5), some (vi v6), some (vi s0), none, none]) (st' := [vi (2 : Int32), vr (some (11, this))]) (M1 := (sI M 11 this 72 ((mI M 11 this 72) - (mI M 11 this 79)))) (pc' := 360) (tb_Model hγ) [.iconst 2] (by decide +kernel) rfl rfl trivial ?_
                                                                                                                  refine E_goto (off := 4) (tgt := 364) (by decide +kernel) (by decide) ?_
                                                                                                                  refine E_mask [false, false, false, false, false, false, false, false, false, false] rfl ?_
                                                                                                                  exact lk_Model_act_j364 hγ this Q (2 : Int32) (sI M 11 this 72 ((mI M 11 this 72) - (mI M 11 this 79))) h
                                                                                                                · rw [if_neg b70] at h
                                                                                                                  refine E_blk (lv' := [some (vr (some (11, this))), some (vi v1), some (vi v2), some (vi v3), some (vi v4), some (vi v5), some (vi v6), some (vi s0), none, none]) (st' := [vi (1 : Int32), vr (some (11, this))]) (M1 := (sI M 11 this 72 ((mI M 11 this 72) - (mI M 11 this 79)))) (pc' := 364) (tb_Model hγ) [.iconst 1] (by decide +kernel) rfl rfl trivial ?_
                                                                                                                  refine E_mask [false, false, false, false, false, false, false, false, false, false] rfl ?_
                                                                                                                  exact lk_Model_act_j364 hγ this Q (1 : Int32) (sI M 11 this 72 ((mI M 11 this 72) - (mI M 11 this 79))) h
                                                                                                              · rw [if_neg b69] at h
                                                                                                                refine E.up (fun _ _ hJ => J_tswO (len := 236) (dflt := 565) (lo := 1) (hi := 55) (offs := #[236, 254, 236, 262, 276, 287, 565, 565, 565, 565, 565, 565, 565, 565, 565, 565, 565, 565, 565, 299, 314, 335, 565, 565, 565, 565, 565, 565, 565, 565, 565, 565, 565, 565, 565, 565, 565, 565, 565, 565, 350, 236, 236, 565, 236, 360, 565, 360, 565, 388, 388, 388, 388, 376, 236]) (tgt := 681) (by decide +kernel) ?_ (by decide) hJ) ?_
                                                                                                                · have q := sw0 (x := v1) 1
                                                                                                                  replace q : (v1).toInt < 1 ∨ 2 ≤ (v1).toInt := sw1 q b15 rfl rfl
                                                                                                                  replace q : (v1).toInt < 1 ∨ 3 ≤ (v1).toInt := sw1 q b16 rfl rfl
                                                                                                                  replace q : (v1).toInt < 1 ∨ 4 ≤ (v1).toInt := sw1 q b17 rfl rfl
                                                                                                                  replace q : (v1).toInt < 1 ∨ 5 ≤ (v1).toInt := sw1 q b18 rfl rfl
                                                                                                                  replace q : (v1).toInt < 1 ∨ 6 ≤ (v1).toInt := sw1 q b19 rfl rfl
                                                                                                                  replace q : (v1).toInt < 1 ∨ 7 ≤ (v1).toInt := sw1 q b20 rfl rfl
                                                                                                                  replace q : (v1).toInt < 1 ∨ 8 ≤ (v1).toInt := sw1 q b21 rfl rfl
                                                                                                                  replace q : (v1).toInt < 1 ∨ 9 ≤ (v1).toInt := sw1 q b22 rfl rfl
                                                                                                                  replace q : (v1).toInt < 1 ∨ 10 ≤ (v1).toInt := sw1 q b23 rfl rfl
                                                                                                                  replace q : (v1).toInt < 1 ∨ 11 ≤ (v1).toInt := sw1 q b24 rfl rfl
                                                                                                                  replace q : (v1).toInt < 1 ∨ 12 ≤ (v1).toInt := sw1 q b25 rfl rfl
                                                                                                                  replace q : (v1).toInt < 1 ∨ 13 ≤ (v1).toInt := sw1 q b26 rfl rfl
                                                                                                                  replace q : (v1).toInt < 1 ∨ 14 ≤ (v1).toInt := sw1 q b27 rfl rfl
                                                                                                                  replace q : (v1).toInt < 1 ∨ 15 ≤ (v1).toInt := sw1 q b28 rfl rfl
                                                                                                                  replace q : (v1).toInt < 1 ∨ 16 ≤ (v1).toInt := sw1 q b29 rfl rfl
                                                                                                                  replace q : (v1).toInt < 1 ∨ 17 ≤ (v1).toInt := sw1 q b30 rfl rfl
                                                                                                                  replace q : (v1).toInt < 1 ∨ 18 ≤ (v1).toInt := sw1 q b31 rfl rfl
                                                                                                                  replace q : (v1).toInt < 1 ∨ 19 ≤ (v1).toInt := sw1 q b32 rfl rfl
                                                                                                                  replace q : (v1).toInt < 1 ∨ 20 ≤ (v1).toInt := sw1 q b33 rfl rfl
                                                                                                                  replace q : (v1).toInt < 1 ∨ 21 ≤ (v1).toInt := sw1 q b34 rfl rfl
                                                                                                                  replace q : (v1).toInt < 1 ∨ 22 ≤ (v1).toInt := sw1 q b35 rfl rfl
                                                                                                                  replace q : (v1).toInt < 1 ∨ 23 ≤ (v1).toInt := sw1 q b36 rfl rfl
                                                                                                                  replace q : (v1).toInt < 1 ∨ 24 ≤ (v1).toInt := sw1 q b37 rfl rfl
                                                                                                                  replace q : (v1).toInt < 1 ∨ 25 ≤ (v1).toInt := sw1 q b38 rfl rfl
                                                                                                                  replace q : (v1).toInt < 1 ∨ 26 ≤ (v1).toInt := sw1 q b39 rfl rfl
                                                                                                                  replace q : (v1).toInt < 1 ∨ 27 ≤ (v1).toInt := sw1 q b40 rfl rfl
                                                                                                                  replace q : (v1).toInt < 1 ∨ 28 ≤ (v1).toInt := sw1 q b41 rfl rfl
                                                                                                                  replace q : (v1).toInt < 1 ∨ 29 ≤ (v1).toInt := sw1 q b42 rfl rfl
                                                                                                                  replace q : (v1).toInt < 1 ∨ 30 ≤ (v1).toInt := sw1 q b43 rfl rfl
                                                                                                                  replace q : (v1).toInt < 1 ∨ 31 ≤ (v1).toInt := sw1 q b44 rfl rfl
                                                                                                                  replace q : (v1).toInt < 1 ∨ 32 ≤ (v1).toInt := sw1 q b45 rfl rfl
                                                                                                                  replace q : (v1).toInt < 1 ∨ 33 ≤ (v1).toInt := sw1 q b46 rfl rfl
                                                                                                                  replace q : (v1).toInt < 1 ∨ 34 ≤ (v1).toInt := sw1 q b47 rfl rfl
                                                                                                                  replace q : (v1).toInt < 1 ∨ 35 ≤ (v1).toInt := sw1 q b48 rfl rfl
                                                                                                                  replace q : (v1).toInt < 1 ∨ 36 ≤ (v1).toInt := sw1 q b49 rfl rfl
                                                                                                                  replace q : (v1).toInt < 1 ∨ 37 ≤ (v1).toInt := sw1 q b50 rfl rfl
                                                                                                                  replace q : (v1).toInt < 1 ∨ 38 ≤ (v1).toInt := sw1 q b51 rfl rfl
                                                                                                                  replace q : (v1).toInt < 1 ∨ 39 ≤ (v1).toInt := sw1 q b52 rfl rfl
                                                                                                                  replace q : (v1).toInt < 1 ∨ 40 ≤ (v1).toInt := sw1 q b53 rfl rfl
                                                                                                                  replace q : (v1).toInt < 1 ∨ 41 ≤ (v1).toInt := sw1 q b54 rfl rfl
                                                                                                                  replace q : (v1).toInt < 1 ∨ 42 ≤ (v1).toInt := sw1 q b55 rfl rfl
                                                                                                                  replace q : (v1).toInt < 1 ∨ 43 ≤ (v1).toInt := sw1 q b56 rfl rfl
                                                                                                                  replace q : (v1).toInt < 1 ∨ 44 ≤ (v1).toInt := sw1 q b57 rfl rfl
                                                                                                                  replace q : (v1).toInt < 1 ∨ 45 ≤ (v1).toInt := sw1 q b58 rfl rfl
                                                                                                                  replace q : (v1).toInt < 1 ∨ 46 ≤ (v1).toInt := sw1 q b59 rfl rfl
                                                                                                                  replace q : (v1).toInt < 1 ∨ 47 ≤ (v1).toInt := sw1 q b60 rfl rfl
                                                                                                                  replace q : (v1).toInt < 1 ∨ 48 ≤ (v1).toInt := sw1 q b61 rfl rfl
                                                                                                                  replace q : (v1).toInt < 1 ∨ 49 ≤ (v1).toInt := sw1 q b62 rfl rfl
                                                                                                                  replace q : (v1).toInt < 1 ∨ 50 ≤ (v1).toInt := sw1 q b63 rfl rfl
                                                                                                                  replace q : (v1).toInt < 1 ∨ 51 ≤ (v1).toInt := sw1 q b64 rfl rfl
                                                                                                                  replace q : (v1).toInt < 1 ∨ 52 ≤ (v1).toInt := sw1 q b65 rfl rfl
                                                                                                                  replace q : (v1).toInt < 1 ∨ 53 ≤ (v1).toInt := sw1 q b66 rfl rfl
                                                                                                                  replace q : (v1).toInt < 1 ∨ 54 ≤ (v1).toInt := sw1 q b67 rfl rfl
                                                                                                                  replace q : (v1).toInt < 1 ∨ 55 ≤ (v1).toInt := sw1 q b68 rfl rfl
                                                                                                                  replace q : (v1).toInt < 1 ∨ 56 ≤ (v1).toInt := sw1 q b69 rfl rfl
                                                                                                                  omega
                                                                                                                · refine E_blk (lv' := [some (vr (some (11, this))), some (vi v1), some (vi v2), some (vi v3), some (vi v4), some (vi v5), some (vi v6), some (vi s0), none, none]) (st' := [vi (8 : Int32), vi v1]) (M1 := (sI M 11 this 72 ((mI M 11 this 72) - (mI M 11 this 79)))) (pc' := 684) (tb_Model hγ) [.iload_n 1, .bipush 8] (by decide +kernel) rfl rfl trivial ?_
                                                                                                                  refine E_icmp_lt (off := 14) (tgt := 698) (by decide +kernel) (by decide) (fun b12 => ?_) (fun b12 => ?_)
                                                                                                                  · rw [if_pos b12] at h
                                                                                                                    exact E_vret rfl (by decide +kernel) h
                                                                                                                  · rw [if_neg b12] at h
                                                                                                                    refine E_blk (lv' := [some (vr (some (11, this))), some (vi v1), some (vi v2), some (vi v3), some (vi v4), some (vi v5), some (vi v6), some (vi s0), none, none]) (st' := [vi (18 : Int32), vi v1]) (M1 := (sI M 11 this 72 ((mI M 11 this 72) - (mI M 11 this 79)))) (pc' := 690) (tb_Model hγ) [.iload_n 1, .bipush 18] (by decide +kernel) rfl rfl trivial ?_
                                                                                                                    refine E_icmp_gt (off := 8) (tgt := 698) (by decide +kernel) (by decide) (fun b13 => ?_) (fun b13 => ?_)
                                                                                                                    · rw [if_pos b13] at h
                                                                                                                      exact E_vret rfl (by decide +kernel) h
                                                                                                                    · rw [if_neg b13] at h
                                                                                                                      refine E_blk (lv' := [some (vr (some (11, this))), some (vi v1), some (vi v2), some (vi v3), some (vi v4), some (vi v5), some (vi v6), some (vi s0), none, none]) (st' := [vi (1 : Int32), vr (some (11, this))]) (M1 := (sI M 11 this 72 ((mI M 11 this 72) - (mI M 11 this 79)))) (pc' := 695) (tb_Model hγ) [.aload_n 0, .iconst 1] (by decide +kernel) rfl rfl trivial ?_
                                                                                                                      refine E_callV (κ' := k_Model_lay) (As := [vi (1 : Int32)]) (st := []) mv_Model_lay (Or.inl (tbk_mem (j := 16) (k := 7) rfl)) rfl (by decide +kernel) (Nat.le_of_ble_eq_true rfl) (Nat.le_of_ble_eq_true rfl) rfl (by decide) (lk_Model_lay hγ this (1 : Int32) _ (sI M 11 this 72 ((mI M 11 this 72) - (mI M 11 this 79))) h) (fun _ _ => Qv_r) (fun v M14 hp => Qv_k (R := fun st => E γ k_Model_act 1 698 [some (vr (some (11, this))), some (vi v1), some (vi v2), some (vi v3), some (vi v4), some (vi v5), some (vi v6), some (vi s0), none, none] st M14 (Qv Q)) hp (fun h => ?_))
                                                                                                                      exact E_vret rfl (by decide +kernel) h
set_option maxRecDepth 4096 in
theorem lk_Model_act_j99 {γ : Gm} (hγ : Gk γ) (this : Nat) (Q : Mem → Prop) (v1 : Int32) (v2 : Int32) (v3 : Int32) (v4 : Int32) (v5 : Int32) (v6 : Int32) (M : Mem) (h : w_Model_act_j99 this Q v1 v2 v3 v4 v5 v6 M) : E γ k_Model_act 1 99 [some (vr (some (11, this))), some (vi v1), some (vi v2), some (vi v3), some (vi v4), some (vi v5), some (vi v6), none, none, none] [] M (Qv Q) := by
  unfold w_Model_act_j99 at h
  refine E_blk (lv' := [some (vr (some (11, this))), some (vi v1), some (vi v2), some (vi v3), some (vi v4), some (vi v5), some (vi v6), none, none, none]) (st' := [vi (0 : Int32)]) (M1 := M) (pc' := 100) (tb_Model hγ) [.iconst 0] (by decide +kernel) rfl rfl trivial ?_
  refine E_mask [true, true, true, true, true, true, true, false, false, false] rfl ?_
  exact lk_Model_act_j100 hγ this Q v1 v2 v3 v4 v5 v6 (0 : Int32) M h
set_option maxRecDepth 4096 in
theorem lk_Model_act_j58 {γ : Gm} (hγ : Gk γ) (this : Nat) (Q : Mem → Prop) (v1 : Int32) (v2 : Int32) (v3 : Int32) (v4 : Int32) (v5 : Int32) (s0 : Int32) (M : Mem) (h : w_Model_act_j58 this Q v1 v2 v3 v4 v5 s0 M) : E γ k_Model_act 1 58 [some (vr (some (11, this))), some (vi v1), some (vi v2), some (vi v3), some (vi v4), some (vi v5), none, none, none, none] [vi s0] M (Qv Q) := by
  unfold w_Model_act_j58 at h
  refine E_blk (lv' := [some (vr (some (11, this))), some (vi v1), some (vi v2), some (vi v3), some (vi v4), some (vi v5), some (vi s0), none, none, none]) (st' := [vi (51 : Int32), vi v1]) (M1 := M) (pc' := 63) (tb_Model hγ) [.istore 6, .iload_n 1, .bipush 51] (by decide +kernel) rfl rfl trivial ?_
  refine E_icmp_ne (off := 36) (tgt := 99) (by decide +kernel) (by decide) (fun b6 => ?_) (fun b6 => ?_)
  · rw [if_pos b6] at h
    refine E_blk (lv' := [some (vr (some (11, this))), some (vi v1), some (vi v2), some (vi v3), some (vi v4), some (vi v5), some (vi s0), none, none, none]) (st' := [vr (mR M 11 this 45)]) (M1 := M) (pc' := 70) (tb_Model hγ) [.aload_n 0, .getfield 522] (by decide +kernel) rfl rfl trivial ?_
    obtain ⟨i7, ei7, h⟩ := h
    rw [ei7]
    refine E_blk (lv' := [some (vr (some (11, this))), some (vi v1), some (vi v2), some (vi v3), some (vi v4), some (vi v5), some (vi s0), none, none, none]) (st' := [vr (mR M 12 i7 32)]) (M1 := M) (pc' := 73) (tb_Model hγ) [.getfield 680] (by decide +kernel) rfl rfl trivial ?_
    obtain ⟨i8, ei8, h⟩ := h
    rw [ei8]
    obtain ⟨c9, h⟩ := h
    refine E_blk (lv' := [some (vr (some (11, this))), some (vi v1), some (vi v2), some (vi v3), some (vi v4), some (vi v5), some (vi s0), none, none, none]) (st' := [vi (mI M 11 this 6), vi (mI M 300 i8 v2.toNatClampNeg)]) (M1 := M) (pc' := 79) (tb_Model hγ) [.iload_n 2, .iaload, .aload_n 0, .getfield 121] (by decide +kernel) rfl rfl ⟨c9, trivial⟩ ?_
    refine E_icmp_ne (off := 20) (tgt := 99) (by decide +kernel) (by decide) (fun b10 => ?_) (fun b10 => ?_)
    · rw [if_pos b10] at h
      obtain ⟨c11, h⟩ := h
      refine E_blk (lv' := [some (vr (some (11, this))), some (vi v1), some (vi v2), some (vi v3), some (vi v4), some (vi v5), some (vi s0), none, none, none]) (st' := [vi (mI M 212 0 ((mI M 11 this 72) - (mI M 11 this 79)).toNatClampNeg)]) (M1 := M) (pc' := 96) (tb_Model hγ) [.aload_n 0, .getfield 308, .aload_n 0, .getfield 780, .aload_n 0, .getfield 823, .isub, .iaload] (by decide +kernel) rfl rfl ⟨c11, trivial⟩ ?_
      refine E_goto (off := 4) (tgt := 100) (by decide +kernel) (by decide) ?_
      refine E_mask [true, true, true, true, true, true, true, false, false, false] rfl ?_
      exact lk_Model_act_j100 hγ this Q v1 v2 v3 v4 v5 s0 (mI M 212 0 ((mI M 11 this 72) - (mI M 11 this 79)).toNatClampNeg) M h
    · rw [if_neg b10] at h
      refine E_mask [true, true, true, true, true, true, true, false, false, false] rfl ?_
      exact lk_Model_act_j99 hγ this Q v1 v2 v3 v4 v5 s0 M h
  · rw [if_neg b6] at h
    refine E_mask [true, true, true, true, true, true, true, false, false, false] rfl ?_
    exact lk_Model_act_j99 hγ this Q v1 v2 v3 v4 v5 s0 M h
set_option maxRecDepth 4096 in
theorem lk_Model_act_j33 {γ : Gm} (hγ : Gk γ) (this : Nat) (Q : Mem → Prop) (v1 : Int32) (v2 : Int32) (v3 : Int32) (v4 : Int32) (s0 : Int32) (M : Mem) (h : w_Model_act_j33 this Q v1 v2 v3 v4 s0 M) : E γ k_Model_act 1 33 [some (vr (some (11, this))), some (vi v1), some (vi v2), some (vi v3), some (vi v4), none, none, none, none, none] [vi s0] M (Qv Q) := by
  unfold w_Model_act_j33 at h
  refine E_blk (lv' := [some (vr (some (11, this))), some (vi v1), some (vi v2), some (vi v3), some (vi v4), some (vi s0), none, none, none, none]) (st' := [vi (1 : Int32), vi (mI M 11 this 72)]) (M1 := M) (pc' := 40) (tb_Model hγ) [.istore 5, .aload_n 0, .getfield 780, .iconst 1] (by decide +kernel) rfl rfl trivial ?_
  refine E_icmp_le (off := 17) (tgt := 57) (by decide +kernel) (by decide) (fun b5 => ?_) (fun b5 => ?_)
  · rw [if_pos b5] at h
    refine E_blk (lv' := [some (vr (some (11, this))), some (vi v1), some (vi v2), some (vi v3), some (vi v4), some (vi s0), none, none, none, none]) (st' := [vi (0 : Int32)]) (M1 := M) (pc' := 58) (tb_Model hγ) [.iconst 0] (by decide +kernel) rfl rfl trivial ?_
    refine E_mask [true, true, true, true, true, true, false, false, false, false] rfl ?_
    exact lk_Model_act_j58 hγ this Q v1 v2 v3 v4 s0 (0 : Int32) M h
  · rw [if_neg b5] at h
    obtain ⟨c245, h⟩ := h
    refine E_blk (lv' := [some (vr (some (11, this))), some (vi v1), some (vi v2), some (vi v3), some (vi v4), some (vi s0), none, none, none, none]) (st' := [vi (mI M 212 0 ((mI M 11 this 72) - (2 : Int32)).toNatClampNeg)]) (M1 := M) (pc' := 54) (tb_Model hγ) [.aload_n 0, .getfield 308, .aload_n 0, .getfield 780, .iconst 2, .isub, .iaload] (by decide +kernel) rfl rfl ⟨c245, trivial⟩ ?_
    refine E_goto (off := 4) (tgt := 58) (by decide +kernel) (by decide) ?_
    refine E_mask [true, true, true, true, true, true, false, false, false, false] rfl ?_
    exact lk_Model_act_j58 hγ this Q v1 v2 v3 v4 s0 (mI M 212 0 ((mI M 11 this 72) - (2 : Int32)).toNatClampNeg) M h
set_option maxRecDepth 4096 in
theorem lk_Model_act {γ : Gm} (hγ : Gk γ) (this : Nat) (a1 : Int32) (a2 : Int32) (a3 : Int32) (Q : Mem → Prop) (M : Mem) (h : w_Model_act this a1 a2 a3 Q M) : E γ k_Model_act 1 0 [some (vr (some (11, this))), some (vi a1), some (vi a2), some (vi a3), none, none, none, none, none, none] [] M (Qv Q) := by
  unfold w_Model_act at h
  refine E_blk (lv' := [some (vr (some (11, this))), some (vi a1), some (vi a2), some (vi a3), none, none, none, none, none, none]) (st' := [vr (mR M 11 this 45)]) (M1 := M) (pc' := 4) (tb_Model hγ) [.aload_n 0, .getfield 522] (by decide +kernel) rfl rfl trivial ?_
  obtain ⟨i1, ei1, h⟩ := h
  rw [ei1]
  refine E_blk (lv' := [some (vr (some (11, this))), some (vi a1), some (vi a2), some (vi a3), none, none, none, none, none, none]) (st' := [vr (mR M 12 i1 31)]) (M1 := M) (pc' := 7) (tb_Model hγ) [.getfield 677] (by decide +kernel) rfl rfl trivial ?_
  obtain ⟨i2, ei2, h⟩ := h
  rw [ei2]
  obtain ⟨c3, h⟩ := h
  refine E_blk (lv' := [some (vr (some (11, this))), some (vi a1), some (vi a2), some (vi a3), some (vi (mI M 300 i2 a2.toNatClampNeg)), none, none, none, none, none]) (st' := [vi (mI M 11 this 72)]) (M1 := M) (pc' := 15) (tb_Model hγ) [.iload_n 2, .iaload, .istore 4, .aload_n 0, .getfield 780] (by decide +kernel) rfl rfl ⟨c3, trivial⟩ ?_
  refine E_if_le (off := 17) (tgt := 32) (by decide +kernel) (by decide) (fun b4 => ?_) (fun b4 => ?_)
  · rw [if_pos b4] at h
    refine E_blk (lv' := [some (vr (some (11, this))), some (vi a1), some (vi a2), some (vi a3), some (vi (mI M 300 i2 a2.toNatClampNeg)), none, none, none, none, none]) (st' := [vi (0 : Int32)]) (M1 := M) (pc' := 33) (tb_Model hγ) [.iconst 0] (by decide +kernel) rfl rfl trivial ?_
    refine E_mask [true, true, true, true, true, false, false, false, false, false] rfl ?_
    exact lk_Model_act_j33 hγ this Q a1 a2 a3 (mI M 300 i2 a2.toNatClampNeg) (0 : Int32) M h
  · rw [if_neg b4] at h
    obtain ⟨c246, h⟩ := h
    refine E_blk (lv' := [some (vr (some (11, this))), some (vi a1), some (vi a2), some (vi a3), some (vi (mI M 300 i2 a2.toNatClampNeg)), none, none, none, none, none]) (st' := [vi (mI M 212 0 ((mI M 11 this 72) - (1 : Int32)).toNatClampNeg)]) (M1 := M) (pc' := 29) (tb_Model hγ) [.aload_n 0, .getfield 308, .aload_n 0, .getfield 780, .iconst 1, .isub, .iaload] (by decide +kernel) rfl rfl ⟨c246, trivial⟩ ?_
    refine E_goto (off := 4) (tgt := 33) (by decide +kernel) (by decide) ?_
    refine E_mask [true, true, true, true, true, false, false, false, false, false] rfl ?_
    exact lk_Model_act_j33 hγ this Q a1 a2 a3 (mI M 300 i2 a2.toNatClampNeg) (mI M 212 0 ((mI M 11 this 72) - (1 : Int32)).toNatClampNeg) M h
def w_Model_goesTo (this : Nat) (a1 : Int32) (Q : Int32 → Mem → Prop) (M : Mem) : Prop :=
  ∃ i1, (mR M 11 this 45) = some (12, i1) ∧ ∃ i2, (mR M 12 i1 34) = some (300, i2) ∧ ∃ i3, (mR M 11 this 45) = some (12, i3) ∧ vp_in (mI M 11 this 75) (mL M 149 i3) ∧ vp_in ((mI M 149 i3 (mI M 11 this 75).toNatClampNeg) + a1) (mL M 300 i2) ∧ ∃ x6 : Int32, x6 = ((mI M 300 i2 ((mI M 149 i3 (mI M 11 this 75).toNatClampNeg) + a1).toNatClampNeg) - (1 : Int32)) ∧ if 0 ≤ x6 then (w_Model_isWrongFrame this x6 (fun r9 M8 => if r9 = 0 then (w_Model_fitState this x6 (fun r12 M11 => Q r12 M11) M8) else (Q (38 : Int32) M8)) M) else (Q (36 : Int32) M)
set_option maxRecDepth 4096 in
theorem lk_Model_goesTo {γ : Gm} (hγ : Gk γ) (this : Nat) (a1 : Int32) (Q : Int32 → Mem → Prop) (M : Mem) (h : w_Model_goesTo this a1 Q M) : E γ k_Model_goesTo 5 0 [some (vr (some (11, this))), some (vi a1), none] [] M (Qi Q) := by
  unfold w_Model_goesTo at h
  refine E_blk (lv' := [some (vr (some (11, this))), some (vi a1), none]) (st' := [vr (mR M 11 this 45)]) (M1 := M) (pc' := 4) (tb_Model hγ) [.aload_n 0, .getfield 522] (by decide +kernel) rfl rfl trivial ?_
  obtain ⟨i1, ei1, h⟩ := h
  rw [ei1]
  refine E_blk (lv' := [some (vr (some (11, this))), some (vi a1), none]) (st' := [vr (mR M 12 i1 34)]) (M1 := M) (pc' := 7) (tb_Model hγ) [.getfield 686] (by decide +kernel) rfl rfl trivial ?_
  obtain ⟨i2, ei2, h⟩ := h
  rw [ei2]
  refine E_blk (lv' := [some (vr (some (11, this))), some (vi a1), none]) (st' := [vr (mR M 11 this 45), vr (some (300, i2))]) (M1 := M) (pc' := 11) (tb_Model hγ) [.aload_n 0, .getfield 522] (by decide +kernel) rfl rfl trivial ?_
  obtain ⟨i3, ei3, h⟩ := h
  rw [ei3]
  obtain ⟨c4, c5, h⟩ := h
  refine E_blk (lv' := [some (vr (some (11, this))), some (vi a1), some (vi ((mI M 300 i2 ((mI M 149 i3 (mI M 11 this 75).toNatClampNeg) + a1).toNatClampNeg) - (1 : Int32)))]) (st' := []) (M1 := M) (pc' := 25) (tb_Model hγ) [.getfield 462, .aload_n 0, .getfield 768, .iaload, .iload_n 1, .iadd, .iaload, .iconst 1, .isub, .istore_n 2] (by decide +kernel) rfl rfl ⟨c4, c5, trivial⟩ ?_
  obtain ⟨x6, ex6, h⟩ := h
  rw [← ex6]
  refine E_blk (lv' := [some (vr (some (11, this))), some (vi a1), some (vi x6)]) (st' := [vi x6]) (M1 := M) (pc' := 26) (tb_Model hγ) [.iload_n 2] (by decide +kernel) rfl rfl trivial ?_
  refine E_if_ge (off := 8) (tgt := 34) (by decide +kernel) (by decide) (fun b7 => ?_) (fun b7 => ?_)
  · rw [if_pos b7] at h
    refine E_blk (lv' := [some (vr (some (11, this))), some (vi a1), some (vi x6)]) (st' := [vi x6, vr (some (11, this))]) (M1 := M) (pc' := 36) (tb_Model hγ) [.aload_n 0, .iload_n 2] (by decide +kernel) rfl rfl trivial ?_
    refine E_callV (κ' := k_Model_isWrongFrame) (As := [vi x6]) (st := []) mv_Model_isWrongFrame (Or.inl (tbk_mem (j := 15) (k := 181) rfl)) rfl (by decide +kernel) (Nat.le_of_ble_eq_true rfl) (Nat.le_of_ble_eq_true rfl) rfl (by decide) (lk_Model_isWrongFrame hγ this x6 _ M h) (fun _ _ => Qi_r) (fun v M8 hp => Qi_k (R := fun st => E γ k_Model_goesTo 5 39 [some (vr (some (11, this))), some (vi a1), some (vi x6)] st M8 (Qi Q)) hp (fun r9 h => ?_))
    refine E_if_eq (off := 8) (tgt := 47) (by decide +kernel) (by decide) (fun b10 => ?_) (fun b10 => ?_)
    · rw [if_pos b10] at h
      refine E_blk (lv' := [some (vr (some (11, this))), some (vi a1), some (vi x6)]) (st' := [vi x6, vr (some (11, this))]) (M1 := M8) (pc' := 49) (tb_Model hγ) [.aload_n 0, .iload_n 2] (by decide +kernel) rfl rfl trivial ?_
      refine E_callV (κ' := k_Model_fitState) (As := [vi x6]) (st := []) mv_Model_fitState (Or.inl (tbk_mem (j := 15) (k := 189) rfl)) rfl (by decide +kernel) (Nat.le_of_ble_eq_true rfl) (Nat.le_of_ble_eq_true rfl) rfl (by decide) (lk_Model_fitState hγ this x6 _ M8 h) (fun _ _ => Qi_r) (fun v M11 hp => Qi_k (R := fun st => E γ k_Model_goesTo 5 52 [some (vr (some (11, this))), some (vi a1), some (vi x6)] st M11 (Qi Q)) hp (fun r12 h => ?_))
      exact E_iret rfl (by decide +kernel) h
    · rw [if_neg b10] at h
      refine E_blk (lv' := [some (vr (some (11, this))), some (vi a1), some (vi x6)]) (st' := [vi (38 : Int32)]) (M1 := M8) (pc' := 44) (tb_Model hγ) [.bipush 38] (by decide +kernel) rfl rfl trivial ?_
      refine E_goto (off := 8) (tgt := 52) (by decide +kernel) (by decide) ?_
      exact E_iret rfl (by decide +kernel) h
  · rw [if_neg b7] at h
    refine E_blk (lv' := [some (vr (some (11, this))), some (vi a1), some (vi x6)]) (st' := [vi (36 : Int32)]) (M1 := M) (pc' := 31) (tb_Model hγ) [.bipush 36] (by decide +kernel) rfl rfl trivial ?_
    refine E_goto (off := 21) (tgt := 52) (by decide +kernel) (by decide) ?_
    exact E_iret rfl (by decide +kernel) h
def w_Model_checkOne_j514 (this : Nat) (Q : Int32 → Mem → Prop) (v2 : Int32) (s0 : Int32) (M : Mem) : Prop :=
  (s0 = 0 ∨ s0 = 1) ∧ if (mI (sI M 11 this 73 s0) 11 this 73) = 0 then (Q (0 : Int32) (sI M 11 this 73 s0)) else (if v2 = 0 then (Q (0 : Int32) (sI M 11 this 73 s0)) else (Q (35 : Int32) (sI M 11 this 73 s0)))
def w_Model_checkOne_j513 (this : Nat) (Q : Int32 → Mem → Prop) (v2 : Int32) (M : Mem) : Prop :=
  w_Model_checkOne_j514 this Q v2 (0 : Int32) M
def w_Model_checkOne_j458 (this : Nat) (Q : Int32 → Mem → Prop) (v2 : Int32) (v5 : Int32) (v6 : Int32) (M : Mem) : Prop :=
  if v5 ≤ 0 then (if v6 = (23 : Int32) then (w_Model_checkOne_j513 this Q v2 M) else (if v6 = (40 : Int32) then (w_Model_checkOne_j513 this Q v2 M) else (if v6 = (56 : Int32) then (w_Model_checkOne_j513 this Q v2 M) else (if v6 = (57 : Int32) then (w_Model_checkOne_j513 this Q v2 M) else (if v6 = (58 : Int32) then (w_Model_checkOne_j513 this Q v2 M) else (if v6 = (59 : Int32) then (w_Model_checkOne_j513 this Q v2 M) else (w_Model_checkOne_j514 this Q v2 (1 : Int32) M))))))) else (Q v5 M)
def w_Model_checkOne_j345 (this : Nat) (Q : Int32 → Mem → Prop) (v1 : Int32) (v2 : Int32) (v6 : Int32) (M : Mem) : Prop :=
  w_Model_askHandlers this v1 (fun r28 M27 => w_Model_checkOne_j458 this Q v2 r28 v6 M27) M
def w_Model_checkOne_L397 (this : Nat) (Q : Int32 → Mem → Prop) : Nat → Int32 → Int32 → Int32 → Int32 → Int32 → Mem → Prop
  | 0, _, _, _, _, _, _ => False
  | n + 1, v2, v3, v5, v6, v7, M => ∃ i47, (mR M 11 this 45) = some (12, i47) ∧ ∃ i48, (mR M 12 i47 33) = some (300, i48) ∧ vp_in v3 (mL M 300 i48) ∧ if (mI M 300 i48 v3.toNatClampNeg) < v7 then (w_Model_checkOne_j458 this Q v2 v5 v6 M) else (if v5 = 0 then (∃ i52, (mR M 11 this 45) = some (12, i52) ∧ ∃ i53, (mR M 12 i52 36) = some (300, i53) ∧ ∃ i54, (mR M 11 this 45) = some (12, i54) ∧ ∃ i55, (mR M 12 i54 32) = some (300, i55) ∧ vp_in v3 (mL M 300 i55) ∧ ∃ i57, (mR M 11 this 45) = some (12, i57) ∧ ∃ i58, (mR M 12 i57 33) = some (300, i58) ∧ vp_in v3 (mL M 300 i58) ∧ ¬ (mI M 300 i58 v3.toNatClampNeg) = 0 ∧ vp_in ((mI M 300 i55 v3.toNatClampNeg) + (v7 - v7 / (mI M 300 i58 v3.toNatClampNeg) * (mI M 300 i58 v3.toNatClampNeg))) (mL M 300 i53) ∧ w_Model_goesTo this (mI M 300 i53 ((mI M 300 i55 v3.toNatClampNeg) + (v7 - v7 / (mI M 300 i58 v3.toNatClampNeg) * (mI M 300 i58 v3.toNatClampNeg))).toNatClampNeg) (fun r63 M62 => (w_Model_checkOne_L397 this Q n) v2 v3 r63 v6 (v7 + (1 : Int32)) M62) M) else (w_Model_checkOne_j458 this Q v2 v5 v6 M))
def w_Model_checkOne_j387 (this : Nat) (Q : Int32 → Mem → Prop) (v2 : Int32) (v3 : Int32) (v5 : Int32) (v6 : Int32) (M : Mem) : Prop :=
  if v6 = (40 : Int32) then (∃ n64 : Nat, w_Model_checkOne_L397 this Q n64 v2 v3 v5 v6 (1 : Int32) M) else (w_Model_checkOne_j458 this Q v2 v5 v6 M)
def w_Model_checkOne_j355 (this : Nat) (Q : Int32 → Mem → Prop) (v2 : Int32) (v3 : Int32) (v5 : Int32) (v6 : Int32) (M : Mem) : Prop :=
  if v6 < (23 : Int32) then (w_Model_checkOne_j387 this Q v2 v3 v5 v6 M) else (if (39 : Int32) < v6 then (w_Model_checkOne_j387 this Q v2 v3 v5 v6 M) else (∃ i66, (mR M 11 this 45) = some (12, i66) ∧ ∃ i67, (mR M 12 i66 31) = some (300, i67) ∧ vp_in v3 (mL M 300 i67) ∧ w_Model_goesTo this (mI M 300 i67 v3.toNatClampNeg) (fun r70 M69 => w_Model_checkOne_j458 this Q v2 r70 v6 M69) M))
def w_Model_checkOne_j219 (this : Nat) (Q : Int32 → Mem → Prop) (v1 : Int32) (v2 : Int32) (v3 : Int32) (M : Mem) : Prop :=
  w_Model_askHandlers this v1 (fun r11 M10 => if r11 ≤ 0 then (∃ i13, (mR M10 11 this 45) = some (12, i13) ∧ ∃ i14, (mR M10 12 i13 30) = some (401, i14) ∧ vp_in v3 (mL M10 401 i14) ∧ w_Model_checkTaken this (mI M10 401 i14 v3.toNatClampNeg) v3 (fun r17 M16 => if r17 ≤ 0 then (w_Model_checkOwn this (mI M10 401 i14 v3.toNatClampNeg) v3 (fun r20 M19 => if r20 ≤ 0 then (w_Model_act this (mI M10 401 i14 v3.toNatClampNeg) v3 v1 (fun M22 => ∃ i23, (mR M22 11 this 45) = some (12, i23) ∧ vp_in (mI M22 11 this 75) (mL M22 147 i23) ∧ if (mI M22 11 this 72) ≤ (mI M22 147 i23 (mI M22 11 this 75).toNatClampNeg) then (if (mI M10 401 i14 v3.toNatClampNeg) = (5 : Int32) then (w_Model_checkOne_j345 this Q v1 v2 (mI M10 401 i14 v3.toNatClampNeg) M22) else (if (mI M10 401 i14 v3.toNatClampNeg) = (6 : Int32) then (w_Model_checkOne_j345 this Q v1 v2 (mI M10 401 i14 v3.toNatClampNeg) M22) else (if (mI M10 401 i14 v3.toNatClampNeg) = (51 : Int32) then (∃ i41, (mR M22 11 this 45) = some (12, i41) ∧ ∃ i42, (mR M22 12 i41 32) = some (300, i42) ∧ vp_in v3 (mL M22 300 i42) ∧ if (mI M22 300 i42 v3.toNatClampNeg) = (mI M22 11 this 6) then (w_Model_checkOne_j345 this Q v1 v2 (mI M10 401 i14 v3.toNatClampNeg) M22) else (w_Model_checkOne_j355 this Q v2 v3 r20 (mI M10 401 i14 v3.toNatClampNeg) M22)) else (w_Model_checkOne_j355 this Q v2 v3 r20 (mI M10 401 i14 v3.toNatClampNeg) M22)))) else (Q (30 : Int32) M22)) M19) else (Q r20 M19)) M16) else (Q r17 M16)) M10) else (Q r11 M10)) M
def w_Model_checkOne_j197 (this : Nat) (Q : Int32 → Mem → Prop) (v1 : Int32) (v2 : Int32) (v3 : Int32) (M : Mem) : Prop :=
  if (mI M 11 this 73) = 0 then (Q (36 : Int32) M) else (if (mI M 11 this 77) = 0 then (w_Model_checkOne_j219 this Q v1 v2 v3 M) else (w_Model_record this v1 (fun M71 => w_Model_checkOne_j219 this Q v1 v2 v3 M71) M))
def w_Model_checkOne_L151 (this : Nat) (Q : Int32 → Mem → Prop) : Nat → Int32 → Int32 → Int32 → Int32 → Int32 → Mem → Prop
  | 0, _, _, _, _, _, _ => False
  | n + 1, v1, v2, v3, v4, v6, M => if (mI M 11 this 72) ≤ v6 then (((1 : Int32) = 0 ∨ (1 : Int32) = 1) ∧ w_Model_checkOne_j197 this Q v1 v2 v3 (sI M 11 this 73 (1 : Int32))) else (∃ i85, (mR M 11 this 45) = some (12, i85) ∧ ∃ i86, (mR M 12 i85 38) = some (300, i86) ∧ vp_in v4 (mL M 300 i86) ∧ w_Model_frameKind this v4 ((mI M 300 i86 v4.toNatClampNeg) + v6) (fun r89 M88 => vp_in v6 (mL M88 212 0) ∧ (w_Model_checkOne_L151 this Q n) v1 v2 v3 v4 (v6 + (1 : Int32)) (sI M88 212 0 v6.toNatClampNeg r89)) M)
def w_Model_checkOne_j127 (this : Nat) (Q : Int32 → Mem → Prop) (k77 : Int32 → Int32 → Int32 → Int32 → Int32 → Mem → Prop) (v1 : Int32) (v2 : Int32) (v3 : Int32) (v4 : Int32) (v6 : Int32) (s0 : Int32) (s1 : Int32) (M : Mem) : Prop :=
  vp_in s1 (mL M 111 this) ∧ k77 v1 v2 v3 v4 (v6 + (1 : Int32)) (sI M 111 this s1.toNatClampNeg s0)
def w_Model_checkOne_L77 (this : Nat) (Q : Int32 → Mem → Prop) : Nat → Int32 → Int32 → Int32 → Int32 → Int32 → Mem → Prop
  | 0, _, _, _, _, _, _ => False
  | n + 1, v1, v2, v3, v4, v6, M => ∃ i77, (mR M 11 this 45) = some (12, i77) ∧ vp_in (mI M 11 this 75) (mL M 148 i77) ∧ if (mI M 148 i77 (mI M 11 this 75).toNatClampNeg) ≤ v6 then (∃ i80, (mR M 11 this 45) = some (12, i80) ∧ ∃ i81, (mR M 12 i80 39) = some (300, i81) ∧ vp_in v4 (mL M 300 i81) ∧ ∃ n91 : Nat, w_Model_checkOne_L151 this Q n91 v1 v2 v3 v4 (0 : Int32) (sI M 11 this 72 (mI M 300 i81 v4.toNatClampNeg))) else (∃ i92, (mR M 11 this 45) = some (12, i92) ∧ ∃ i93, (mR M 12 i92 38) = some (300, i93) ∧ vp_in v4 (mL M 300 i93) ∧ if (mI M 300 i93 v4.toNatClampNeg) ≤ v6 then (w_Model_checkOne_j127 this Q (w_Model_checkOne_L77 this Q n) v1 v2 v3 v4 v6 (4 : Int32) v6 M) else (w_Model_frameKind this v4 v6 (fun r98 M97 => w_Model_checkOne_j127 this Q (w_Model_checkOne_L77 this Q n) v1 v2 v3 v4 v6 r98 v6 M97) M))
def w_Model_checkOne_j64 (this : Nat) (Q : Int32 → Mem → Prop) (v1 : Int32) (v2 : Int32) (v3 : Int32) (v4 : Int32) (s0 : Int32) (M : Mem) : Prop :=
  if s0 ≤ 0 then (∃ n99 : Nat, w_Model_checkOne_L77 this Q n99 v1 v2 v3 v4 (0 : Int32) M) else (Q s0 M)
def w_Model_checkOne (this : Nat) (a1 : Int32) (a2 : Int32) (Q : Int32 → Mem → Prop) (M : Mem) : Prop :=
  ∃ i1, (mR M 11 this 45) = some (12, i1) ∧ vp_in (mI M 11 this 75) (mL M 149 i1) ∧ ∃ i3, (mR M 11 this 45) = some (12, i3) ∧ ∃ i4, (mR M 12 i3 34) = some (300, i4) ∧ vp_in ((mI M 149 i1 (mI M 11 this 75).toNatClampNeg) + a1) (mL M 300 i4) ∧ ∃ x6 : Int32, x6 = ((mI M 300 i4 ((mI M 149 i1 (mI M 11 this 75).toNatClampNeg) + a1).toNatClampNeg) - (1 : Int32)) ∧ if x6 < 0 then (w_Model_checkOne_j197 this Q a1 a2 ((mI M 149 i1 (mI M 11 this 75).toNatClampNeg) + a1) M) else (w_Model_isWrongFrame this x6 (fun r73 M72 => if r73 = 0 then (if (mI M72 11 this 73) = 0 then (w_Model_checkOne_j64 this Q a1 a2 ((mI M 149 i1 (mI M 11 this 75).toNatClampNeg) + a1) x6 (0 : Int32) M72) else (w_Model_fitState this x6 (fun r101 M100 => w_Model_checkOne_j64 this Q a1 a2 ((mI M 149 i1 (mI M 11 this 75).toNatClampNeg) + a1) x6 r101 M100) M72)) else (w_Model_checkOne_j64 this Q a1 a2 ((mI M 149 i1 (mI M 11 this 75).toNatClampNeg) + a1) x6 (38 : Int32) M72)) M)
set_option maxRecDepth 4096 in
theorem lk_Model_checkOne_j514 {γ : Gm} (hγ : Gk γ) (this : Nat) (Q : Int32 → Mem → Prop) (v2 : Int32) (s0 : Int32) (M : Mem) (h : w_Model_checkOne_j514 this Q v2 s0 M) : E γ k_Model_checkOne 6 514 [some (vr (some (11, this))), none, some (vi v2), none, none, none, none, none] [vi s0, vr (some (11, this))] M (Qi Q) := by
  unfold w_Model_checkOne_j514 at h
  obtain ⟨c31, h⟩ := h
  refine E_blk (lv' := [some (vr (some (11, this))), none, some (vi v2), none, none, none, none, none]) (st' := [vi (mI (sI M 11 this 73 s0) 11 this 73)]) (M1 := (sI M 11 this 73 s0)) (pc' := 521) (tb_Model hγ) [.putfield 792, .aload_n 0, .getfield 792] (by decide +kernel) rfl rfl ⟨c31, trivial⟩ ?_
  refine E_if_eq (off := 12) (tgt := 533) (by decide +kernel) (by decide) (fun b32 => ?_) (fun b32 => ?_)
  · rw [if_pos b32] at h
    refine E_blk (lv' := [some (vr (some (11, this))), none, some (vi v2), none, none, none, none, none]) (st' := [vi (0 : Int32)]) (M1 := (sI M 11 this 73 s0)) (pc' := 534) (tb_Model hγ) [.iconst 0] (by decide +kernel) rfl rfl trivial ?_
    exact E_iret rfl (by decide +kernel) h
  · rw [if_neg b32] at h
    refine E_blk (lv' := [some (vr (some (11, this))), none, some (vi v2), none, none, none, none, none]) (st' := [vi v2]) (M1 := (sI M 11 this 73 s0)) (pc' := 525) (tb_Model hγ) [.iload_n 2] (by decide +kernel) rfl rfl trivial ?_
    refine E_if_eq (off := 8) (tgt := 533) (by decide +kernel) (by decide) (fun b33 => ?_) (fun b33 => ?_)
    · rw [if_pos b33] at h
      refine E_blk (lv' := [some (vr (some (11, this))), none, some (vi v2), none, none, none, none, none]) (st' := [vi (0 : Int32)]) (M1 := (sI M 11 this 73 s0)) (pc' := 534) (tb_Model hγ) [.iconst 0] (by decide +kernel) rfl rfl trivial ?_
      exact E_iret rfl (by decide +kernel) h
    · rw [if_neg b33] at h
      refine E_blk (lv' := [some (vr (some (11, this))), none, some (vi v2), none, none, none, none, none]) (st' := [vi (35 : Int32)]) (M1 := (sI M 11 this 73 s0)) (pc' := 530) (tb_Model hγ) [.bipush 35] (by decide +kernel) rfl rfl trivial ?_
      refine E_goto (off := 4) (tgt := 534) (by decide +kernel) (by decide) ?_
      exact E_iret rfl (by decide +kernel) h
set_option maxRecDepth 4096 in
theorem lk_Model_checkOne_j513 {γ : Gm} (hγ : Gk γ) (this : Nat) (Q : Int32 → Mem → Prop) (v2 : Int32) (M : Mem) (h : w_Model_checkOne_j513 this Q v2 M) : E γ k_Model_checkOne 6 513 [some (vr (some (11, this))), none, some (vi v2), none, none, none, none, none] [vr (some (11, this))] M (Qi Q) := by
  unfold w_Model_checkOne_j513 at h
  refine E_blk (lv' := [some (vr (some (11, this))), none, some (vi v2), none, none, none, none, none]) (st' := [vi (0 : Int32), vr (some (11, this))]) (M1 := M) (pc' := 514) (tb_Model hγ) [.iconst 0] (by decide +kernel) rfl rfl trivial ?_
  refine E_mask [true, false, true, false, false, false, false, false] rfl ?_
  exact lk_Model_checkOne_j514 hγ this Q v2 (0 : Int32) M h
set_option maxRecDepth 4096 in
theorem lk_Model_checkOne_j458 {γ : Gm} (hγ : Gk γ) (this : Nat) (Q : Int32 → Mem → Prop) (v2 : Int32) (v5 : Int32) (v6 : Int32) (M : Mem) (h : w_Model_checkOne_j458 this Q v2 v5 v6 M) : E γ k_Model_checkOne 6 458 [some (vr (some (11, this))), none, some (vi v2), none, none, some (vi v5), some (vi v6), none] [] M (Qi Q) := by
  unfold w_Model_checkOne_j458 at h
  refine E_blk (lv' := [some (vr (some (11, this))), none, some (vi v2), none, none, some (vi v5), some (vi v6), none]) (st' := [vi v5]) (M1 := M) (pc' := 460) (tb_Model hγ) [.iload 5] (by decide +kernel) rfl rfl trivial ?_
  refine E_if_le (off := 6) (tgt := 466) (by decide +kernel) (by decide) (fun b29 => ?_) (fun b29 => ?_)
  · rw [if_pos b29] at h
    refine E_blk (lv' := [some (vr (some (11, this))), none, some (vi v2), none, none, some (vi v5), some (vi v6), none]) (st' := [vi (23 : Int32), vi v6, vr (some (11, this))]) (M1 := M) (pc' := 471) (tb_Model hγ) [.aload_n 0, .iload 6, .bipush 23] (by decide +kernel) rfl rfl trivial ?_
    refine E_icmp_eq (off := 42) (tgt := 513) (by decide +kernel) (by decide) (fun b30 => ?_) (fun b30 => ?_)
    · rw [if_pos b30] at h
      refine E_mask [true, false, true, false, false, false, false, false] rfl ?_
      exact lk_Model_checkOne_j513 hγ this Q v2 M h
    · rw [if_neg b30] at h
      refine E_blk (lv' := [some (vr (some (11, this))), none, some (vi v2), none, none, some (vi v5), some (vi v6), none]) (st' := [vi (40 : Int32), vi v6, vr (some (11, this))]) (M1 := M) (pc' := 478) (tb_Model hγ) [.iload 6, .bipush 40] (by decide +kernel) rfl rfl trivial ?_
      refine E_icmp_eq (off := 35) (tgt := 513) (by decide +kernel) (by decide) (fun b34 => ?_) (fun b34 => ?_)
      · rw [if_pos b34] at h
        refine E_mask [true, false, true, false, false, false, false, false] rfl ?_
        exact lk_Model_checkOne_j513 hγ this Q v2 M h
      · rw [if_neg b34] at h
        refine E_blk (lv' := [some (vr (some (11, this))), none, some (vi v2), none, none, some (vi v5), some (vi v6), none]) (st' := [vi (56 : Int32), vi v6, vr (some (11, this))]) (M1 := M) (pc' := 485) (tb_Model hγ) [.iload 6, .bipush 56] (by decide +kernel) rfl rfl trivial ?_
        refine E_icmp_eq (off := 28) (tgt := 513) (by decide +kernel) (by decide) (fun b35 => ?_) (fun b35 => ?_)
        · rw [if_pos b35] at h
          refine E_mask [true, false, true, false, false, false, false, false] rfl ?_
          exact lk_Model_checkOne_j513 hγ this Q v2 M h
        · rw [if_neg b35] at h
          refine E_blk (lv' := [some (vr (some (11, this))), none, some (vi v2), none, none, some (vi v5), some (vi v6), none]) (st' := [vi (57 : Int32), vi v6, vr (some (11, this))]) (M1 := M) (pc' := 492) (tb_Model hγ) [.iload 6, .bipush 57] (by decide +kernel) rfl rfl trivial ?_
          refine E_icmp_eq (off := 21) (tgt := 513) (by decide +kernel) (by decide) (fun b36 => ?_) (fun b36 => ?_)
          · rw [if_pos b36] at h
            refine E_mask [true, false, true, false, false, false, false, false] rfl ?_
            exact lk_Model_checkOne_j513 hγ this Q v2 M h
          · rw [if_neg b36] at h
            refine E_blk (lv' := [some (vr (some (11, this))), none, some (vi v2), none, none, some (vi v5), some (vi v6), none]) (st' := [vi (58 : Int32), vi v6, vr (some (11, this))]) (M1 := M) (pc' := 499) (tb_Model hγ) [.iload 6, .bipush 58] (by decide +kernel) rfl rfl trivial ?_
            refine E_icmp_eq (off := 14) (tgt := 513) (by decide +kernel) (by decide) (fun b37 => ?_) (fun b37 => ?_)
            · rw [if_pos b37] at h
              refine E_mask [true, false, true, false, false, false, false, false] rfl ?_
              exact lk_Model_checkOne_j513 hγ this Q v2 M h
            · rw [if_neg b37] at h
              refine E_blk (lv' := [some (vr (some (11, this))), none, some (vi v2), none, none, some (vi v5), some (vi v6), none]) (st' := [vi (59 : Int32), vi v6, vr (some (11, this))]) (M1 := M) (pc' := 506) (tb_Model hγ) [.iload 6, .bipush 59] (by decide +kernel) rfl rfl trivial ?_
              refine E_icmp_eq (off := 7) (tgt := 513) (by decide +kernel) (by decide) (fun b38 => ?_) (fun b38 => ?_)
              · rw [if_pos b38] at h
                refine E_mask [true, false, true, false, false, false, false, false] rfl ?_
                exact lk_Model_checkOne_j513 hγ this Q v2 M h
              · rw [if_neg b38] at h
                refine E_blk (lv' := [some (vr (some (11, this))), none, some (vi v2), none, none, some (vi v5), some (vi v6), none]) (st' := [vi (1 : Int32), vr (some (11, this))]) (M1 := M) (pc' := 510) (tb_Model hγ) [.iconst 1] (by decide +kernel) rfl rfl trivial ?_
                refine E_goto (off := 4) (tgt := 514) (by decide +kernel) (by decide) ?_
                refine E_mask [true, false, true, false, false, false, false, false] rfl ?_
                exact lk_Model_checkOne_j514 hγ this Q v2 (1 : Int32) M h
  · rw [if_neg b29] at h
    refine E_blk (lv' := [some (vr (some (11, this))), none, some (vi v2), none, none, some (vi v5), some (vi v6), none]) (st' := [vi v5]) (M1 := M) (pc' := 465) (tb_Model hγ) [.iload 5] (by decide +kernel) rfl rfl trivial ?_
    exact E_iret rfl (by decide +kernel) h
set_option maxRecDepth 4096 in
theorem lk_Model_checkOne_j345 {γ : Gm} (hγ : Gk γ) (this : Nat) (Q : Int32 → Mem → Prop) (v1 : Int32) (v2 : Int32) (v6 : Int32) (M : Mem) (h : w_Model_checkOne_j345 this Q v1 v2 v6 M) : E γ k_Model_checkOne 6 345 [some (vr (some (11, this))), some (vi v1), some (vi v2), none, none, none, some (vi v6), none] [] M (Qi Q) := by
  unfold w_Model_checkOne_j345 at h
  refine E_blk (lv' := [some (vr (some (11, this))), some (vi v1), some (vi v2), none, none, none, some (vi v6), none]) (st' := [vi v1, vr (some (11, this))]) (M1 := M) (pc' := 347) (tb_Model hγ) [.aload_n 0, .iload_n 1] (by decide +kernel) rfl rfl trivial ?_
  refine E_callV (κ' := k_Model_askHandlers) (As := [vi v1]) (st := []) mv_Model_askHandlers (Or.inl (tbk_mem (j := 15) (k := 213) rfl)) rfl (by decide +kernel) (Nat.le_of_ble_eq_true rfl) (Nat.le_of_ble_eq_true rfl) rfl (by decide) (lk_Model_askHandlers hγ this v1 _ M h) (fun _ _ => Qi_r) (fun v M27 hp => Qi_k (R := fun st => E γ k_Model_checkOne 6 350 [some (vr (some (11, this))), some (vi v1), some (vi v2), none, none, none, some (vi v6), none] st M27 (Qi Q)) hp (fun r28 h => ?_))
  refine E_blk (lv' := [some (vr (some (11, this))), some (vi v1), some (vi v2), none, none, some (vi r28), some (vi v6), none]) (st' := []) (M1 := M27) (pc' := 352) (tb_Model hγ) [.istore 5] (by decide +kernel) rfl rfl trivial ?_
  refine E_goto (off := 106) (tgt := 458) (by decide +kernel) (by decide) ?_
  refine E_mask [true, false, true, false, false, true, true, false] rfl ?_
  exact lk_Model_checkOne_j458 hγ this Q v2 r28 v6 M27 h
set_option maxRecDepth 4096 in
theorem lk_Model_checkOne_L397 {γ : Gm} (hγ : Gk γ) (this : Nat) (Q : Int32 → Mem → Prop) : ∀ (n : Nat) (v2 : Int32) (v3 : Int32) (v5 : Int32) (v6 : Int32) (v7 : Int32) (M : Mem), w_Model_checkOne_L397 this Q n v2 v3 v5 v6 v7 M → E γ k_Model_checkOne 6 397 [some (vr (some (11, this))), none, some (vi v2), some (vi v3), none, some (vi v5), some (vi v6), some (vi v7)] [] M (Qi Q) := by
  intro n
  induction n with
  | zero => intro v2 v3 v5 v6 v7 M h; exact h.elim
  | succ n ih =>
    intro v2 v3 v5 v6 v7 M h
    unfold w_Model_checkOne_L397 at h
    refine E_blk (lv' := [some (vr (some (11, this))), none, some (vi v2), some (vi v3), none, some (vi v5), some (vi v6), some (vi v7)]) (st' := [vr (mR M 11 this 45), vi v7]) (M1 := M) (pc' := 403) (tb_Model hγ) [.iload 7, .aload_n 0, .getfield 522] (by decide +kernel) rfl rfl trivial ?_
    obtain ⟨i47, ei47, h⟩ := h
    rw [ei47]
    refine E_blk (lv' := [some (vr (some (11, this))), none, some (vi v2), some (vi v3), none, some (vi v5), some (vi v6), some (vi v7)]) (st' := [vr (mR M 12 i47 33), vi v7]) (M1 := M) (pc' := 406) (tb_Model hγ) [.getfield 683] (by decide +kernel) rfl rfl trivial ?_
    obtain ⟨i48, ei48, h⟩ := h
    rw [ei48]
    obtain ⟨c49, h⟩ := h
    refine E_blk (lv' := [some (vr (some (11, this))), none, some (vi v2), some (vi v3), none, some (vi v5), some (vi v6), some (vi v7)]) (st' := [vi (mI M 300 i48 v3.toNatClampNeg), vi v7]) (M1 := M) (pc' := 408) (tb_Model hγ) [.iload_n 3, .iaload] (by decide +kernel) rfl rfl ⟨c49, trivial⟩ ?_
    refine E_icmp_gt (off := 50) (tgt := 458) (by decide +kernel) (by decide) (fun b50 => ?_) (fun b50 => ?_)
    · rw [if_pos b50] at h
      refine E_mask [true, false, true, false, false, true, true, false] rfl ?_
      exact lk_Model_checkOne_j458 hγ this Q v2 v5 v6 M h
    · rw [if_neg b50] at h
      refine E_blk (lv' := [some (vr (some (11, this))), none, some (vi v2), some (vi v3), none, some (vi v5), some (vi v6), some (vi v7)]) (st' := [vi v5]) (M1 := M) (pc' := 413) (tb_Model hγ) [.iload 5] (by decide +kernel) rfl rfl trivial ?_
      refine E_if_ne (off := 45) (tgt := 458) (by decide +kernel) (by decide) (fun b51 => ?_) (fun b51 => ?_)
      · rw [if_pos b51] at h
        refine E_blk (lv' := [some (vr (some (11, this))), none, some (vi v2), some (vi v3), none, some (vi v5), some (vi v6), some (vi v7)]) (st' := [vr (mR M 11 this 45), vr (some (11, this))]) (M1 := M) (pc' := 421) (tb_Model hγ) [.aload_n 0, .aload_n 0, .getfield 522] (by decide +kernel) rfl rfl trivial ?_
        obtain ⟨i52, ei52, h⟩ := h
        rw [ei52]
        refine E_blk (lv' := [some (vr (some (11, this))), none, some (vi v2), some (vi v3), none, some (vi v5), some (vi v6), some (vi v7)]) (st' := [vr (mR M 12 i52 36), vr (some (11, this))]) (M1 := M) (pc' := 424) (tb_Model hγ) [.getfield 689] (by decide +kernel) rfl rfl trivial ?_
        obtain ⟨i53, ei53, h⟩ := h
        rw [ei53]
        refine E_blk (lv' := [some (vr (some (11, this))), none, some (vi v2), some (vi v3), none, some (vi v5), some (vi v6), some (vi v7)]) (st' := [vr (mR M 11 this 45), vr (some (300, i53)), vr (some (11, this))]) (M1 := M) (pc' := 428) (tb_Model hγ) [.aload_n 0, .getfield 522] (by decide +kernel) rfl rfl trivial ?_
        obtain ⟨i54, ei54, h⟩ := h
        rw [ei54]
        refine E_blk (lv' := [some (vr (some (11, this))), none, some (vi v2), some (vi v3), none, some (vi v5), some (vi v6), some (vi v7)]) (st' := [vr (mR M 12 i54 32), vr (some (300, i53)), vr (some (11, this))]) (M1 := M) (pc' := 431) (tb_Model hγ) [.getfield 680] (by decide +kernel) rfl rfl trivial ?_
        obtain ⟨i55, ei55, h⟩ := h
        rw [ei55]
        obtain ⟨c56, h⟩ := h
        refine E_blk (lv' := [some (vr (some (11, this))), none, some (vi v2), some (vi v3), none, some (vi v5), some (vi v6), some (vi v7)]) (st' := [vr (mR M 11 this 45), vi v7, vi (mI M 300 i55 v3.toNatClampNeg), vr (some (300, i53)), vr (some (11, this))]) (M1 := M) (pc' := 439) (tb_Model hγ) [.iload_n 3, .iaload, .iload 7, .aload_n 0, .getfield 522] (by decide +kernel) rfl rfl ⟨c56, trivial⟩ ?_
        obtain ⟨i57, ei57, h⟩ := h
        rw [ei57]
        refine E_blk (lv' := [some (vr (some (11, this))), none, some (vi v2), some (vi v3), none, some (vi v5), some (vi v6), some (vi v7)]) (st' := [vr (mR M 12 i57 33), vi v7, vi (mI M 300 i55 v3.toNatClampNeg), vr (some (300, i53)), vr (some (11, this))]) (M1 := M) (pc' := 442) (tb_Model hγ) [.getfield 683] (by decide +kernel) rfl rfl trivial ?_
        obtain ⟨i58, ei58, h⟩ := h
        rw [ei58]
        obtain ⟨c59, c60, c61, h⟩ := h
        refine E_blk (lv' := [some (vr (some (11, this))), none, some (vi v2), some (vi v3), none, some (vi v5), some (vi v6), some (vi v7)]) (st' := [vi (mI M 300 i53 ((mI M 300 i55 v3.toNatClampNeg) + (v7 - v7 / (mI M 300 i58 v3.toNatClampNeg) * (mI M 300 i58 v3.toNatClampNeg))).toNatClampNeg), vr (some (11, this))]) (M1 := M) (pc' := 447) (tb_Model hγ) [.iload_n 3, .iaload, .irem, .iadd, .iaload] (by decide +kernel) rfl rfl ⟨c59, c60, c61, trivial⟩ ?_
        refine E_callV (κ' := k_Model_goesTo) (As := [vi (mI M 300 i53 ((mI M 300 i55 v3.toNatClampNeg) + (v7 - v7 / (mI M 300 i58 v3.toNatClampNeg) * (mI M 300 i58 v3.toNatClampNeg))).toNatClampNeg)]) (st := []) mv_Model_goesTo (Or.inl (tbk_mem (j := 16) (k := 11) rfl)) rfl (by decide +kernel) (Nat.le_of_ble_eq_true rfl) (Nat.le_of_ble_eq_true rfl) rfl (by decide) (lk_Model_goesTo hγ this (mI M 300 i53 ((mI M 300 i55 v3.toNatClampNeg) + (v7 - v7 / (mI M 300 i58 v3.toNatClampNeg) * (mI M 300 i58 v3.toNatClampNeg))).toNatClampNeg) _ M h) (fun _ _ => Qi_r) (fun v M62 hp => Qi_k (R := fun st => E γ k_Model_checkOne 6 450 [some (vr (some (11, this))), none, some (vi v2), some (vi v3), none, some (vi v5), some (vi v6), some (vi v7)] st M62 (Qi Q)) hp (fun r63 h => ?_))
        refine E_blk (lv' := [some (vr (some (11, this))), none, some (vi v2), some (vi v3), none, some (vi r63), some (vi v6), some (vi (v7 + (1 : Int32)))]) (st' := []) (M1 := M62) (pc' := 455) (tb_Model hγ) [.istore 5, .iinc 7 1] (by decide +kernel) rfl rfl trivial ?_
        refine E_goto (off := -58) (tgt := 397) (by decide +kernel) (by decide) ?_
        refine E_mask [true, false, true, true, false, true, true, true] rfl ?_
        exact ih v2 v3 r63 v6 (v7 + (1 : Int32)) M62 h
      · rw [if_neg b51] at h
        refine E_mask [true, false, true, false, false, true, true, false] rfl ?_
        exact lk_Model_checkOne_j458 hγ this Q v2 v5 v6 M h
set_option maxRecDepth 4096 in
theorem lk_Model_checkOne_j387 {γ : Gm} (hγ : Gk γ) (this : Nat) (Q : Int32 → Mem → Prop) (v2 : Int32) (v3 : Int32) (v5 : Int32) (v6 : Int32) (M : Mem) (h : w_Model_checkOne_j387 this Q v2 v3 v5 v6 M) : E γ k_Model_checkOne 6 387 [some (vr (some (11, this))), none, some (vi v2), some (vi v3), none, some (vi v5), some (vi v6), none] [] M (Qi Q) := by
  unfold w_Model_checkOne_j387 at h
  refine E_blk (lv' := [some (vr (some (11, this))), none, some (vi v2), some (vi v3), none, some (vi v5), some (vi v6), none]) (st' := [vi (40 : Int32), vi v6]) (M1 := M) (pc' := 391) (tb_Model hγ) [.iload 6, .bipush 40] (by decide +kernel) rfl rfl trivial ?_
  refine E_icmp_ne (off := 67) (tgt := 458) (by decide +kernel) (by decide) (fun b46 => ?_) (fun b46 => ?_)
  · rw [if_pos b46] at h
    refine E_blk (lv' := [some (vr (some (11, this))), none, some (vi v2), some (vi v3), none, some (vi v5), some (vi v6), some (vi (1 : Int32))]) (st' := []) (M1 := M) (pc' := 397) (tb_Model hγ) [.iconst 1, .istore 7] (by decide +kernel) rfl rfl trivial ?_
    obtain ⟨n64, h⟩ := h
    refine E_mask [true, false, true, true, false, true, true, true] rfl ?_
    exact lk_Model_checkOne_L397 hγ this Q n64 v2 v3 v5 v6 (1 : Int32) M h
  · rw [if_neg b46] at h
    refine E_mask [true, false, true, false, false, true, true, false] rfl ?_
    exact lk_Model_checkOne_j458 hγ this Q v2 v5 v6 M h
set_option maxRecDepth 4096 in
theorem lk_Model_checkOne_j355 {γ : Gm} (hγ : Gk γ) (this : Nat) (Q : Int32 → Mem → Prop) (v2 : Int32) (v3 : Int32) (v5 : Int32) (v6 : Int32) (M : Mem) (h : w_Model_checkOne_j355 this Q v2 v3 v5 v6 M) : E γ k_Model_checkOne 6 355 [some (vr (some (11, this))), none, some (vi v2), some (vi v3), none, some (vi v5), some (vi v6), none] [] M (Qi Q) := by
  unfold w_Model_checkOne_j355 at h
  refine E_blk (lv' := [some (vr (some (11, this))), none, some (vi v2), some (vi v3), none, some (vi v5), some (vi v6), none]) (st' := [vi (23 : Int32), vi v6]) (M1 := M) (pc' := 359) (tb_Model hγ) [.iload 6, .bipush 23] (by decide +kernel) rfl rfl trivial ?_
  refine E_icmp_lt (off := 28) (tgt := 387) (by decide +kernel) (by decide) (fun b45 => ?_) (fun b45 => ?_)
  · rw [if_pos b45] at h
    refine E_mask [true, false, true, true, false, true, true, false] rfl ?_
    exact lk_Model_checkOne_j387 hγ this Q v2 v3 v5 v6 M h
  · rw [if_neg b45] at h
    refine E_blk (lv' := [some (vr (some (11, this))), none, some (vi v2), some (vi v3), none, some (vi v5), some (vi v6), none]) (st' := [vi (39 : Int32), vi v6]) (M1 := M) (pc' := 366) (tb_Model hγ) [.iload 6, .bipush 39] (by decide +kernel) rfl rfl trivial ?_
    refine E_icmp_gt (off := 21) (tgt := 387) (by decide +kernel) (by decide) (fun b65 => ?_) (fun b65 => ?_)
    · rw [if_pos b65] at h
      refine E_mask [true, false, true, true, false, true, true, false] rfl ?_
      exact lk_Model_checkOne_j387 hγ this Q v2 v3 v5 v6 M h
    · rw [if_neg b65] at h
      refine E_blk (lv' := [some (vr (some (11, this))), none, some (vi v2), some (vi v3), none, some (vi v5), some (vi v6), none]) (st' := [vr (mR M 11 this 45), vr (some (11, this))]) (M1 := M) (pc' := 374) (tb_Model hγ) [.aload_n 0, .aload_n 0, .getfield 522] (by decide +kernel) rfl rfl trivial ?_
      obtain ⟨i66, ei66, h⟩ := h
      rw [ei66]
      refine E_blk (lv' := [some (vr (some (11, this))), none, some (vi v2), some (vi v3), none, some (vi v5), some (vi v6), none]) (st' := [vr (mR M 12 i66 31), vr (some (11, this))]) (M1 := M) (pc' := 377) (tb_Model hγ) [.getfield 677] (by decide +kernel) rfl rfl trivial ?_
      obtain ⟨i67, ei67, h⟩ := h
      rw [ei67]
      obtain ⟨c68, h⟩ := h
      refine E_blk (lv' := [some (vr (some (11, this))), none, some (vi v2), some (vi v3), none, some (vi v5), some (vi v6), none]) (st' := [vi (mI M 300 i67 v3.toNatClampNeg), vr (some (11, this))]) (M1 := M) (pc' := 379) (tb_Model hγ) [.iload_n 3, .iaload] (by decide +kernel) rfl rfl ⟨c68, trivial⟩ ?_
      refine E_callV (κ' := k_Model_goesTo) (As := [vi (mI M 300 i67 v3.toNatClampNeg)]) (st := []) mv_Model_goesTo (Or.inl (tbk_mem (j := 16) (k := 11) rfl)) rfl (by decide +kernel) (Nat.le_of_ble_eq_true rfl) (Nat.le_of_ble_eq_true rfl) rfl (by decide) (lk_Model_goesTo hγ this (mI M 300 i67 v3.toNatClampNeg) _ M h) (fun _ _ => Qi_r) (fun v M69 hp => Qi_k (R := fun st => E γ k_Model_checkOne 6 382 [some (vr (some (11, this))), none, some (vi v2), some (vi v3), none, some (vi v5), some (vi v6), none] st M69 (Qi Q)) hp (fun r70 h => ?_))
      refine E_blk (lv' := [some (vr (some (11, this))), none, some (vi v2), some (vi v3), none, some (vi r70), some (vi v6), none]) (st' := []) (M1 := M69) (pc' := 384) (tb_Model hγ) [.istore 5] (by decide +kernel) rfl rfl trivial ?_
      refine E_goto (off := 74) (tgt := 458) (by decide +kernel) (by decide) ?_
      refine E_mask [true, false, true, false, false, true, true, false] rfl ?_
      exact lk_Model_checkOne_j458 hγ this Q v2 r70 v6 M69 h
set_option maxRecDepth 4096 in
theorem lk_Model_checkOne_j219 {γ : Gm} (hγ : Gk γ) (this : Nat) (Q : Int32 → Mem → Prop) (v1 : Int32) (v2 : Int32) (v3 : Int32) (M : Mem) (h : w_Model_checkOne_j219 this Q v1 v2 v3 M) : E γ k_Model_checkOne 6 219 [some (vr (some (11, this))), some (vi v1), some (vi v2), some (vi v3), none, none, none, none] [] M (Qi Q) := by
  unfold w_Model_checkOne_j219 at h
  refine E_blk (lv' := [some (vr (some (11, this))), some (vi v1), some (vi v2), some (vi v3), none, none, none, none]) (st' := [vi v1, vr (some (11, this))]) (M1 := M) (pc' := 221) (tb_Model hγ) [.aload_n 0, .iload_n 1] (by decide +kernel) rfl rfl trivial ?_
  refine E_callV (κ' := k_Model_askHandlers) (As := [vi v1]) (st := []) mv_Model_askHandlers (Or.inl (tbk_mem (j := 15) (k := 213) rfl)) rfl (by decide +kernel) (Nat.le_of_ble_eq_true rfl) (Nat.le_of_ble_eq_true rfl) rfl (by decide) (lk_Model_askHandlers hγ this v1 _ M h) (fun _ _ => Qi_r) (fun v M10 hp => Qi_k (R := fun st => E γ k_Model_checkOne 6 224 [some (vr (some (11, this))), some (vi v1), some (vi v2), some (vi v3), none, none, none, none] st M10 (Qi Q)) hp (fun r11 h => ?_))
  refine E_blk (lv' := [some (vr (some (11, this))), some (vi v1), some (vi v2), some (vi v3), none, some (vi r11), none, none]) (st' := [vi r11]) (M1 := M10) (pc' := 228) (tb_Model hγ) [.istore 5, .iload 5] (by decide +kernel) rfl rfl trivial ?_
  refine E_if_le (off := 6) (tgt := 234) (by decide +kernel) (by decide) (fun b12 => ?_) (fun b12 => ?_)
  · rw [if_pos b12] at h
    refine E_blk (lv' := [some (vr (some (11, this))), some (vi v1), some (vi v2), some (vi v3), none, some (vi r11), none, none]) (st' := [vr (mR M10 11 this 45)]) (M1 := M10) (pc' := 238) (tb_Model hγ) [.aload_n 0, .getfield 522] (by decide +kernel) rfl rfl trivial ?_
    obtain ⟨i13, ei13, h⟩ := h
    rw [ei13]
    refine E_blk (lv' := [some (vr (some (11, this))), some (vi v1), some (vi v2), some (vi v3), none, some (vi r11), none, none]) (st' := [vr (mR M10 12 i13 30)]) (M1 := M10) (pc' := 241) (tb_Model hγ) [.getfield 674] (by decide +kernel) rfl rfl trivial ?_
    obtain ⟨i14, ei14, h⟩ := h
    rw [ei14]
    obtain ⟨c15, h⟩ := h
    refine E_blk (lv' := [some (vr (some (11, this))), some (vi v1), some (vi v2), some (vi v3), none, some (vi r11), some (vi (mI M10 401 i14 v3.toNatClampNeg)), none]) (st' := [vi v3, vi (mI M10 401 i14 v3.toNatClampNeg), vr (some (11, this))]) (M1 := M10) (pc' := 249) (tb_Model hγ) [.iload_n 3, .baload, .istore 6, .aload_n 0, .iload 6, .iload_n 3] (by decide +kernel) rfl rfl ⟨c15, trivial⟩ ?_
    refine E_callV (κ' := k_Model_checkTaken) (As := [vi (mI M10 401 i14 v3.toNatClampNeg), vi v3]) (st := []) mv_Model_checkTaken (Or.inl (tbk_mem (j := 15) (k := 217) rfl)) rfl (by decide +kernel) (Nat.le_of_ble_eq_true rfl) (Nat.le_of_ble_eq_true rfl) rfl (by decide) (lk_Model_checkTaken hγ this (mI M10 401 i14 v3.toNatClampNeg) v3 _ M10 h) (fun _ _ => Qi_r) (fun v M16 hp => Qi_k (R := fun st => E γ k_Model_checkOne 6 252 [some (vr (some (11, this))), some (vi v1), some (vi v2), some (vi v3), none, some (vi r11), some (vi (mI M10 401 i14 v3.toNatClampNeg)), none] st M16 (Qi Q)) hp (fun r17 h => ?_))
    refine E_blk (lv' := [some (vr (some (11, this))), some (vi v1), some (vi v2), some (vi v3), none, some (vi r17), some (vi (mI M10 401 i14 v3.toNatClampNeg)), none]) (st' := [vi r17]) (M1 := M16) (pc' := 256) (tb_Model hγ) [.istore 5, .iload 5] (by decide +kernel) rfl rfl trivial ?_
    refine E_if_le (off := 6) (tgt := 262) (by decide +kernel) (by decide) (fun b18 => ?_) (fun b18 => ?_)
    · rw [if_pos b18] at h
      refine E_blk (lv' := [some (vr (some (11, this))), some (vi v1), some (vi v2), some (vi v3), none, some (vi r17), some (vi (mI M10 401 i14 v3.toNatClampNeg)), none]) (st' := [vi v3, vi (mI M10 401 i14 v3.toNatClampNeg), vr (some (11, this))]) (M1 := M16) (pc' := 266) (tb_Model hγ) [.aload_n 0, .iload 6, .iload_n 3] (by decide +kernel) rfl rfl trivial ?_
      refine E_callV (κ' := k_Model_checkOwn) (As := [vi (mI M10 401 i14 v3.toNatClampNeg), vi v3]) (st := []) mv_Model_checkOwn (Or.inl (tbk_mem (j := 15) (k := 235) rfl)) rfl (by decide +kernel) (Nat.le_of_ble_eq_true rfl) (Nat.le_of_ble_eq_true rfl) rfl (by decide) (lk_Model_checkOwn hγ this (mI M10 401 i14 v3.toNatClampNeg) v3 _ M16 h) (fun _ _ => Qi_r) (fun v M19 hp => Qi_k (R := fun st => E γ k_Model_checkOne 6 269 [some (vr (some (11, this))), some (vi v1), some (vi v2), some (vi v3), none, some (vi r17), some (vi (mI M10 401 i14 v3.toNatClampNeg)), none] st M19 (Qi Q)) hp (fun r20 h => ?_))
      refine E_blk (lv' := [some (vr (some (11, this))), some (vi v1), some (vi v2), some (vi v3), none, some (vi r20), some (vi (mI M10 401 i14 v3.toNatClampNeg)), none]) (st' := [vi r20]) (M1 := M19) (pc' := 273) (tb_Model hγ) [.istore 5, .iload 5] (by decide +kernel) rfl rfl trivial ?_
      refine E_if_le (off := 6) (tgt := 279) (by decide +kernel) (by decide) (fun b21 => ?_) (fun b21 => ?_)
      · rw [if_pos b21] at h
        refine E_blk (lv' := [some (vr (some (11, this))), some (vi v1), some (vi v2), some (vi v3), none, some (vi r20), some (vi (mI M10 401 i14 v3.toNatClampNeg)), none]) (st' := [vi v1, vi v3, vi (mI M10 401 i14 v3.toNatClampNeg), vr (some (11, this))]) (M1 := M19) (pc' := 284) (tb_Model hγ) [.aload_n 0, .iload 6, .iload_n 3, .iload_n 1] (by decide +kernel) rfl rfl trivial ?_
        refine E_callV (κ' := k_Model_act) (As := [vi (mI M10 401 i14 v3.toNatClampNeg), vi v3, vi v1]) (st := []) mv_Model_act (Or.inl (tbk_mem (j := 16) (k := 3) rfl)) rfl (by decide +kernel) (Nat.le_of_ble_eq_true rfl) (Nat.le_of_ble_eq_true rfl) rfl (by decide) (lk_Model_act hγ this (mI M10 401 i14 v3.toNatClampNeg) v3 v1 _ M19 h) (fun _ _ => Qv_r) (fun v M22 hp => Qv_k (R := fun st => E γ k_Model_checkOne 6 287 [some (vr (some (11, this))), some (vi v1), some (vi v2), some (vi v3), none, some (vi r20), some (vi (mI M10 401 i14 v3.toNatClampNeg)), none] st M22 (Qi Q)) hp (fun h => ?_))
        refine E_blk (lv' := [some (vr (some (11, this))), some (vi v1), some (vi v2), some (vi v3), none, some (vi r20), some (vi (mI M10 401 i14 v3.toNatClampNeg)), none]) (st' := [vr (mR M22 11 this 45), vi (mI M22 11 this 72)]) (M1 := M22) (pc' := 295) (tb_Model hγ) [.aload_n 0, .getfield 780, .aload_n 0, .getfield 522] (by decide +kernel) rfl rfl trivial ?_
        obtain ⟨i23, ei23, h⟩ := h
        rw [ei23]
        obtain ⟨c24, h⟩ := h
        refine E_blk (lv' := [some (vr (some (11, this))), some (vi v1), some (vi v2), some (vi v3), none, some (vi r20), some (vi (mI M10 401 i14 v3.toNatClampNeg)), none]) (st' := [vi (mI M22 147 i23 (mI M22 11 this 75).toNatClampNeg), vi (mI M22 11 this 72)]) (M1 := M22) (pc' := 303) (tb_Model hγ) [.getfield 456, .aload_n 0, .getfield 768, .iaload] (by decide +kernel) rfl rfl ⟨c24, trivial⟩ ?_
        refine E_icmp_le (off := 6) (tgt := 309) (by decide +kernel) (by decide) (fun b25 => ?_) (fun b25 => ?_)
        · rw [if_pos b25] at h
          refine E_blk (lv' := [some (vr (some (11, this))), some (vi v1), some (vi v2), some (vi v3), none, some (vi r20), some (vi (mI M10 401 i14 v3.toNatClampNeg)), none]) (st' := [vi (5 : Int32), vi (mI M10 401 i14 v3.toNatClampNeg)]) (M1 := M22) (pc' := 312) (tb_Model hγ) [.iload 6, .iconst 5] (by decide +kernel) rfl rfl trivial ?_
          refine E_icmp_eq (off := 33) (tgt := 345) (by decide +kernel) (by decide) (fun b26 => ?_) (fun b26 => ?_)
          · rw [if_pos b26] at h
            refine E_mask [true, true, true, false, false, false, true, false] rfl ?_
            exact lk_Model_checkOne_j345 hγ this Q v1 v2 (mI M10 401 i14 v3.toNatClampNeg) M22 h
          · rw [if_neg b26] at h
            refine E_blk (lv' := [some (vr (some (11, this))), some (vi v1), some (vi v2), some (vi v3), none, some (vi r20), some (vi (mI M10 401 i14 v3.toNatClampNeg)), none]) (st' := [vi (6 : Int32), vi (mI M10 401 i14 v3.toNatClampNeg)]) (M1 := M22) (pc' := 319) (tb_Model hγ) [.iload 6, .bipush 6] (by decide +kernel) rfl rfl trivial ?_
            refine E_icmp_eq (off := 26) (tgt := 345) (by decide +kernel) (by decide) (fun b39 => ?_) (fun b39 => ?_)
            · rw [if_pos b39] at h
              refine E_mask [true, true, true, false, false, false, true, false] rfl ?_
              exact lk_Model_checkOne_j345 hγ this Q v1 v2 (mI M10 401 i14 v3.toNatClampNeg) M22 h
            · rw [if_neg b39] at h
              refine E_blk (lv' := [some (vr (some (11, this))), some (vi v1), some (vi v2), some (vi v3), none, some (vi r20), some (vi (mI M10 401 i14 v3.toNatClampNeg)), none]) (st' := [vi (51 : Int32), vi (mI M10 401 i14 v3.toNatClampNeg)]) (M1 := M22) (pc' := 326) (tb_Model hγ) [.iload 6, .bipush 51] (by decide +kernel) rfl rfl trivial ?_
              refine E_icmp_ne (off := 29) (tgt := 355) (by decide +kernel) (by decide) (fun b40 => ?_) (fun b40 => ?_)
              · rw [if_pos b40] at h
                refine E_blk (lv' := [some (vr (some (11, this))), some (vi v1), some (vi v2), some (vi v3), none, some (vi r20), some (vi (mI M10 401 i14 v3.toNatClampNeg)), none]) (st' := [vr (mR M22 11 this 45)]) (M1 := M22) (pc' := 333) (tb_Model hγ) [.aload_n 0, .getfield 522] (by decide +kernel) rfl rfl trivial ?_
                obtain ⟨i41, ei41, h⟩ := h
                rw [ei41]
                refine E_blk (lv' := [some (vr (some (11, this))), some (vi v1), some (vi v2), some (vi v3), none, some (vi r20), some (vi (mI M10 401 i14 v3.toNatClampNeg)), none]) (st' := [vr (mR M22 12 i41 32)]) (M1 := M22) (pc' := 336) (tb_Model hγ) [.getfield 680] (by decide +kernel) rfl rfl trivial ?_
                obtain ⟨i42, ei42, h⟩ := h
                rw [ei42]
                obtain ⟨c43, h⟩ := h
                refine E_blk (lv' := [some (vr (some (11, this))), some (vi v1), some (vi v2), some (vi v3), none, some (vi r20), some (vi (mI M10 401 i14 v3.toNatClampNeg)), none]) (st' := [vi (mI M22 11 this 6), vi (mI M22 300 i42 v3.toNatClampNeg)]) (M1 := M22) (pc' := 342) (tb_Model hγ) [.iload_n 3, .iaload, .aload_n 0, .getfield 121] (by decide +kernel) rfl rfl ⟨c43, trivial⟩ ?_
                refine E_icmp_ne (off := 13) (tgt := 355) (by decide +kernel) (by decide) (fun b44 => ?_) (fun b44 => ?_)
                · rw [if_pos b44] at h
                  refine E_mask [true, true, true, false, false, false, true, false] rfl ?_
                  exact lk_Model_checkOne_j345 hγ this Q v1 v2 (mI M10 401 i14 v3.toNatClampNeg) M22 h
                · rw [if_neg b44] at h
                  refine E_mask [true, false, true, true, false, true, true, false] rfl ?_
                  exact lk_Model_checkOne_j355 hγ this Q v2 v3 r20 (mI M10 401 i14 v3.toNatClampNeg) M22 h
              · rw [if_neg b40] at h
                refine E_mask [true, false, true, true, false, true, true, false] rfl ?_
                exact lk_Model_checkOne_j355 hγ this Q v2 v3 r20 (mI M10 401 i14 v3.toNatClampNeg) M22 h
        · rw [if_neg b25] at h
          refine E_blk (lv' := [some (vr (some (11, this))), some (vi v1), some (vi v2), some (vi v3), none, some (vi r20), some (vi (mI M10 401 i14 v3.toNatClampNeg)), none]) (st' := [vi (30 : Int32)]) (M1 := M22) (pc' := 308) (tb_Model hγ) [.bipush 30] (by decide +kernel) rfl rfl trivial ?_
          exact E_iret rfl (by decide +kernel) h
      · rw [if_neg b21] at h
        refine E_blk (lv' := [some (vr (some (11, this))), some (vi v1), some (vi v2), some (vi v3), none, some (vi r20), some (vi (mI M10 401 i14 v3.toNatClampNeg)), none]) (st' := [vi r20]) (M1 := M19) (pc' := 278) (tb_Model hγ) [.iload 5] (by decide +kernel) rfl rfl trivial ?_
        exact E_iret rfl (by decide +kernel) h
    · rw [if_neg b18] at h
      refine E_blk (lv' := [some (vr (some (11, this))), some (vi v1), some (vi v2), some (vi v3), none, some (vi r17), some (vi (mI M10 401 i14 v3.toNatClampNeg)), none]) (st' := [vi r17]) (M1 := M16) (pc' := 261) (tb_Model hγ) [.iload 5] (by decide +kernel) rfl rfl trivial ?_
      exact E_iret rfl (by decide +kernel) h
  · rw [if_neg b12] at h
    refine E_blk (lv' := [some (vr (some (11, this))), some (vi v1), some (vi v2), some (vi v3), none, some (vi r11), none, none]) (st' := [vi r11]) (M1 := M10) (pc' := 233) (tb_Model hγ) [.iload 5] (by decide +kernel) rfl rfl trivial ?_
    exact E_iret rfl (by decide +kernel) h
set_option maxRecDepth 4096 in
theorem lk_Model_checkOne_j197 {γ : Gm} (hγ : Gk γ) (this : Nat) (Q : Int32 → Mem → Prop) (v1 : Int32) (v2 : Int32) (v3 : Int32) (M : Mem) (h : w_Model_checkOne_j197 this Q v1 v2 v3 M) : E γ k_Model_checkOne 6 197 [some (vr (some (11, this))), some (vi v1), some (vi v2), some (vi v3), none, none, none, none] [] M (Qi Q) := by
  unfold w_Model_checkOne_j197 at h
  refine E_blk (lv' := [some (vr (some (11, this))), some (vi v1), some (vi v2), some (vi v3), none, none, none, none]) (st' := [vi (mI M 11 this 73)]) (M1 := M) (pc' := 201) (tb_Model hγ) [.aload_n 0, .getfield 792] (by decide +kernel) rfl rfl trivial ?_
  refine E_if_ne (off := 6) (tgt := 207) (by decide +kernel) (by decide) (fun b8 => ?_) (fun b8 => ?_)
  · rw [if_pos b8] at h
    refine E_blk (lv' := [some (vr (some (11, this))), some (vi v1), some (vi v2), some (vi v3), none, none, none, none]) (st' := [vi (36 : Int32)]) (M1 := M) (pc' := 206) (tb_Model hγ) [.bipush 36] (by decide +kernel) rfl rfl trivial ?_
    exact E_iret rfl (by decide +kernel) h
  · rw [if_neg b8] at h
    refine E_blk (lv' := [some (vr (some (11, this))), some (vi v1), some (vi v2), some (vi v3), none, none, none, none]) (st' := [vi (mI M 11 this 77)]) (M1 := M) (pc' := 211) (tb_Model hγ) [.aload_n 0, .getfield 802] (by decide +kernel) rfl rfl trivial ?_
    refine E_if_eq (off := 8) (tgt := 219) (by decide +kernel) (by decide) (fun b9 => ?_) (fun b9 => ?_)
    · rw [if_pos b9] at h
      refine E_mask [true, true, true, true, false, false, false, false] rfl ?_
      exact lk_Model_checkOne_j219 hγ this Q v1 v2 v3 M h
    · rw [if_neg b9] at h
      refine E_blk (lv' := [some (vr (some (11, this))), some (vi v1), some (vi v2), some (vi v3), none, none, none, none]) (st' := [vi v1, vr (some (11, this))]) (M1 := M) (pc' := 216) (tb_Model hγ) [.aload_n 0, .iload_n 1] (by decide +kernel) rfl rfl trivial ?_
      refine E_callV (κ' := k_Model_record) (As := [vi v1]) (st := []) mv_Model_record (Or.inl (tbk_mem (j := 15) (k := 209) rfl)) rfl (by decide +kernel) (Nat.le_of_ble_eq_true rfl) (Nat.le_of_ble_eq_true rfl) rfl (by decide) (lk_Model_record hγ this v1 _ M h) (fun _ _ => Qv_r) (fun v M71 hp => Qv_k (R := fun st => E γ k_Model_checkOne 6 219 [some (vr (some (11, this))), some (vi v1), some (vi v2), some (vi v3), none, none, none, none] st M71 (Qi Q)) hp (fun h => ?_))
      refine E_mask [true, true, true, true, false, false, false, false] rfl ?_
      exact lk_Model_checkOne_j219 hγ this Q v1 v2 v3 M71 h
set_option maxRecDepth 4096 in
theorem lk_Model_checkOne_L151 {γ : Gm} (hγ : Gk γ) (this : Nat) (Q : Int32 → Mem → Prop) : ∀ (n : Nat) (v1 : Int32) (v2 : Int32) (v3 : Int32) (v4 : Int32) (v6 : Int32) (M : Mem), w_Model_checkOne_L151 this Q n v1 v2 v3 v4 v6 M → E γ k_Model_checkOne 6 151 [some (vr (some (11, this))), some (vi v1), some (vi v2), some (vi v3), some (vi v4), none, some (vi v6), none] [] M (Qi Q) := by
  intro n
  induction n with
  | zero => intro v1 v2 v3 v4 v6 M h; exact h.elim
  | succ n ih =>
    intro v1 v2 v3 v4 v6 M h
    unfold w_Model_checkOne_L151 at h
    refine E_blk (lv' := [some (vr (some (11, this))), some (vi v1), some (vi v2), some (vi v3), some (vi v4), none, some (vi v6), none]) (st' := [vi (mI M 11 this 72), vi v6]) (M1 := M) (pc' := 157) (tb_Model hγ) [.iload 6, .aload_n 0, .getfield 780] (by decide +kernel) rfl rfl trivial ?_
    refine E_icmp_ge (off := 35) (tgt := 192) (by decide +kernel) (by decide) (fun b83 => ?_) (fun b83 => ?_)
    · rw [if_pos b83] at h
      obtain ⟨c84, h⟩ := h
      refine E_blk (lv' := [some (vr (some (11, this))), some (vi v1), some (vi v2), some (vi v3), some (vi v4), none, some (vi v6), none]) (st' := []) (M1 := (sI M 11 this 73 (1 : Int32))) (pc' := 197) (tb_Model hγ) [.aload_n 0, .iconst 1, .putfield 792] (by decide +kernel) rfl rfl ⟨c84, trivial⟩ ?_
      refine E_mask [true, true, true, true, false, false, false, false] rfl ?_
      exact lk_Model_checkOne_j197 hγ this Q v1 v2 v3 (sI M 11 this 73 (1 : Int32)) h
    · rw [if_neg b83] at h
      refine E_blk (lv' := [some (vr (some (11, this))), some (vi v1), some (vi v2), some (vi v3), some (vi v4), none, some (vi v6), none]) (st' := [vr (mR M 11 this 45), vi v4, vr (some (11, this)), vi v6, vr (some (212, 0))]) (M1 := M) (pc' := 173) (tb_Model hγ) [.aload_n 0, .getfield 308, .iload 6, .aload_n 0, .iload 4, .aload_n 0, .getfield 522] (by decide +kernel) rfl rfl trivial ?_
      obtain ⟨i85, ei85, h⟩ := h
      rw [ei85]
      refine E_blk (lv' := [some (vr (some (11, this))), some (vi v1), some (vi v2), some (vi v3), some (vi v4), none, some (vi v6), none]) (st' := [vr (mR M 12 i85 38), vi v4, vr (some (11, this)), vi v6, vr (some (212, 0))]) (M1 := M) (pc' := 176) (tb_Model hγ) [.getfield 701] (by decide +kernel) rfl rfl trivial ?_
      obtain ⟨i86, ei86, h⟩ := h
      rw [ei86]
      obtain ⟨c87, h⟩ := h
      refine E_blk (lv' := [some (vr (some (11, this))), some (vi v1), some (vi v2), some (vi v3), some (vi v4), none, some (vi v6), none]) (st' := [vi ((mI M 300 i86 v4.toNatClampNeg) + v6), vi v4, vr (some (11, this)), vi v6, vr (some (212, 0))]) (M1 := M) (pc' := 182) (tb_Model hγ) [.iload 4, .iaload, .iload 6, .iadd] (by decide +kernel) rfl rfl ⟨c87, trivial⟩ ?_
      refine E_callV (κ' := k_Model_frameKind) (As := [vi v4, vi ((mI M 300 i86 v4.toNatClampNeg) + v6)]) (st := [vi v6, vr (some (212, 0))]) mv_Model_frameKind (Or.inl (tbk_mem (j := 15) (k := 185) rfl)) rfl (by decide +kernel) (Nat.le_of_ble_eq_true rfl) (Nat.le_of_ble_eq_true rfl) rfl (by decide) (lk_Model_frameKind hγ this v4 ((mI M 300 i86 v4.toNatClampNeg) + v6) _ M h) (fun _ _ => Qi_r) (fun v M88 hp => Qi_k (R := fun st => E γ k_Model_checkOne 6 185 [some (vr (some (11, this))), some (vi v1), some (vi v2), some (vi v3), some (vi v4), none, some (vi v6), none] st M88 (Qi Q)) hp (fun r89 h => ?_))
      obtain ⟨c90, h⟩ := h
      refine E_blk (lv' := [some (vr (some (11, this))), some (vi v1), some (vi v2), some (vi v3), some (vi v4), none, some (vi (v6 + (1 : Int32))), none]) (st' := []) (M1 := (sI M88 212 0 v6.toNatClampNeg r89)) (pc' := 189) (tb_Model hγ) [.iastore, .iinc 6 1] (by decide +kernel) rfl rfl ⟨c90, trivial⟩ ?_
      refine E_goto (off := -38) (tgt := 151) (by decide +kernel) (by decide) ?_
      refine E_mask [true, true, true, true, true, false, true, false] rfl ?_
      exact ih v1 v2 v3 v4 (v6 + (1 : Int32)) (sI M88 212 0 v6.toNatClampNeg r89) h
set_option maxRecDepth 4096 in
theorem lk_Model_checkOne_j127 {γ : Gm} (hγ : Gk γ) (this : Nat) (Q : Int32 → Mem → Prop) (k77 : Int32 → Int32 → Int32 → Int32 → Int32 → Mem → Prop) (hk77 : ∀ (v1 : Int32) (v2 : Int32) (v3 : Int32) (v4 : Int32) (v6 : Int32) (M : Mem), k77 v1 v2 v3 v4 v6 M → E γ k_Model_checkOne 6 77 [some (vr (some (11, this))), some (vi v1), some (vi v2), some (vi v3), some (vi v4), none, some (vi v6), none] [] M (Qi Q)) (v1 : Int32) (v2 : Int32) (v3 : Int32) (v4 : Int32) (v6 : Int32) (s0 : Int32) (s1 : Int32) (M : Mem) (h : w_Model_checkOne_j127 this Q k77 v1 v2 v3 v4 v6 s0 s1 M) : E γ k_Model_checkOne 6 127 [some (vr (some (11, this))), some (vi v1), some (vi v2), some (vi v3), some (vi v4), none, some (vi v6), none] [vi s0, vi s1, vr (some (111, this))] M (Qi Q) := by
  unfold w_Model_checkOne_j127 at h
  obtain ⟨c96, h⟩ := h
  refine E_blk (lv' := [some (vr (some (11, this))), some (vi v1), some (vi v2), some (vi v3), some (vi v4), none, some (vi (v6 + (1 : Int32))), none]) (st' := []) (M1 := (sI M 111 this s1.toNatClampNeg s0)) (pc' := 131) (tb_Model hγ) [.iastore, .iinc 6 1] (by decide +kernel) rfl rfl ⟨c96, trivial⟩ ?_
  refine E_goto (off := -54) (tgt := 77) (by decide +kernel) (by decide) ?_
  refine E_mask [true, true, true, true, true, false, true, false] rfl ?_
  exact hk77 v1 v2 v3 v4 (v6 + (1 : Int32)) (sI M 111 this s1.toNatClampNeg s0) h
set_option maxRecDepth 4096 in
theorem lk_Model_checkOne_L77 {γ : Gm} (hγ : Gk γ) (this : Nat) (Q : Int32 → Mem → Prop) : ∀ (n : Nat) (v1 : Int32) (v2 : Int32) (v3 : Int32) (v4 : Int32) (v6 : Int32) (M : Mem), w_Model_checkOne_L77 this Q n v1 v2 v3 v4 v6 M → E γ k_Model_checkOne 6 77 [some (vr (some (11, this))), some (vi v1), some (vi v2), some (vi v3), some (vi v4), none, some (vi v6), none] [] M (Qi Q) := by
  intro n
  induction n with
  | zero => intro v1 v2 v3 v4 v6 M h; exact h.elim
  | succ n ih =>
    intro v1 v2 v3 v4 v6 M h
    unfold w_Model_checkOne_L77 at h
    refine E_blk (lv' := [some (vr (some (11, this))), some (vi v1), some (vi v2), some (vi v3), some (vi v4), none, some (vi v6), none]) (st' := [vr (mR M 11 this 45), vi v6]) (M1 := M) (pc' := 83) (tb_Model hγ) [.iload 6, .aload_n 0, .getfield 522] (by decide +kernel) rfl rfl trivial ?_
    obtain ⟨i77, ei77, h⟩ := h
    rw [ei77]
    obtain ⟨c78, h⟩ := h
    refine E_blk (lv' := [some (vr (some (11, this))), some (vi v1), some (vi v2), some (vi v3), some (vi v4), none, some (vi v6), none]) (st' := [vi (mI M 148 i77 (mI M 11 this 75).toNatClampNeg), vi v6]) (M1 := M) (pc' := 91) (tb_Model hγ) [.getfield 459, .aload_n 0, .getfield 768, .iaload] (by decide +kernel) rfl rfl ⟨c78, trivial⟩ ?_
    refine E_icmp_ge (off := 43) (tgt := 134) (by decide +kernel) (by decide) (fun b79 => ?_) (fun b79 => ?_)
    · rw [if_pos b79] at h
      refine E_blk (lv' := [some (vr (some (11, this))), some (vi v1), some (vi v2), some (vi v3), some (vi v4), none, some (vi v6), none]) (st' := [vr (mR M 11 this 45), vr (some (11, this))]) (M1 := M) (pc' := 139) (tb_Model hγ) [.aload_n 0, .aload_n 0, .getfield 522] (by decide +kernel) rfl rfl trivial ?_
      obtain ⟨i80, ei80, h⟩ := h
      rw [ei80]
      refine E_blk (lv' := [some (vr (some (11, this))), some (vi v1), some (vi v2), some (vi v3), some (vi v4), none, some (vi v6), none]) (st' := [vr (mR M 12 i80 39), vr (some (11, this))]) (M1 := M) (pc' := 142) (tb_Model hγ) [.getfield 704] (by decide +kernel) rfl rfl trivial ?_
      obtain ⟨i81, ei81, h⟩ := h
      rw [ei81]
      obtain ⟨c82, h⟩ := h
      refine E_blk (lv' := [some (vr (some (11, this))), some (vi v1), some (vi v2), some (vi v3), some (vi v4), none, some (vi (0 : Int32)), none]) (st' := []) (M1 := (sI M 11 this 72 (mI M 300 i81 v4.toNatClampNeg))) (pc' := 151) (tb_Model hγ) [.iload 4, .iaload, .putfield 780, .iconst 0, .istore 6] (by decide +kernel) rfl rfl ⟨c82, trivial⟩ ?_
      obtain ⟨n91, h⟩ := h
      refine E_mask [true, true, true, true, true, false, true, false] rfl ?_
      exact lk_Model_checkOne_L151 hγ this Q n91 v1 v2 v3 v4 (0 : Int32) (sI M 11 this 72 (mI M 300 i81 v4.toNatClampNeg)) h
    · rw [if_neg b79] at h
      refine E_blk (lv' := [some (vr (some (11, this))), some (vi v1), some (vi v2), some (vi v3), some (vi v4), none, some (vi v6), none]) (st' := [vr (mR M 11 this 45), vi v6, vi v6, vr (some (111, this))]) (M1 := M) (pc' := 106) (tb_Model hγ) [.aload_n 0, .getfield 305, .iload 6, .iload 6, .aload_n 0, .getfield 522] (by decide +kernel) rfl rfl trivial ?_
      obtain ⟨i92, ei92, h⟩ := h
      rw [ei92]
      refine E_blk (lv' := [some (vr (some (11, this))), some (vi v1), some (vi v2), some (vi v3), some (vi v4), none, some (vi v6), none]) (st' := [vr (mR M 12 i92 38), vi v6, vi v6, vr (some (111, this))]) (M1 := M) (pc' := 109) (tb_Model hγ) [.getfield 701] (by decide +kernel) rfl rfl trivial ?_
      obtain ⟨i93, ei93, h⟩ := h
      rw [ei93]
      obtain ⟨c94, h⟩ := h
      refine E_blk (lv' := [some (vr (some (11, this))), some (vi v1), some (vi v2), some (vi v3), some (vi v4), none, some (vi v6), none]) (st' := [vi (mI M 300 i93 v4.toNatClampNeg), vi v6, vi v6, vr (some (111, this))]) (M1 := M) (pc' := 112) (tb_Model hγ) [.iload 4, .iaload] (by decide +kernel) rfl rfl ⟨c94, trivial⟩ ?_
      refine E_icmp_ge (off := 14) (tgt := 126) (by decide +kernel) (by decide) (fun b95 => ?_) (fun b95 => ?_)
      · rw [if_pos b95] at h
        refine E_blk (lv' := [some (vr (some (11, this))), some (vi v1), some (vi v2), some (vi v3), some (vi v4), none, some (vi v6), none]) (st' := [vi (4 : Int32), vi v6, vr (some (111, this))]) (M1 := M) (pc' := 127) (tb_Model hγ) [.iconst 4] (by decide +kernel) rfl rfl trivial ?_
        refine E_mask [true, true, true, true, true, false, true, false] rfl ?_
        exact lk_Model_checkOne_j127 hγ this Q (w_Model_checkOne_L77 this Q n) ih v1 v2 v3 v4 v6 (4 : Int32) v6 M h
      · rw [if_neg b95] at h
        refine E_blk (lv' := [some (vr (some (11, this))), some (vi v1), some (vi v2), some (vi v3), some (vi v4), none, some (vi v6), none]) (st' := [vi v6, vi v4, vr (some (11, this)), vi v6, vr (some (111, this))]) (M1 := M) (pc' := 120) (tb_Model hγ) [.aload_n 0, .iload 4, .iload 6] (by decide +kernel) rfl rfl trivial ?_
        refine E_callV (κ' := k_Model_frameKind) (As := [vi v4, vi v6]) (st := [vi v6, vr (some (111, this))]) mv_Model_frameKind (Or.inl (tbk_mem (j := 15) (k := 185) rfl)) rfl (by decide +kernel) (Nat.le_of_ble_eq_true rfl) (Nat.le_of_ble_eq_true rfl) rfl (by decide) (lk_Model_frameKind hγ this v4 v6 _ M h) (fun _ _ => Qi_r) (fun v M97 hp => Qi_k (R := fun st => E γ k_Model_checkOne 6 123 [some (vr (some (11, this))), some (vi v1), some (vi v2), some (vi v3), some (vi v4), none, some (vi v6), none] st M97 (Qi Q)) hp (fun r98 h => ?_))
        refine E_goto (off := 4) (tgt := 127) (by decide +kernel) (by decide) ?_
        refine E_mask [true, true, true, true, true, false, true, false] rfl ?_
        exact lk_Model_checkOne_j127 hγ this Q (w_Model_checkOne_L77 this Q n) ih v1 v2 v3 v4 v6 r98 v6 M97 h
set_option maxRecDepth 4096 in
theorem lk_Model_checkOne_j64 {γ : Gm} (hγ : Gk γ) (this : Nat) (Q : Int32 → Mem → Prop) (v1 : Int32) (v2 : Int32) (v3 : Int32) (v4 : Int32) (s0 : Int32) (M : Mem) (h : w_Model_checkOne_j64 this Q v1 v2 v3 v4 s0 M) : E γ k_Model_checkOne 6 64 [some (vr (some (11, this))), some (vi v1), some (vi v2), some (vi v3), some (vi v4), none, none, none] [vi s0] M (Qi Q) := by
  unfold w_Model_checkOne_j64 at h
  refine E_blk (lv' := [some (vr (some (11, this))), some (vi v1), some (vi v2), some (vi v3), some (vi v4), some (vi s0), none, none]) (st' := [vi s0]) (M1 := M) (pc' := 68) (tb_Model hγ) [.istore 5, .iload 5] (by decide +kernel) rfl rfl trivial ?_
  refine E_if_le (off := 6) (tgt := 74) (by decide +kernel) (by decide) (fun b76 => ?_) (fun b76 => ?_)
  · rw [if_pos b76] at h
    refine E_blk (lv' := [some (vr (some (11, this))), some (vi v1), some (vi v2), some (vi v3), some (vi v4), some (vi s0), some (vi (0 : Int32)), none]) (st' := []) (M1 := M) (pc' := 77) (tb_Model hγ) [.iconst 0, .istore 6] (by decide +kernel) rfl rfl trivial ?_
    obtain ⟨n99, h⟩ := h
    refine E_mask [true, true, true, true, true, false, true, false] rfl ?_
    exact lk_Model_checkOne_L77 hγ this Q n99 v1 v2 v3 v4 (0 : Int32) M h
  · rw [if_neg b76] at h
    refine E_blk (lv' := [some (vr (some (11, this))), some (vi v1), some (vi v2), some (vi v3), some (vi v4), some (vi s0), none, none]) (st' := [vi s0]) (M1 := M) (pc' := 73) (tb_Model hγ) [.iload 5] (by decide +kernel) rfl rfl trivial ?_
    exact E_iret rfl (by decide +kernel) h
set_option maxRecDepth 4096 in
theorem lk_Model_checkOne {γ : Gm} (hγ : Gk γ) (this : Nat) (a1 : Int32) (a2 : Int32) (Q : Int32 → Mem → Prop) (M : Mem) (h : w_Model_checkOne this a1 a2 Q M) : E γ k_Model_checkOne 6 0 [some (vr (some (11, this))), some (vi a1), some (vi a2), none, none, none, none, none] [] M (Qi Q) := by
  unfold w_Model_checkOne at h
  refine E_blk (lv' := [some (vr (some (11, this))), some (vi a1), some (vi a2), none, none, none, none, none]) (st' := [vr (mR M 11 this 45)]) (M1 := M) (pc' := 4) (tb_Model hγ) [.aload_n 0, .getfield 522] (by decide +kernel) rfl rfl trivial ?_
  obtain ⟨i1, ei1, h⟩ := h
  rw [ei1]
  obtain ⟨c2, h⟩ := h
  refine E_blk (lv' := [some (vr (some (11, this))), some (vi a1), some (vi a2), some (vi ((mI M 149 i1 (mI M 11 this 75).toNatClampNeg) + a1)), none, none, none, none]) (st' := [vr (mR M 11 this 45)]) (M1 := M) (pc' := 19) (tb_Model hγ) [.getfield 462, .aload_n 0, .getfield 768, .iaload, .iload_n 1, .iadd, .istore_n 3, .aload_n 0, .getfield 522] (by decide +kernel) rfl rfl ⟨c2, trivial⟩ ?_
  obtain ⟨i3, ei3, h⟩ := h
  rw [ei3]
  refine E_blk (lv' := [some (vr (some (11, this))), some (vi a1), some (vi a2), some (vi ((mI M 149 i1 (mI M 11 this 75).toNatClampNeg) + a1)), none, none, none, none]) (st' := [vr (mR M 12 i3 34)]) (M1 := M) (pc' := 22) (tb_Model hγ) [.getfield 686] (by decide +kernel) rfl rfl trivial ?_
  obtain ⟨i4, ei4, h⟩ := h
  rw [ei4]
  obtain ⟨c5, h⟩ := h
  refine E_blk (lv' := [some (vr (some (11, this))), some (vi a1), some (vi a2), some (vi ((mI M 149 i1 (mI M 11 this 75).toNatClampNeg) + a1)), some (vi ((mI M 300 i4 ((mI M 149 i1 (mI M 11 this 75).toNatClampNeg) + a1).toNatClampNeg) - (1 : Int32))), none, none, none]) (st' := []) (M1 := M) (pc' := 28) (tb_Model hγ) [.iload_n 3, .iaload, .iconst 1, .isub, .istore 4] (by decide +kernel) rfl rfl ⟨c5, trivial⟩ ?_
  obtain ⟨x6, ex6, h⟩ := h
  rw [← ex6]
  refine E_blk (lv' := [some (vr (some (11, this))), some (vi a1), some (vi a2), some (vi ((mI M 149 i1 (mI M 11 this 75).toNatClampNeg) + a1)), some (vi x6), none, none, none]) (st' := [vi x6]) (M1 := M) (pc' := 30) (tb_Model hγ) [.iload 4] (by decide +kernel) rfl rfl trivial ?_
  refine E_if_lt (off := 167) (tgt := 197) (by decide +kernel) (by decide) (fun b7 => ?_) (fun b7 => ?_)
  · rw [if_pos b7] at h
    refine E_mask [true, true, true, true, false, false, false, false] rfl ?_
    exact lk_Model_checkOne_j197 hγ this Q a1 a2 ((mI M 149 i1 (mI M 11 this 75).toNatClampNeg) + a1) M h
  · rw [if_neg b7] at h
    refine E_blk (lv' := [some (vr (some (11, this))), some (vi a1), some (vi a2), some (vi ((mI M 149 i1 (mI M 11 this 75).toNatClampNeg) + a1)), some (vi x6), none, none, none]) (st' := [vi x6, vr (some (11, this))]) (M1 := M) (pc' := 36) (tb_Model hγ) [.aload_n 0, .iload 4] (by decide +kernel) rfl rfl trivial ?_
    refine E_callV (κ' := k_Model_isWrongFrame) (As := [vi x6]) (st := []) mv_Model_isWrongFrame (Or.inl (tbk_mem (j := 15) (k := 181) rfl)) rfl (by decide +kernel) (Nat.le_of_ble_eq_true rfl) (Nat.le_of_ble_eq_true rfl) rfl (by decide) (lk_Model_isWrongFrame hγ this x6 _ M h) (fun _ _ => Qi_r) (fun v M72 hp => Qi_k (R := fun st => E γ k_Model_checkOne 6 39 [some (vr (some (11, this))), some (vi a1), some (vi a2), some (vi ((mI M 149 i1 (mI M 11 this 75).toNatClampNeg) + a1)), some (vi x6), none, none, none] st M72 (Qi Q)) hp (fun r73 h => ?_))
    refine E_if_eq (off := 8) (tgt := 47) (by decide +kernel) (by decide) (fun b74 => ?_) (fun b74 => ?_)
    · rw [if_pos b74] at h
      refine E_blk (lv' := [some (vr (some (11, this))), some (vi a1), some (vi a2), some (vi ((mI M 149 i1 (mI M 11 this 75).toNatClampNeg) + a1)), some (vi x6), none, none, none]) (st' := [vi (mI M72 11 this 73)]) (M1 := M72) (pc' := 51) (tb_Model hγ) [.aload_n 0, .getfield 792] (by decide +kernel) rfl rfl trivial ?_
      refine E_if_eq (off := 12) (tgt := 63) (by decide +kernel) (by decide) (fun b75 => ?_) (fun b75 => ?_)
      · rw [if_pos b75] at h
        refine E_blk (lv' := [some (vr (some (11, this))), some (vi a1), some (vi a2), some (vi ((mI M 149 i1 (mI M 11 this 75).toNatClampNeg) + a1)), some (vi x6), none, none, none]) (st' := [vi (0 : Int32)]) (M1 := M72) (pc' := 64) (tb_Model hγ) [.iconst 0] (by decide +kernel) rfl rfl trivial ?_
        refine E_mask [true, true, true, true, true, false, false, false] rfl ?_
        exact lk_Model_checkOne_j64 hγ this Q a1 a2 ((mI M 149 i1 (mI M 11 this 75).toNatClampNeg) + a1) x6 (0 : Int32) M72 h
      · rw [if_neg b75] at h
        refine E_blk (lv' := [some (vr (some (11, this))), some (vi a1), some (vi a2), some (vi ((mI M 149 i1 (mI M 11 this 75).toNatClampNeg) + a1)), some (vi x6), none, none, none]) (st' := [vi x6, vr (some (11, this))]) (M1 := M72) (pc' := 57) (tb_Model hγ) [.aload_n 0, .iload 4] (by decide +kernel) rfl rfl trivial ?_
        refine E_callV (κ' := k_Model_fitState) (As := [vi x6]) (st := []) mv_Model_fitState (Or.inl (tbk_mem (j := 15) (k := 189) rfl)) rfl (by decide +kernel) (Nat.le_of_ble_eq_true rfl) (Nat.le_of_ble_eq_true rfl) rfl (by decide) (lk_Model_fitState hγ this x6 _ M72 h) (fun _ _ => Qi_r) (fun v M100 hp => Qi_k (R := fun st => E γ k_Model_checkOne 6 60 [some (vr (some (11, this))), some (vi a1), some (vi a2), some (vi ((mI M 149 i1 (mI M 11 this 75).toNatClampNeg) + a1)), some (vi x6), none, none, none] st M100 (Qi Q)) hp (fun r101 h => ?_))
        refine E_goto (off := 4) (tgt := 64) (by decide +kernel) (by decide) ?_
        refine E_mask [true, true, true, true, true, false, false, false] rfl ?_
        exact lk_Model_checkOne_j64 hγ this Q a1 a2 ((mI M 149 i1 (mI M 11 this 75).toNatClampNeg) + a1) x6 r101 M100 h
    · rw [if_neg b74] at h
      refine E_blk (lv' := [some (vr (some (11, this))), some (vi a1), some (vi a2), some (vi ((mI M 149 i1 (mI M 11 this 75).toNatClampNeg) + a1)), some (vi x6), none, none, none]) (st' := [vi (38 : Int32)]) (M1 := M72) (pc' := 44) (tb_Model hγ) [.bipush 38] (by decide +kernel) rfl rfl trivial ?_
      refine E_goto (off := 20) (tgt := 64) (by decide +kernel) (by decide) ?_
      refine E_mask [true, true, true, true, true, false, false, false] rfl ?_
      exact lk_Model_checkOne_j64 hγ this Q a1 a2 ((mI M 149 i1 (mI M 11 this 75).toNatClampNeg) + a1) x6 (38 : Int32) M72 h
def w_Model_check_j57 (this : Nat) (Q : Int32 → Mem → Prop) (k22 : Int32 → Int32 → Mem → Prop) (v2 : Int32) (v3 : Int32) (s0 : Int32) (s1 : Int32) (M : Mem) : Prop :=
  w_Model_checkOne this s1 s0 (fun r12 M11 => if r12 ≤ 0 then (k22 v2 (v3 + (1 : Int32)) M11) else (Q r12 (sI M11 11 this 74 v3))) M
def w_Model_check_L22 (this : Nat) (Q : Int32 → Mem → Prop) : Nat → Int32 → Int32 → Mem → Prop
  | 0, _, _, _ => False
  | n + 1, v2, v3, M => ∃ i5, (mR M 11 this 45) = some (12, i5) ∧ vp_in v2 (mL M 150 i5) ∧ if (mI M 150 i5 v2.toNatClampNeg) ≤ v3 then (Q (0 : Int32) M) else (∃ i8, (mR M 11 this 45) = some (12, i8) ∧ vp_in v2 (mL M 150 i8) ∧ if v3 = ((mI M 150 i8 v2.toNatClampNeg) - (1 : Int32)) then (w_Model_check_j57 this Q (w_Model_check_L22 this Q n) v2 v3 (1 : Int32) v3 M) else (w_Model_check_j57 this Q (w_Model_check_L22 this Q n) v2 v3 (0 : Int32) v3 M))
def w_Model_check (this : Nat) (a1 : Int32) (a2 : Int32) (Q : Int32 → Mem → Prop) (M : Mem) : Prop :=
  ∃ i1, (mR M 11 this 45) = some (12, i1) ∧ vp_in a2 (mL M 150 i1) ∧ if (mI M 150 i1 a2.toNatClampNeg) = 0 then (Q (0 : Int32) M) else (w_Model_begin this a1 a2 (fun M4 => ∃ n14 : Nat, w_Model_check_L22 this Q n14 a2 (0 : Int32) M4) M)
set_option maxRecDepth 4096 in
theorem lk_Model_check_j57 {γ : Gm} (hγ : Gk γ) (this : Nat) (Q : Int32 → Mem → Prop) (k22 : Int32 → Int32 → Mem → Prop) (hk22 : ∀ (v2 : Int32) (v3 : Int32) (M : Mem), k22 v2 v3 M → E γ k_Model_check 7 22 [some (vr (some (11, this))), none, some (vi v2), some (vi v3), none] [] M (Qi Q)) (v2 : Int32) (v3 : Int32) (s0 : Int32) (s1 : Int32) (M : Mem) (h : w_Model_check_j57 this Q k22 v2 v3 s0 s1 M) : E γ k_Model_check 7 57 [some (vr (some (11, this))), none, some (vi v2), some (vi v3), none] [vi s0, vi s1, vr (some (11, this))] M (Qi Q) := by
  unfold w_Model_check_j57 at h
  refine E_callV (κ' := k_Model_checkOne) (As := [vi s1, vi s0]) (st := []) mv_Model_checkOne (Or.inl (tbk_mem (j := 15) (k := 177) rfl)) rfl (by decide +kernel) (Nat.le_of_ble_eq_true rfl) (Nat.le_of_ble_eq_true rfl) rfl (by decide) (lk_Model_checkOne hγ this s1 s0 _ M h) (fun _ _ => Qi_r) (fun v M11 hp => Qi_k (R := fun st => E γ k_Model_check 7 60 [some (vr (some (11, this))), none, some (vi v2), some (vi v3), none] st M11 (Qi Q)) hp (fun r12 h => ?_))
  refine E_blk (lv' := [some (vr (some (11, this))), none, some (vi v2), some (vi v3), some (vi r12)]) (st' := [vi r12]) (M1 := M11) (pc' := 64) (tb_Model hγ) [.istore 4, .iload 4] (by decide +kernel) rfl rfl trivial ?_
  refine E_if_le (off := 11) (tgt := 75) (by decide +kernel) (by decide) (fun b13 => ?_) (fun b13 => ?_)
  · rw [if_pos b13] at h
    refine E_blk (lv' := [some (vr (some (11, this))), none, some (vi v2), some (vi (v3 + (1 : Int32))), some (vi r12)]) (st' := []) (M1 := M11) (pc' := 78) (tb_Model hγ) [.iinc 3 1] (by decide +kernel) rfl rfl trivial ?_
    refine E_goto (off := -56) (tgt := 22) (by decide +kernel) (by decide) ?_
    refine E_mask [true, false, true, true, false] rfl ?_
    exact hk22 v2 (v3 + (1 : Int32)) M11 h
  · rw [if_neg b13] at h
    refine E_blk (lv' := [some (vr (some (11, this))), none, some (vi v2), some (vi v3), some (vi r12)]) (st' := [vi r12]) (M1 := (sI M11 11 this 74 v3)) (pc' := 74) (tb_Model hγ) [.aload_n 0, .iload_n 3, .putfield 759, .iload 4] (by decide +kernel) rfl rfl trivial ?_
    exact E_iret rfl (by decide +kernel) h
set_option maxRecDepth 4096 in
theorem lk_Model_check_L22 {γ : Gm} (hγ : Gk γ) (this : Nat) (Q : Int32 → Mem → Prop) : ∀ (n : Nat) (v2 : Int32) (v3 : Int32) (M : Mem), w_Model_check_L22 this Q n v2 v3 M → E γ k_Model_check 7 22 [some (vr (some (11, this))), none, some (vi v2), some (vi v3), none] [] M (Qi Q) := by
  intro n
  induction n with
  | zero => intro v2 v3 M h; exact h.elim
  | succ n ih =>
    intro v2 v3 M h
    unfold w_Model_check_L22 at h
    refine E_blk (lv' := [some (vr (some (11, this))), none, some (vi v2), some (vi v3), none]) (st' := [vr (mR M 11 this 45), vi v3]) (M1 := M) (pc' := 27) (tb_Model hγ) [.iload_n 3, .aload_n 0, .getfield 522] (by decide +kernel) rfl rfl trivial ?_
    obtain ⟨i5, ei5, h⟩ := h
    rw [ei5]
    obtain ⟨c6, h⟩ := h
    refine E_blk (lv' := [some (vr (some (11, this))), none, some (vi v2), some (vi v3), none]) (st' := [vi (mI M 150 i5 v2.toNatClampNeg), vi v3]) (M1 := M) (pc' := 32) (tb_Model hγ) [.getfield 465, .iload_n 2, .iaload] (by decide +kernel) rfl rfl ⟨c6, trivial⟩ ?_
    refine E_icmp_ge (off := 49) (tgt := 81) (by decide +kernel) (by decide) (fun b7 => ?_) (fun b7 => ?_)
    · rw [if_pos b7] at h
      refine E_blk (lv' := [some (vr (some (11, this))), none, some (vi v2), some (vi v3), none]) (st' := [vi (0 : Int32)]) (M1 := M) (pc' := 82) (tb_Model hγ) [.iconst 0] (by decide +kernel) rfl rfl trivial ?_
      exact E_iret rfl (by decide +kernel) h
    · rw [if_neg b7] at h
      refine E_blk (lv' := [some (vr (some (11, this))), none, some (vi v2), some (vi v3), none]) (st' := [vr (mR M 11 this 45), vi v3, vi v3, vr (some (11, this))]) (M1 := M) (pc' := 42) (tb_Model hγ) [.aload_n 0, .iload_n 3, .iload_n 3, .aload_n 0, .getfield 522] (by decide +kernel) rfl rfl trivial ?_
      obtain ⟨i8, ei8, h⟩ := h
      rw [ei8]
      obtain ⟨c9, h⟩ := h
      refine E_blk (lv' := [some (vr (some (11, this))), none, some (vi v2), some (vi v3), none]) (st' := [vi ((mI M 150 i8 v2.toNatClampNeg) - (1 : Int32)), vi v3, vi v3, vr (some (11, this))]) (M1 := M) (pc' := 49) (tb_Model hγ) [.getfield 465, .iload_n 2, .iaload, .iconst 1, .isub] (by decide +kernel) rfl rfl ⟨c9, trivial⟩ ?_
      refine E_icmp_ne (off := 7) (tgt := 56) (by decide +kernel) (by decide) (fun b10 => ?_) (fun b10 => ?_)
      · rw [if_pos b10] at h
        refine E_blk (lv' := [some (vr (some (11, this))), none, some (vi v2), some (vi v3), none]) (st' := [vi (1 : Int32), vi v3, vr (some (11, this))]) (M1 := M) (pc' := 53) (tb_Model hγ) [.iconst 1] (by decide +kernel) rfl rfl trivial ?_
        refine E_goto (off := 4) (tgt := 57) (by decide +kernel) (by decide) ?_
        refine E_mask [true, false, true, true, false] rfl ?_
        exact lk_Model_check_j57 hγ this Q (w_Model_check_L22 this Q n) ih v2 v3 (1 : Int32) v3 M h
      · rw [if_neg b10] at h
        refine E_blk (lv' := [some (vr (some (11, this))), none, some (vi v2), some (vi v3), none]) (st' := [vi (0 : Int32), vi v3, vr (some (11, this))]) (M1 := M) (pc' := 57) (tb_Model hγ) [.iconst 0] (by decide +kernel) rfl rfl trivial ?_
        refine E_mask [true, false, true, true, false] rfl ?_
        exact lk_Model_check_j57 hγ this Q (w_Model_check_L22 this Q n) ih v2 v3 (0 : Int32) v3 M h
set_option maxRecDepth 4096 in
theorem lk_Model_check {γ : Gm} (hγ : Gk γ) (this : Nat) (a1 : Int32) (a2 : Int32) (Q : Int32 → Mem → Prop) (M : Mem) (h : w_Model_check this a1 a2 Q M) : E γ k_Model_check 7 0 [some (vr (some (11, this))), some (vi a1), some (vi a2), none, none] [] M (Qi Q) := by
  unfold w_Model_check at h
  refine E_blk (lv' := [some (vr (some (11, this))), some (vi a1), some (vi a2), none, none]) (st' := [vr (mR M 11 this 45)]) (M1 := M) (pc' := 4) (tb_Model hγ) [.aload_n 0, .getfield 522] (by decide +kernel) rfl rfl trivial ?_
  obtain ⟨i1, ei1, h⟩ := h
  rw [ei1]
  obtain ⟨c2, h⟩ := h
  refine E_blk (lv' := [some (vr (some (11, this))), some (vi a1), some (vi a2), none, none]) (st' := [vi (mI M 150 i1 a2.toNatClampNeg)]) (M1 := M) (pc' := 9) (tb_Model hγ) [.getfield 465, .iload_n 2, .iaload] (by decide +kernel) rfl rfl ⟨c2, trivial⟩ ?_
  refine E_if_ne (off := 5) (tgt := 14) (by decide +kernel) (by decide) (fun b3 => ?_) (fun b3 => ?_)
  · rw [if_pos b3] at h
    refine E_blk (lv' := [some (vr (some (11, this))), some (vi a1), some (vi a2), none, none]) (st' := [vi (0 : Int32)]) (M1 := M) (pc' := 13) (tb_Model hγ) [.iconst 0] (by decide +kernel) rfl rfl trivial ?_
    exact E_iret rfl (by decide +kernel) h
  · rw [if_neg b3] at h
    refine E_blk (lv' := [some (vr (some (11, this))), some (vi a1), some (vi a2), none, none]) (st' := [vi a2, vi a1, vr (some (11, this))]) (M1 := M) (pc' := 17) (tb_Model hγ) [.aload_n 0, .iload_n 1, .iload_n 2] (by decide +kernel) rfl rfl trivial ?_
    refine E_callV (κ' := k_Model_begin) (As := [vi a1, vi a2]) (st := []) mv_Model_begin (Or.inl (tbk_mem (j := 15) (k := 173) rfl)) rfl (by decide +kernel) (Nat.le_of_ble_eq_true rfl) (Nat.le_of_ble_eq_true rfl) rfl (by decide) (lk_Model_begin hγ this a1 a2 _ M h) (fun _ _ => Qv_r) (fun v M4 hp => Qv_k (R := fun st => E γ k_Model_check 7 20 [some (vr (some (11, this))), some (vi a1), some (vi a2), none, none] st M4 (Qi Q)) hp (fun h => ?_))
    refine E_blk (lv' := [some (vr (some (11, this))), some (vi a1), some (vi a2), some (vi (0 : Int32)), none]) (st' := []) (M1 := M4) (pc' := 22) (tb_Model hγ) [.iconst 0, .istore_n 3] (by decide +kernel) rfl rfl trivial ?_
    obtain ⟨n14, h⟩ := h
    refine E_mask [true, false, true, true, false] rfl ?_
    exact lk_Model_check_L22 hγ this Q n14 a2 (0 : Int32) M4 h
def wk_Model_linkCode_L395 (K : Nat → Int32 → (Int32 → Mem → Prop) → Mem → Prop) (this : Nat) (Q : Int32 → Mem → Prop) : Nat → Int32 → Int32 → Mem → Prop
  | 0, _, _, _ => False
  | n + 1, v1, v3, M => ∃ i31, (mR M 11 this 45) = some (12, i31) ∧ vp_in v1 (mL M 136 i31) ∧ if (mI M 136 i31 v1.toNatClampNeg) ≤ v3 then (Q (0 : Int32) M) else (w_Model_check this v1 (((12 : Int32) * v1) + v3) (fun r35 M34 => if r35 ≤ 0 then ((wk_Model_linkCode_L395 K this Q n) v1 (v3 + (1 : Int32)) M34) else (∃ i37, (mR M34 11 this 45) = some (12, i37) ∧ vp_in (0 : Int32) (mL M34 156 i37) ∧ ∃ i39, (mR (sI M34 156 i37 (0 : Int32).toNatClampNeg v1) 11 this 45) = some (12, i39) ∧ vp_in (1 : Int32) (mL (sI M34 156 i37 (0 : Int32).toNatClampNeg v1) 156 i39) ∧ ∃ M41, M41 = (sI (sI M34 156 i37 (0 : Int32).toNatClampNeg v1) 156 i39 (1 : Int32).toNatClampNeg v3) ∧ ∃ i42, (mR M41 11 this 45) = some (12, i42) ∧ vp_in (2 : Int32) (mL M41 156 i42) ∧ Q (((100 : Int32) * r35) + (17 : Int32)) (sI M41 156 i42 (2 : Int32).toNatClampNeg (mI M41 11 this 74)))) M)
def wk_Model_linkCode_j387 (K : Nat → Int32 → (Int32 → Mem → Prop) → Mem → Prop) (this : Nat) (Q : Int32 → Mem → Prop) (k220 : Int32 → Int32 → Mem → Prop) (v1 : Int32) (v3 : Int32) (M : Mem) : Prop :=
  k220 v1 (v3 + (1 : Int32)) M
def wk_Model_linkCode_j376 (K : Nat → Int32 → (Int32 → Mem → Prop) → Mem → Prop) (this : Nat) (Q : Int32 → Mem → Prop) (k220 : Int32 → Int32 → Mem → Prop) (k304 : Int32 → Int32 → Int32 → Int32 → Int32 → Mem → Prop) (v1 : Int32) (v3 : Int32) (v4 : Int32) (v5 : Int32) (v6 : Int32) (M : Mem) : Prop :=
  w_Model_parentOf this v6 (fun r63 M62 => k304 v1 v3 v4 v5 r63 M62) M
def wk_Model_linkCode_L304 (K : Nat → Int32 → (Int32 → Mem → Prop) → Mem → Prop) (this : Nat) (Q : Int32 → Mem → Prop) (k220 : Int32 → Int32 → Mem → Prop) : Nat → Int32 → Int32 → Int32 → Int32 → Int32 → Mem → Prop
  | 0, _, _, _, _, _, _ => False
  | n + 1, v1, v3, v4, v5, v6, M => if v5 = 0 then (wk_Model_linkCode_j387 K this Q k220 v1 v3 M) else (w_Model_isOff this (4 : Int32) (fun r52 M51 => if r52 = 0 then (if v6 < 0 then (wk_Model_linkCode_j387 K this Q k220 v1 v3 M51) else (∃ i55, (mR M51 11 this 45) = some (12, i55) ∧ vp_in v4 (mL M51 144 i55) ∧ ∃ i57, (mR M51 11 this 45) = some (12, i57) ∧ vp_in v4 (mL M51 145 i57) ∧ w_Model_methodIn this v6 (mI M51 144 i55 v4.toNatClampNeg) (mI M51 145 i57 v4.toNatClampNeg) (fun r60 M59 => if r60 < 0 then (wk_Model_linkCode_j376 K this Q k220 (wk_Model_linkCode_L304 K this Q k220 n) v1 v3 v4 v5 v6 M59) else (∃ i64, (mR M59 11 this 45) = some (12, i64) ∧ vp_in r60 (mL M59 146 i64) ∧ if ((mI M59 146 i64 r60.toNatClampNeg) &&& (7 : Int32)) = (2 : Int32) then (Q (2515 : Int32) M59) else (wk_Model_linkCode_j376 K this Q k220 (wk_Model_linkCode_L304 K this Q k220 n) v1 v3 v4 v5 v6 M59))) M51)) else (wk_Model_linkCode_j387 K this Q k220 v1 v3 M51)) M)
def wk_Model_linkCode_j295 (K : Nat → Int32 → (Int32 → Mem → Prop) → Mem → Prop) (this : Nat) (Q : Int32 → Mem → Prop) (k220 : Int32 → Int32 → Mem → Prop) (v1 : Int32) (v3 : Int32) (v4 : Int32) (s0 : Int32) (M : Mem) : Prop :=
  w_Model_parentOf this v1 (fun r49 M48 => ∃ n67 : Nat, wk_Model_linkCode_L304 K this Q k220 n67 v1 v3 v4 s0 r49 M48) M
def wk_Model_linkCode_j294 (K : Nat → Int32 → (Int32 → Mem → Prop) → Mem → Prop) (this : Nat) (Q : Int32 → Mem → Prop) (k220 : Int32 → Int32 → Mem → Prop) (v1 : Int32) (v3 : Int32) (v4 : Int32) (M : Mem) : Prop :=
  wk_Model_linkCode_j295 K this Q k220 v1 v3 v4 (0 : Int32) M
def wk_Model_linkCode_L220 (K : Nat → Int32 → (Int32 → Mem → Prop) → Mem → Prop) (this : Nat) (Q : Int32 → Mem → Prop) : Nat → Int32 → Int32 → Mem → Prop
  | 0, _, _, _ => False
  | n + 1, v1, v3, M => ∃ i28, (mR M 11 this 45) = some (12, i28) ∧ vp_in v1 (mL M 136 i28) ∧ if (mI M 136 i28 v1.toNatClampNeg) ≤ v3 then (∃ n44 : Nat, wk_Model_linkCode_L395 K this Q n44 v1 (0 : Int32) M) else (∃ i45, (mR M 11 this 45) = some (12, i45) ∧ vp_in (((12 : Int32) * v1) + v3) (mL M 144 i45) ∧ if (mI M 144 i45 (((12 : Int32) * v1) + v3).toNatClampNeg) = (mI M 11 this 6) then (wk_Model_linkCode_j294 K this Q (wk_Model_linkCode_L220 K this Q n) v1 v3 (((12 : Int32) * v1) + v3) M) else (∃ i68, (mR M 11 this 45) = some (12, i68) ∧ vp_in (((12 : Int32) * v1) + v3) (mL M 144 i68) ∧ if (mI M 144 i68 (((12 : Int32) * v1) + v3).toNatClampNeg) = (mI M 11 this 7) then (wk_Model_linkCode_j294 K this Q (wk_Model_linkCode_L220 K this Q n) v1 v3 (((12 : Int32) * v1) + v3) M) else (∃ i71, (mR M 11 this 45) = some (12, i71) ∧ vp_in (((12 : Int32) * v1) + v3) (mL M 146 i71) ∧ if ((mI M 146 i71 (((12 : Int32) * v1) + v3).toNatClampNeg) &&& (5 : Int32)) = 0 then (wk_Model_linkCode_j295 K this Q (wk_Model_linkCode_L220 K this Q n) v1 v3 (((12 : Int32) * v1) + v3) (1 : Int32) M) else (wk_Model_linkCode_j294 K this Q (wk_Model_linkCode_L220 K this Q n) v1 v3 (((12 : Int32) * v1) + v3) M))))
def wk_Model_linkCode_L160 (K : Nat → Int32 → (Int32 → Mem → Prop) → Mem → Prop) (this : Nat) (Q : Int32 → Mem → Prop) : Nat → Int32 → Int32 → Mem → Prop
  | 0, _, _, _ => False
  | n + 1, v1, v3, M => ∃ i25, (mR M 11 this 45) = some (12, i25) ∧ vp_in v1 (mL M 134 i25) ∧ if (mI M 134 i25 v1.toNatClampNeg) ≤ v3 then (∃ n74 : Nat, wk_Model_linkCode_L220 K this Q n74 v1 (0 : Int32) M) else (∃ i75, (mR M 11 this 45) = some (12, i75) ∧ vp_in (((4 : Int32) * v1) + v3) (mL M 133 i75) ∧ w_Model_classOf this (mI M 133 i75 (((4 : Int32) * v1) + v3).toNatClampNeg) (fun r78 M77 => K this r78 (fun r80 M79 => if r80 = 0 then (∃ i82, (mR M79 11 this 45) = some (12, i82) ∧ vp_in r78 (mL M79 138 i82) ∧ Q (mI M79 138 i82 r78.toNatClampNeg) M79) else ((wk_Model_linkCode_L160 K this Q n) v1 (v3 + (1 : Int32)) M79)) M77) M)
def wk_Model_linkCode_L74 (K : Nat → Int32 → (Int32 → Mem → Prop) → Mem → Prop) (this : Nat) (Q : Int32 → Mem → Prop) : Nat → Int32 → Int32 → Int32 → Mem → Prop
  | 0, _, _, _, _ => False
  | n + 1, v1, v2, v3, M => ∃ i17, (mR M 11 this 45) = some (12, i17) ∧ vp_in v1 (mL M 134 i17) ∧ if (mI M 134 i17 v1.toNatClampNeg) ≤ v3 then (K this v2 (fun r21 M20 => if r21 = 0 then (∃ i23, (mR M20 11 this 45) = some (12, i23) ∧ vp_in v2 (mL M20 138 i23) ∧ Q (mI M20 138 i23 v2.toNatClampNeg) M20) else (∃ n84 : Nat, wk_Model_linkCode_L160 K this Q n84 v1 (0 : Int32) M20)) M) else (∃ i85, (mR M 11 this 45) = some (12, i85) ∧ vp_in (((4 : Int32) * v1) + v3) (mL M 133 i85) ∧ w_Model_classOf this (mI M 133 i85 (((4 : Int32) * v1) + v3).toNatClampNeg) (fun r88 M87 => if 0 ≤ r88 then (∃ i90, (mR M87 11 this 45) = some (12, i90) ∧ vp_in r88 (mL M87 132 i90) ∧ if ((mI M87 132 i90 r88.toNatClampNeg) &&& (4 : Int32)) = 0 then (Q (2315 : Int32) M87) else ((wk_Model_linkCode_L74 K this Q n) v1 v2 (v3 + (1 : Int32)) M87)) else (Q (2211 : Int32) M87)) M)
def wk_Model_linkCode_j72 (K : Nat → Int32 → (Int32 → Mem → Prop) → Mem → Prop) (this : Nat) (Q : Int32 → Mem → Prop) (v1 : Int32) (v2 : Int32) (M : Mem) : Prop :=
  ∃ n93 : Nat, wk_Model_linkCode_L74 K this Q n93 v1 v2 (0 : Int32) M
def wk_Model_linkCode (K : Nat → Int32 → (Int32 → Mem → Prop) → Mem → Prop) (this : Nat) (a1 : Int32) (Q : Int32 → Mem → Prop) (M : Mem) : Prop :=
  w_Model_directs this a1 (1 : Int32) (fun r2 M1 => w_Model_upFrom this r2 (1 : Int32) (fun r4 M3 => if (lg_cmp ((r4 >>> (a1.toInt64 &&& 63)) &&& (1 : Int64)) (1 : Int64)) = 0 then (Q (2416 : Int32) M3) else (∃ i6, (mR M3 11 this 45) = some (12, i6) ∧ vp_in a1 (mL M3 131 i6) ∧ w_Model_classOf this (mI M3 131 i6 a1.toNatClampNeg) (fun r9 M8 => if 0 ≤ r9 then (w_Model_isOff this (3 : Int32) (fun r12 M11 => if r12 = 0 then (∃ i14, (mR M11 11 this 45) = some (12, i14) ∧ vp_in r9 (mL M11 132 i14) ∧ if ((mI M11 132 i14 r9.toNatClampNeg) &&& (5 : Int32)) = 0 then (wk_Model_linkCode_j72 K this Q a1 r9 M11) else (Q (2115 : Int32) M11)) else (wk_Model_linkCode_j72 K this Q a1 r9 M11)) M8) else (Q (2011 : Int32) M8)) M3)) M1) M
set_option maxRecDepth 4096 in
theorem lkk_Model_linkCode_L395 {γ : Gm} (hγ : Gk γ) {d0 d : Nat} (K : Nat → Int32 → (Int32 → Mem → Prop) → Mem → Prop) (hK : ∀ (this : Nat) (a1 : Int32) (Q : Int32 → Mem → Prop) (M : Mem), K this a1 Q M → ∀ d, d0 ≤ d → E γ k_Model_isLinked d 0 [some (vr (some (11, this))), some (vi a1), none] [] M (Qi Q)) (hd : d0 ≤ d) (hb : 8 ≤ d) (this : Nat) (Q : Int32 → Mem → Prop) : ∀ (n : Nat) (v1 : Int32) (v3 : Int32) (M : Mem), wk_Model_linkCode_L395 K this Q n v1 v3 M → E γ k_Model_linkCode (d + 1) 395 [some (vr (some (11, this))), some (vi v1), none, some (vi v3), none, none, none, none] [] M (Qi Q) := by
  intro n
  induction n with
  | zero => intro v1 v3 M h; exact h.elim
  | succ n ih =>
    intro v1 v3 M h
    unfold wk_Model_linkCode_L395 at h
    refine E_blk (lv' := [some (vr (some (11, this))), some (vi v1), none, some (vi v3), none, none, none, none]) (st' := [vr (mR M 11 this 45), vi v3]) (M1 := M) (pc' := 400) (tb_Model hγ) [.iload_n 3, .aload_n 0, .getfield 522] (by decide +kernel) rfl rfl trivial ?_
    obtain ⟨i31, ei31, h⟩ := h
    rw [ei31]
    obtain ⟨c32, h⟩ := h
    refine E_blk (lv' := [some (vr (some (11, this))), some (vi v1), none, some (vi v3), none, none, none, none]) (st' := [vi (mI M 136 i31 v1.toNatClampNeg), vi v3]) (M1 := M) (pc' := 405) (tb_Model hγ) [.getfield 438, .iload_n 1, .iaload] (by decide +kernel) rfl rfl ⟨c32, trivial⟩ ?_
    refine E_icmp_ge (off := 69) (tgt := 474) (by decide +kernel) (by decide) (fun b33 => ?_) (fun b33 => ?_)
    · rw [if_pos b33] at h
      refine E_blk (lv' := [some (vr (some (11, this))), some (vi v1), none, some (vi v3), none, none, none, none]) (st' := [vi (0 : Int32)]) (M1 := M) (pc' := 475) (tb_Model hγ) [.iconst 0] (by decide +kernel) rfl rfl trivial ?_
      exact E_iret rfl (by decide +kernel) h
    · rw [if_neg b33] at h
      refine E_blk (lv' := [some (vr (some (11, this))), some (vi v1), none, some (vi v3), none, none, none, none]) (st' := [vi (((12 : Int32) * v1) + v3), vi v1, vr (some (11, this))]) (M1 := M) (pc' := 416) (tb_Model hγ) [.aload_n 0, .iload_n 1, .bipush 12, .iload_n 1, .imul, .iload_n 3, .iadd] (by decide +kernel) rfl rfl trivial ?_
      refine E_callV (κ' := k_Model_check) (As := [vi v1, vi (((12 : Int32) * v1) + v3)]) (st := []) mv_Model_check (Or.inl (tbk_mem (j := 15) (k := 169) rfl)) rfl (by decide +kernel) (Nat.le_of_ble_eq_true rfl) (Nat.le_of_ble_eq_true rfl) rfl (by omega) (lk_Model_check hγ this v1 (((12 : Int32) * v1) + v3) _ M h) (fun _ _ => Qi_r) (fun v M34 hp => Qi_k (R := fun st => E γ k_Model_linkCode (d + 1) 419 [some (vr (some (11, this))), some (vi v1), none, some (vi v3), none, none, none, none] st M34 (Qi Q)) hp (fun r35 h => ?_))
      refine E_blk (lv' := [some (vr (some (11, this))), some (vi v1), none, some (vi v3), some (vi r35), none, none, none]) (st' := [vi r35]) (M1 := M34) (pc' := 423) (tb_Model hγ) [.istore 4, .iload 4] (by decide +kernel) rfl rfl trivial ?_
      refine E_if_le (off := 45) (tgt := 468) (by decide +kernel) (by decide) (fun b36 => ?_) (fun b36 => ?_)
      · rw [if_pos b36] at h
        refine E_blk (lv' := [some (vr (some (11, this))), some (vi v1), none, some (vi (v3 + (1 : Int32))), some (vi r35), none, none, none]) (st' := []) (M1 := M34) (pc' := 471) (tb_Model hγ) [.iinc 3 1] (by decide +kernel) rfl rfl trivial ?_
        refine E_goto (off := -76) (tgt := 395) (by decide +kernel) (by decide) ?_
        refine E_mask [true, true, false, true, false, false, false, false] rfl ?_
        exact ih v1 (v3 + (1 : Int32)) M34 h
      · rw [if_neg b36] at h
        refine E_blk (lv' := [some (vr (some (11, this))), some (vi v1), none, some (vi v3), some (vi r35), none, none, none]) (st' := [vr (mR M34 11 this 45)]) (M1 := M34) (pc' := 430) (tb_Model hγ) [.aload_n 0, .getfield 522] (by decide +kernel) rfl rfl trivial ?_
        obtain ⟨i37, ei37, h⟩ := h
        rw [ei37]
        obtain ⟨c38, h⟩ := h
        refine E_blk (lv' := [some (vr (some (11, this))), some (vi v1), none, some (vi v3), some (vi r35), none, none, none]) (st' := [vr (mR (sI M34 156 i37 (0 : Int32).toNatClampNeg v1) 11 this 45)]) (M1 := (sI M34 156 i37 (0 : Int32).toNatClampNeg v1)) (pc' := 440) (tb_Model hγ) [.getfield 483, .iconst 0, .iload_n 1, .iastore, .aload_n 0, .getfield 522] (by decide +kernel) rfl rfl ⟨c38, trivial⟩ ?_
        obtain ⟨i39, ei39, h⟩ := h
        rw [ei39]
        obtain ⟨c40, h⟩ := h
        refine E_blk (lv' := [some (vr (some (11, this))), some (vi v1), none, some (vi v3), some (vi r35), none, none, none]) (st' := []) (M1 := (sI (sI M34 156 i37 (0 : Int32).toNatClampNeg v1) 156 i39 (1 : Int32).toNatClampNeg v3)) (pc' := 446) (tb_Model hγ) [.getfield 483, .iconst 1, .iload_n 3, .iastore] (by decide +kernel) rfl rfl ⟨c40, trivial⟩ ?_
        obtain ⟨M41, eM41, h⟩ := h
        rw [← eM41]
        refine E_blk (lv' := [some (vr (some (11, this))), some (vi v1), none, some (vi v3), some (vi r35), none, none, none]) (st' := [vr (mR M41 11 this 45)]) (M1 := M41) (pc' := 450) (tb_Model hγ) [.aload_n 0, .getfield 522] (by decide +kernel) rfl rfl trivial ?_
        obtain ⟨i42, ei42, h⟩ := h
        rw [ei42]
        obtain ⟨c43, h⟩ := h
        refine E_blk (lv' := [some (vr (some (11, this))), some (vi v1), none, some (vi v3), some (vi r35), none, none, none]) (st' := [vi (((100 : Int32) * r35) + (17 : Int32))]) (M1 := (sI M41 156 i42 (2 : Int32).toNatClampNeg (mI M41 11 this 74))) (pc' := 467) (tb_Model hγ) [.getfield 483, .iconst 2, .aload_n 0, .getfield 759, .iastore, .bipush 100, .iload 4, .imul, .bipush 17, .iadd] (by decide +kernel) rfl rfl ⟨c43, trivial⟩ ?_
        exact E_iret rfl (by decide +kernel) h
set_option maxRecDepth 4096 in
theorem lkk_Model_linkCode_j387 {γ : Gm} (hγ : Gk γ) {d0 d : Nat} (K : Nat → Int32 → (Int32 → Mem → Prop) → Mem → Prop) (hK : ∀ (this : Nat) (a1 : Int32) (Q : Int32 → Mem → Prop) (M : Mem), K this a1 Q M → ∀ d, d0 ≤ d → E γ k_Model_isLinked d 0 [some (vr (some (11, this))), some (vi a1), none] [] M (Qi Q)) (hd : d0 ≤ d) (hb : 8 ≤ d) (this : Nat) (Q : Int32 → Mem → Prop) (k220 : Int32 → Int32 → Mem → Prop) (hk220 : ∀ (v1 : Int32) (v3 : Int32) (M : Mem), k220 v1 v3 M → E γ k_Model_linkCode (d + 1) 220 [some (vr (some (11, this))), some (vi v1), none, some (vi v3), none, none, none, none] [] M (Qi Q)) (v1 : Int32) (v3 : Int32) (M : Mem) (h : wk_Model_linkCode_j387 K this Q k220 v1 v3 M) : E γ k_Model_linkCode (d + 1) 387 [some (vr (some (11, this))), some (vi v1), none, some (vi v3), none, none, none, none] [] M (Qi Q) := by
  unfold wk_Model_linkCode_j387 at h
  refine E_blk (lv' := [some (vr (some (11, this))), some (vi v1), none, some (vi (v3 + (1 : Int32))), none, none, none, none]) (st' := []) (M1 := M) (pc' := 390) (tb_Model hγ) [.iinc 3 1] (by decide +kernel) rfl rfl trivial ?_
  refine E_goto (off := -170) (tgt := 220) (by decide +kernel) (by decide) ?_
  refine E_mask [true, true, false, true, false, false, false, false] rfl ?_
  exact hk220 v1 (v3 + (1 : Int32)) M h
set_option maxRecDepth 4096 in
theorem lkk_Model_linkCode_j376 {γ : Gm} (hγ : Gk γ) {d0 d : Nat} (K : Nat → Int32 → (Int32 → Mem → Prop) → Mem → Prop) (hK : ∀ (this : Nat) (a1 : Int32) (Q : Int32 → Mem → Prop) (M : Mem), K this a1 Q M → ∀ d, d0 ≤ d → E γ k_Model_isLinked d 0 [some (vr (some (11, this))), some (vi a1), none] [] M (Qi Q)) (hd : d0 ≤ d) (hb : 8 ≤ d) (this : Nat) (Q : Int32 → Mem → Prop) (k220 : Int32 → Int32 → Mem → Prop) (k304 : Int32 → Int32 → Int32 → Int32 → Int32 → Mem → Prop) (hk220 : ∀ (v1 : Int32) (v3 : Int32) (M : Mem), k220 v1 v3 M → E γ k_Model_linkCode (d + 1) 220 [some (vr (some (11, this))), some (vi v1), none, some (vi v3), none, none, none, none] [] M (Qi Q)) (hk304 : ∀ (v1 : Int32) (v3 : Int32) (v4 : Int32) (v5 : Int32) (v6 : Int32) (M : Mem), k304 v1 v3 v4 v5 v6 M → E γ k_Model_linkCode (d + 1) 304 [some (vr (some (11, this))), some (vi v1), none, some (vi v3), some (vi v4), some (vi v5), some (vi v6), none] [] M (Qi Q)) (v1 : Int32) (v3 : Int32) (v4 : Int32) (v5 : Int32) (v6 : Int32) (M : Mem) (h : wk_Model_linkCode_j376 K this Q k220 k304 v1 v3 v4 v5 v6 M) : E γ k_Model_linkCode (d + 1) 376 [some (vr (some (11, this))), some (vi v1), none, some (vi v3), some (vi v4), some (vi v5), some (vi v6), none] [] M (Qi Q) := by
  unfold wk_Model_linkCode_j376 at h
  refine E_blk (lv' := [some (vr (some (11, this))), some (vi v1), none, some (vi v3), some (vi v4), some (vi v5), some (vi v6), none]) (st' := [vi v6, vr (some (11, this))]) (M1 := M) (pc' := 379) (tb_Model hγ) [.aload_n 0, .iload 6] (by decide +kernel) rfl rfl trivial ?_
  refine E_callV (κ' := k_Model_parentOf) (As := [vi v6]) (st := []) mv_Model_parentOf (Or.inl (tbk_mem (j := 15) (k := 157) rfl)) rfl (by decide +kernel) (Nat.le_of_ble_eq_true rfl) (Nat.le_of_ble_eq_true rfl) rfl (by omega) (lk_Model_parentOf hγ this v6 _ M h) (fun _ _ => Qi_r) (fun v M62 hp => Qi_k (R := fun st => E γ k_Model_linkCode (d + 1) 382 [some (vr (some (11, this))), some (vi v1), none, some (vi v3), some (vi v4), some (vi v5), some (vi v6), none] st M62 (Qi Q)) hp (fun r63 h => ?_))
  refine E_blk (lv' := [some (vr (some (11, this))), some (vi v1), none, some (vi v3), some (vi v4), some (vi v5), some (vi r63), none]) (st' := []) (M1 := M62) (pc' := 384) (tb_Model hγ) [.istore 6] (by decide +kernel) rfl rfl trivial ?_
  refine E_goto (off := -80) (tgt := 304) (by decide +kernel) (by decide) ?_
  refine E_mask [true, true, false, true, true, true, true, false] rfl ?_
  exact hk304 v1 v3 v4 v5 r63 M62 h
set_option maxRecDepth 4096 in
theorem lkk_Model_linkCode_L304 {γ : Gm} (hγ : Gk γ) {d0 d : Nat} (K : Nat → Int32 → (Int32 → Mem → Prop) → Mem → Prop) (hK : ∀ (this : Nat) (a1 : Int32) (Q : Int32 → Mem → Prop) (M : Mem), K this a1 Q M → ∀ d, d0 ≤ d → E γ k_Model_isLinked d 0 [some (vr (some (11, this))), some (vi a1), none] [] M (Qi Q)) (hd : d0 ≤ d) (hb : 8 ≤ d) (this : Nat) (Q : Int32 → Mem → Prop) (k220 : Int32 → Int32 → Mem → Prop) (hk220 : ∀ (v1 : Int32) (v3 : Int32) (M : Mem), k220 v1 v3 M → E γ k_Model_linkCode (d + 1) 220 [some (vr (some (11, this))), some (vi v1), none, some (vi v3), none, none, none, none] [] M (Qi Q)) : ∀ (n : Nat) (v1 : Int32) (v3 : Int32) (v4 : Int32) (v5 : Int32) (v6 : Int32) (M : Mem), wk_Model_linkCode_L304 K this Q k220 n v1 v3 v4 v5 v6 M → E γ k_Model_linkCode (d + 1) 304 [some (vr (some (11, this))), some (vi v1), none, some (vi v3), some (vi v4), some (vi v5), some (vi v6), none] [] M (Qi Q) := by
  intro n
  induction n with
  | zero => intro v1 v3 v4 v5 v6 M h; exact h.elim
  | succ n ih =>
    intro v1 v3 v4 v5 v6 M h
    unfold wk_Model_linkCode_L304 at h
    refine E_blk (lv' := [some (vr (some (11, this))), some (vi v1), none, some (vi v3), some (vi v4), some (vi v5), some (vi v6), none]) (st' := [vi v5]) (M1 := M) (pc' := 306) (tb_Model hγ) [.iload 5] (by decide +kernel) rfl rfl trivial ?_
    refine E_if_eq (off := 81) (tgt := 387) (by decide +kernel) (by decide) (fun b50 => ?_) (fun b50 => ?_)
    · rw [if_pos b50] at h
      refine E_mask [true, true, false, true, false, false, false, false] rfl ?_
      exact lkk_Model_linkCode_j387 hγ K hK hd hb this Q k220 hk220 v1 v3 M h
    · rw [if_neg b50] at h
      refine E_blk (lv' := [some (vr (some (11, this))), some (vi v1), none, some (vi v3), some (vi v4), some (vi v5), some (vi v6), none]) (st' := [vi (4 : Int32), vr (some (11, this))]) (M1 := M) (pc' := 311) (tb_Model hγ) [.aload_n 0, .iconst 4] (by decide +kernel) rfl rfl trivial ?_
      refine E_callV (κ' := k_Model_isOff) (As := [vi (4 : Int32)]) (st := []) mv_Model_isOff (Or.inl (tbk_mem (j := 15) (k := 47) rfl)) rfl (by decide +kernel) (Nat.le_of_ble_eq_true rfl) (Nat.le_of_ble_eq_true rfl) rfl (by omega) (lk_Model_isOff hγ this (4 : Int32) _ M h) (fun _ _ => Qi_r) (fun v M51 hp => Qi_k (R := fun st => E γ k_Model_linkCode (d + 1) 314 [some (vr (some (11, this))), some (vi v1), none, some (vi v3), some (vi v4), some (vi v5), some (vi v6), none] st M51 (Qi Q)) hp (fun r52 h => ?_))
      refine E_if_ne (off := 73) (tgt := 387) (by decide +kernel) (by decide) (fun b53 => ?_) (fun b53 => ?_)
      · rw [if_pos b53] at h
        refine E_blk (lv' := [some (vr (some (11, this))), some (vi v1), none, some (vi v3), some (vi v4), some (vi v5), some (vi v6), none]) (st' := [vi v6]) (M1 := M51) (pc' := 319) (tb_Model hγ) [.iload 6] (by decide +kernel) rfl rfl trivial ?_
        refine E_if_lt (off := 68) (tgt := 387) (by decide +kernel) (by decide) (fun b54 => ?_) (fun b54 => ?_)
        · rw [if_pos b54] at h
          refine E_mask [true, true, false, true, false, false, false, false] rfl ?_
          exact lkk_Model_linkCode_j387 hγ K hK hd hb this Q k220 hk220 v1 v3 M51 h
        · rw [if_neg b54] at h
          refine E_blk (lv' := [some (vr (some (11, this))), some (vi v1), none, some (vi v3), some (vi v4), some (vi v5), some (vi v6), none]) (st' := [vr (mR M51 11 this 45), vi v6, vr (some (11, this))]) (M1 := M51) (pc' := 329) (tb_Model hγ) [.aload_n 0, .iload 6, .aload_n 0, .getfield 522] (by decide +kernel) rfl rfl trivial ?_
          obtain ⟨i55, ei55, h⟩ := h
          rw [ei55]
          obtain ⟨c56, h⟩ := h
          refine E_blk (lv' := [some (vr (some (11, this))), some (vi v1), none, some (vi v3), some (vi v4), some (vi v5), some (vi v6), none]) (st' := [vr (mR M51 11 this 45), vi (mI M51 144 i55 v4.toNatClampNeg), vi v6, vr (some (11, this))]) (M1 := M51) (pc' := 339) (tb_Model hγ) [.getfield 447, .iload 4, .iaload, .aload_n 0, .getfield 522] (by decide +kernel) rfl rfl ⟨c56, trivial⟩ ?_
          obtain ⟨i57, ei57, h⟩ := h
          rw [ei57]
          obtain ⟨c58, h⟩ := h
          refine E_blk (lv' := [some (vr (some (11, this))), some (vi v1), none, some (vi v3), some (vi v4), some (vi v5), some (vi v6), none]) (st' := [vi (mI M51 145 i57 v4.toNatClampNeg), vi (mI M51 144 i55 v4.toNatClampNeg), vi v6, vr (some (11, this))]) (M1 := M51) (pc' := 345) (tb_Model hγ) [.getfield 450, .iload 4, .iaload] (by decide +kernel) rfl rfl ⟨c58, trivial⟩ ?_
          refine E_callV (κ' := k_Model_methodIn) (As := [vi v6, vi (mI M51 144 i55 v4.toNatClampNeg), vi (mI M51 145 i57 v4.toNatClampNeg)]) (st := []) mv_Model_methodIn (Or.inl (tbk_mem (j := 15) (k := 165) rfl)) rfl (by decide +kernel) (Nat.le_of_ble_eq_true rfl) (Nat.le_of_ble_eq_true rfl) rfl (by omega) (lk_Model_methodIn hγ this v6 (mI M51 144 i55 v4.toNatClampNeg) (mI M51 145 i57 v4.toNatClampNeg) _ M51 h) (fun _ _ => Qi_r) (fun v M59 hp => Qi_k (R := fun st => E γ k_Model_linkCode (d + 1) 348 [some (vr (some (11, this))), some (vi v1), none, some (vi v3), some (vi v4), some (vi v5), some (vi v6), none] st M59 (Qi Q)) hp (fun r60 h => ?_))
          refine E_blk (lv' := [some (vr (some (11, this))), some (vi v1), none, some (vi v3), some (vi v4), some (vi v5), some (vi v6), some (vi r60)]) (st' := [vi r60]) (M1 := M59) (pc' := 352) (tb_Model hγ) [.istore 7, .iload 7] (by decide +kernel) rfl rfl trivial ?_
          refine E_if_lt (off := 24) (tgt := 376) (by decide +kernel) (by decide) (fun b61 => ?_) (fun b61 => ?_)
          · rw [if_pos b61] at h
            refine E_mask [true, true, false, true, true, true, true, false] rfl ?_
            exact lkk_Model_linkCode_j376 hγ K hK hd hb this Q k220 (wk_Model_linkCode_L304 K this Q k220 n) hk220 ih v1 v3 v4 v5 v6 M59 h
          · rw [if_neg b61] at h
            refine E_blk (lv' := [some (vr (some (11, this))), some (vi v1), none, some (vi v3), some (vi v4), some (vi v5), some (vi v6), some (vi r60)]) (st' := [vr (mR M59 11 this 45)]) (M1 := M59) (pc' := 359) (tb_Model hγ) [.aload_n 0, .getfield 522] (by decide +kernel) rfl rfl trivial ?_
            obtain ⟨i64, ei64, h⟩ := h
            rw [ei64]
            obtain ⟨c65, h⟩ := h
            refine E_blk (lv' := [some (vr (some (11, this))), some (vi v1), none, some (vi v3), some (vi v4), some (vi v5), some (vi v6), some (vi r60)]) (st' := [vi (2 : Int32), vi ((mI M59 146 i64 r60.toNatClampNeg) &&& (7 : Int32))]) (M1 := M59) (pc' := 369) (tb_Model hγ) [.getfield 453, .iload 7, .iaload, .bipush 7, .iand, .iconst 2] (by decide +kernel) rfl rfl ⟨c65, trivial⟩ ?_
            refine E_icmp_ne (off := 7) (tgt := 376) (by decide +kernel) (by decide) (fun b66 => ?_) (fun b66 => ?_)
            · rw [if_pos b66] at h
              refine E_blk (lv' := [some (vr (some (11, this))), some (vi v1), none, some (vi v3), some (vi v4), some (vi v5), some (vi v6), some (vi r60)]) (st' := [vi (2515 : Int32)]) (M1 := M59) (pc' := 375) (tb_Model hγ) [.sipush 2515] (by decide +kernel) rfl rfl trivial ?_
              exact E_iret rfl (by decide +kernel) h
            · rw [if_neg b66] at h
              refine E_mask [true, true, false, true, true, true, true, false] rfl ?_
              exact lkk_Model_linkCode_j376 hγ K hK hd hb this Q k220 (wk_Model_linkCode_L304 K this Q k220 n) hk220 ih v1 v3 v4 v5 v6 M59 h
      · rw [if_neg b53] at h
        refine E_mask [true, true, false, true, false, false, false, false] rfl ?_
        exact lkk_Model_linkCode_j387 hγ K hK hd hb this Q k220 hk220 v1 v3 M51 h
set_option maxRecDepth 4096 in
theorem lkk_Model_linkCode_j295 {γ : Gm} (hγ : Gk γ) {d0 d : Nat} (K : Nat → Int32 → (Int32 → Mem → Prop) → Mem → Prop) (hK : ∀ (this : Nat) (a1 : Int32) (Q : Int32 → Mem → Prop) (M : Mem), K this a1 Q M → ∀ d, d0 ≤ d → E γ k_Model_isLinked d 0 [some (vr (some (11, this))), some (vi a1), none] [] M (Qi Q)) (hd : d0 ≤ d) (hb : 8 ≤ d) (this : Nat) (Q : Int32 → Mem → Prop) (k220 : Int32 → Int32 → Mem → Prop) (hk220 : ∀ (v1 : Int32) (v3 : Int32) (M : Mem), k220 v1 v3 M → E γ k_Model_linkCode (d + 1) 220 [some (vr (some (11, this))), some (vi v1), none, some (vi v3), none, none, none, none] [] M (Qi Q)) (v1 : Int32) (v3 : Int32) (v4 : Int32) (s0 : Int32) (M : Mem) (h : wk_Model_linkCode_j295 K this Q k220 v1 v3 v4 s0 M) : E γ k_Model_linkCode (d + 1) 295 [some (vr (some (11, this))), some (vi v1), none, some (vi v3), some (vi v4), none, none, none] [vi s0] M (Qi Q) := by
  unfold wk_Model_linkCode_j295 at h
  refine E_blk (lv' := [some (vr (some (11, this))), some (vi v1), none, some (vi v3), some (vi v4), some (vi s0), none, none]) (st' := [vi v1, vr (some (11, this))]) (M1 := M) (pc' := 299) (tb_Model hγ) [.istore 5, .aload_n 0, .iload_n 1] (by decide +kernel) rfl rfl trivial ?_
  refine E_callV (κ' := k_Model_parentOf) (As := [vi v1]) (st := []) mv_Model_parentOf (Or.inl (tbk_mem (j := 15) (k := 157) rfl)) rfl (by decide +kernel) (Nat.le_of_ble_eq_true rfl) (Nat.le_of_ble_eq_true rfl) rfl (by omega) (lk_Model_parentOf hγ this v1 _ M h) (fun _ _ => Qi_r) (fun v M48 hp => Qi_k (R := fun st => E γ k_Model_linkCode (d + 1) 302 [some (vr (some (11, this))), some (vi v1), none, some (vi v3), some (vi v4), some (vi s0), none, none] st M48 (Qi Q)) hp (fun r49 h => ?_))
  refine E_blk (lv' := [some (vr (some (11, this))), some (vi v1), none, some (vi v3), some (vi v4), some (vi s0), some (vi r49), none]) (st' := []) (M1 := M48) (pc' := 304) (tb_Model hγ) [.istore 6] (by decide +kernel) rfl rfl trivial ?_
  obtain ⟨n67, h⟩ := h
  refine E_mask [true, true, false, true, true, true, true, false] rfl ?_
  exact lkk_Model_linkCode_L304 hγ K hK hd hb this Q k220 hk220 n67 v1 v3 v4 s0 r49 M48 h
set_option maxRecDepth 4096 in
theorem lkk_Model_linkCode_j294 {γ : Gm} (hγ : Gk γ) {d0 d : Nat} (K : Nat → Int32 → (Int32 → Mem → Prop) → Mem → Prop) (hK : ∀ (this : Nat) (a1 : Int32) (Q : Int32 → Mem → Prop) (M : Mem), K this a1 Q M → ∀ d, d0 ≤ d → E γ k_Model_isLinked d 0 [some (vr (some (11, this))), some (vi a1), none] [] M (Qi Q)) (hd : d0 ≤ d) (hb : 8 ≤ d) (this : Nat) (Q : Int32 → Mem → Prop) (k220 : Int32 → Int32 → Mem → Prop) (hk220 : ∀ (v1 : Int32) (v3 : Int32) (M : Mem), k220 v1 v3 M → E γ k_Model_linkCode (d + 1) 220 [some (vr (some (11, this))), some (vi v1), none, some (vi v3), none, none, none, none] [] M (Qi Q)) (v1 : Int32) (v3 : Int32) (v4 : Int32) (M : Mem) (h : wk_Model_linkCode_j294 K this Q k220 v1 v3 v4 M) : E γ k_Model_linkCode (d + 1) 294 [some (vr (some (11, this))), some (vi v1), none, some (vi v3), some (vi v4), none, none, none] [] M (Qi Q) := by
  unfold wk_Model_linkCode_j294 at h
  refine E_blk (lv' := [some (vr (some (11, this))), some (vi v1), none, some (vi v3), some (vi v4), none, none, none]) (st' := [vi (0 : Int32)]) (M1 := M) (pc' := 295) (tb_Model hγ) [.iconst 0] (by decide +kernel) rfl rfl trivial ?_
  refine E_mask [true, true, false, true, true, false, false, false] rfl ?_
  exact lkk_Model_linkCode_j295 hγ K hK hd hb this Q k220 hk220 v1 v3 v4 (0 : Int32) M h
set_option maxRecDepth 4096 in
theorem lkk_Model_linkCode_L220 {γ : Gm} (hγ : Gk γ) {d0 d : Nat} (K : Nat → Int32 → (Int32 → Mem → Prop) → Mem → Prop) (hK : ∀ (this : Nat) (a1 : Int32) (Q : Int32 → Mem → Prop) (M : Mem), K this a1 Q M → ∀ d, d0 ≤ d → E γ k_Model_isLinked d 0 [some (vr (some (11, this))), some (vi a1), none] [] M (Qi Q)) (hd : d0 ≤ d) (hb : 8 ≤ d) (this : Nat) (Q : Int32 → Mem → Prop) : ∀ (n : Nat) (v1 : Int32) (v3 : Int32) (M : Mem), wk_Model_linkCode_L220 K this Q n v1 v3 M → E γ k_Model_linkCode (d + 1) 220 [some (vr (some (11, this))), some (vi v1), none, some (vi v3), none, none, none, none] [] M (Qi Q) := by
  intro n
  induction n with
  | zero => intro v1 v3 M h; exact h.elim
  | succ n ih =>
    intro v1 v3 M h
    unfold wk_Model_linkCode_L220 at h
    refine E_blk (lv' := [some (vr (some (11, this))), some (vi v1), none, some (vi v3), none, none, none, none]) (st' := [vr (mR M 11 this 45), vi v3]) (M1 := M) (pc' := 225) (tb_Model hγ) [.iload_n 3, .aload_n 0, .getfield 522] (by decide +kernel) rfl rfl trivial ?_
    obtain ⟨i28, ei28, h⟩ := h
    rw [ei28]
    obtain ⟨c29, h⟩ := h
    refine E_blk (lv' := [some (vr (some (11, this))), some (vi v1), none, some (vi v3), none, none, none, none]) (st' := [vi (mI M 136 i28 v1.toNatClampNeg), vi v3]) (M1 := M) (pc' := 230) (tb_Model hγ) [.getfield 438, .iload_n 1, .iaload] (by decide +kernel) rfl rfl ⟨c29, trivial⟩ ?_
    refine E_icmp_ge (off := 163) (tgt := 393) (by decide +kernel) (by decide) (fun b30 => ?_) (fun b30 => ?_)
    · rw [if_pos b30] at h
      refine E_blk (lv' := [some (vr (some (11, this))), some (vi v1), none, some (vi (0 : Int32)), none, none, none, none]) (st' := []) (M1 := M) (pc' := 395) (tb_Model hγ) [.iconst 0, .istore_n 3] (by decide +kernel) rfl rfl trivial ?_
      obtain ⟨n44, h⟩ := h
      refine E_mask [true, true, false, true, false, false, false, false] rfl ?_
      exact lkk_Model_linkCode_L395 hγ K hK hd hb this Q n44 v1 (0 : Int32) M h
    · rw [if_neg b30] at h
      refine E_blk (lv' := [some (vr (some (11, this))), some (vi v1), none, some (vi v3), some (vi (((12 : Int32) * v1) + v3)), none, none, none]) (st' := [vr (mR M 11 this 45)]) (M1 := M) (pc' := 245) (tb_Model hγ) [.bipush 12, .iload_n 1, .imul, .iload_n 3, .iadd, .istore 4, .aload_n 0, .getfield 522] (by decide +kernel) rfl rfl trivial ?_
      obtain ⟨i45, ei45, h⟩ := h
      rw [ei45]
      obtain ⟨c46, h⟩ := h
      refine E_blk (lv' := [some (vr (some (11, this))), some (vi v1), none, some (vi v3), some (vi (((12 : Int32) * v1) + v3)), none, none, none]) (st' := [vi (mI M 11 this 6), vi (mI M 144 i45 (((12 : Int32) * v1) + v3).toNatClampNeg)]) (M1 := M) (pc' := 255) (tb_Model hγ) [.getfield 447, .iload 4, .iaload, .aload_n 0, .getfield 121] (by decide +kernel) rfl rfl ⟨c46, trivial⟩ ?_
      refine E_icmp_eq (off := 39) (tgt := 294) (by decide +kernel) (by decide) (fun b47 => ?_) (fun b47 => ?_)
      · rw [if_pos b47] at h
        refine E_mask [true, true, false, true, true, false, false, false] rfl ?_
        exact lkk_Model_linkCode_j294 hγ K hK hd hb this Q (wk_Model_linkCode_L220 K this Q n) ih v1 v3 (((12 : Int32) * v1) + v3) M h
      · rw [if_neg b47] at h
        refine E_blk (lv' := [some (vr (some (11, this))), some (vi v1), none, some (vi v3), some (vi (((12 : Int32) * v1) + v3)), none, none, none]) (st' := [vr (mR M 11 this 45)]) (M1 := M) (pc' := 262) (tb_Model hγ) [.aload_n 0, .getfield 522] (by decide +kernel) rfl rfl trivial ?_
        obtain ⟨i68, ei68, h⟩ := h
        rw [ei68]
        obtain ⟨c69, h⟩ := h
        refine E_blk (lv' := [some (vr (some (11, this))), some (vi v1), none, some (vi v3), some (vi (((12 : Int32) * v1) + v3)), none, none, none]) (st' := [vi (mI M 11 this 7), vi (mI M 144 i68 (((12 : Int32) * v1) + v3).toNatClampNeg)]) (M1 := M) (pc' := 272) (tb_Model hγ) [.getfield 447, .iload 4, .iaload, .aload_n 0, .getfield 127] (by decide +kernel) rfl rfl ⟨c69, trivial⟩ ?_
        refine E_icmp_eq (off := 22) (tgt := 294) (by decide +kernel) (by decide) (fun b70 => ?_) (fun b70 => ?_)
        · rw [if_pos b70] at h
          refine E_mask [true, true, false, true, true, false, false, false] rfl ?_
          exact lkk_Model_linkCode_j294 hγ K hK hd hb this Q (wk_Model_linkCode_L220 K this Q n) ih v1 v3 (((12 : Int32) * v1) + v3) M h
        · rw [if_neg b70] at h
          refine E_blk (lv' := [some (vr (some (11, this))), some (vi v1), none, some (vi v3), some (vi (((12 : Int32) * v1) + v3)), none, none, none]) (st' := [vr (mR M 11 this 45)]) (M1 := M) (pc' := 279) (tb_Model hγ) [.aload_n 0, .getfield 522] (by decide +kernel) rfl rfl trivial ?_
          obtain ⟨i71, ei71, h⟩ := h
          rw [ei71]
          obtain ⟨c72, h⟩ := h
          refine E_blk (lv' := [some (vr (some (11, this))), some (vi v1), none, some (vi v3), some (vi (((12 : Int32) * v1) + v3)), none, none, none]) (st' := [vi ((mI M 146 i71 (((12 : Int32) * v1) + v3).toNatClampNeg) &&& (5 : Int32))]) (M1 := M) (pc' := 287) (tb_Model hγ) [.getfield 453, .iload 4, .iaload, .iconst 5, .iand] (by decide +kernel) rfl rfl ⟨c72, trivial⟩ ?_
          refine E_if_ne (off := 7) (tgt := 294) (by decide +kernel) (by decide) (fun b73 => ?_) (fun b73 => ?_)
          · rw [if_pos b73] at h
            refine E_blk (lv' := [some (vr (some (11, this))), some (vi v1), none, some (vi v3), some (vi (((12 : Int32) * v1) + v3)), none, none, none]) (st' := [vi (1 : Int32)]) (M1 := M) (pc' := 291) (tb_Model hγ) [.iconst 1] (by decide +kernel) rfl rfl trivial ?_
            refine E_goto (off := 4) (tgt := 295) (by decide +kernel) (by decide) ?_
            refine E_mask [true, true, false, true, true, false, false, false] rfl ?_
            exact lkk_Model_linkCode_j295 hγ K hK hd hb this Q (wk_Model_linkCode_L220 K this Q n) ih v1 v3 (((12 : Int32) * v1) + v3) (1 : Int32) M h
          · rw [if_neg b73] at h
            refine E_mask [true, true, false, true, true, false, false, false] rfl ?_
            exact lkk_Model_linkCode_j294 hγ K hK hd hb this Q (wk_Model_linkCode_L220 K this Q n) ih v1 v3 (((12 : Int32) * v1) + v3) M h
set_option maxRecDepth 4096 in
theorem lkk_Model_linkCode_L160 {γ : Gm} (hγ : Gk γ) {d0 d : Nat} (K : Nat → Int32 → (Int32 → Mem → Prop) → Mem → Prop) (hK : ∀ (this : Nat) (a1 : Int32) (Q : Int32 → Mem → Prop) (M : Mem), K this a1 Q M → ∀ d, d0 ≤ d → E γ k_Model_isLinked d 0 [some (vr (some (11, this))), some (vi a1), none] [] M (Qi Q)) (hd : d0 ≤ d) (hb : 8 ≤ d) (this : Nat) (Q : Int32 → Mem → Prop) : ∀ (n : Nat) (v1 : Int32) (v3 : Int32) (M : Mem), wk_Model_linkCode_L160 K this Q n v1 v3 M → E γ k_Model_linkCode (d + 1) 160 [some (vr (some (11, this))), some (vi v1), none, some (vi v3), none, none, none, none] [] M (Qi Q) := by
  intro n
  induction n with
  | zero => intro v1 v3 M h; exact h.elim
  | succ n ih =>
    intro v1 v3 M h
    unfold wk_Model_linkCode_L160 at h
    refine E_blk (lv' := [some (vr (some (11, this))), some (vi v1), none, some (vi v3), none, none, none, none]) (st' := [vr (mR M 11 this 45), vi v3]) (M1 := M) (pc' := 165) (tb_Model hγ) [.iload_n 3, .aload_n 0, .getfield 522] (by decide +kernel) rfl rfl trivial ?_
    obtain ⟨i25, ei25, h⟩ := h
    rw [ei25]
    obtain ⟨c26, h⟩ := h
    refine E_blk (lv' := [some (vr (some (11, this))), some (vi v1), none, some (vi v3), none, none, none, none]) (st' := [vi (mI M 134 i25 v1.toNatClampNeg), vi v3]) (M1 := M) (pc' := 170) (tb_Model hγ) [.getfield 432, .iload_n 1, .iaload] (by decide +kernel) rfl rfl ⟨c26, trivial⟩ ?_
    refine E_icmp_ge (off := 48) (tgt := 218) (by decide +kernel) (by decide) (fun b27 => ?_) (fun b27 => ?_)
    · rw [if_pos b27] at h
      refine E_blk (lv' := [some (vr (some (11, this))), some (vi v1), none, some (vi (0 : Int32)), none, none, none, none]) (st' := []) (M1 := M) (pc' := 220) (tb_Model hγ) [.iconst 0, .istore_n 3] (by decide +kernel) rfl rfl trivial ?_
      obtain ⟨n74, h⟩ := h
      refine E_mask [true, true, false, true, false, false, false, false] rfl ?_
      exact lkk_Model_linkCode_L220 hγ K hK hd hb this Q n74 v1 (0 : Int32) M h
    · rw [if_neg b27] at h
      refine E_blk (lv' := [some (vr (some (11, this))), some (vi v1), none, some (vi v3), none, none, none, none]) (st' := [vr (mR M 11 this 45), vr (some (11, this))]) (M1 := M) (pc' := 178) (tb_Model hγ) [.aload_n 0, .aload_n 0, .getfield 522] (by decide +kernel) rfl rfl trivial ?_
      obtain ⟨i75, ei75, h⟩ := h
      rw [ei75]
      obtain ⟨c76, h⟩ := h
      refine E_blk (lv' := [some (vr (some (11, this))), some (vi v1), none, some (vi v3), none, none, none, none]) (st' := [vi (mI M 133 i75 (((4 : Int32) * v1) + v3).toNatClampNeg), vr (some (11, this))]) (M1 := M) (pc' := 187) (tb_Model hγ) [.getfield 612, .iconst 4, .iload_n 1, .imul, .iload_n 3, .iadd, .iaload] (by decide +kernel) rfl rfl ⟨c76, trivial⟩ ?_
      refine E_callV (κ' := k_Model_classOf) (As := [vi (mI M 133 i75 (((4 : Int32) * v1) + v3).toNatClampNeg)]) (st := []) mv_Model_classOf (Or.inl (tbk_mem (j := 15) (k := 39) rfl)) rfl (by decide +kernel) (Nat.le_of_ble_eq_true rfl) (Nat.le_of_ble_eq_true rfl) rfl (by omega) (lk_Model_classOf hγ this (mI M 133 i75 (((4 : Int32) * v1) + v3).toNatClampNeg) _ M h) (fun _ _ => Qi_r) (fun v M77 hp => Qi_k (R := fun st => E γ k_Model_linkCode (d + 1) 190 [some (vr (some (11, this))), some (vi v1), none, some (vi v3), none, none, none, none] st M77 (Qi Q)) hp (fun r78 h => ?_))
      refine E_blk (lv' := [some (vr (some (11, this))), some (vi v1), none, some (vi v3), some (vi r78), none, none, none]) (st' := [vi r78, vr (some (11, this))]) (M1 := M77) (pc' := 195) (tb_Model hγ) [.istore 4, .aload_n 0, .iload 4] (by decide +kernel) rfl rfl trivial ?_
      refine E_callV (κ' := k_Model_isLinked) (As := [vi r78]) (st := []) mv_Model_isLinked (Or.inl (tbk_mem (j := 15) (k := 145) rfl)) rfl (by decide +kernel) (Nat.le_of_ble_eq_true rfl) (Nat.le_of_ble_eq_true rfl) rfl (by omega) (hK this r78 _ M77 h (d + 0) (by omega)) (fun _ _ => Qi_r) (fun v M79 hp => Qi_k (R := fun st => E γ k_Model_linkCode (d + 1) 198 [some (vr (some (11, this))), some (vi v1), none, some (vi v3), some (vi r78), none, none, none] st M79 (Qi Q)) hp (fun r80 h => ?_))
      refine E_if_ne (off := 14) (tgt := 212) (by decide +kernel) (by decide) (fun b81 => ?_) (fun b81 => ?_)
      · rw [if_pos b81] at h
        refine E_blk (lv' := [some (vr (some (11, this))), some (vi v1), none, some (vi v3), some (vi r78), none, none, none]) (st' := [vr (mR M79 11 this 45)]) (M1 := M79) (pc' := 205) (tb_Model hγ) [.aload_n 0, .getfield 522] (by decide +kernel) rfl rfl trivial ?_
        obtain ⟨i82, ei82, h⟩ := h
        rw [ei82]
        obtain ⟨c83, h⟩ := h
        refine E_blk (lv' := [some (vr (some (11, this))), some (vi v1), none, some (vi v3), some (vi r78), none, none, none]) (st' := [vi (mI M79 138 i82 r78.toNatClampNeg)]) (M1 := M79) (pc' := 211) (tb_Model hγ) [.getfield 444, .iload 4, .iaload] (by decide +kernel) rfl rfl ⟨c83, trivial⟩ ?_
        exact E_iret rfl (by decide +kernel) h
      · rw [if_neg b81] at h
        refine E_blk (lv' := [some (vr (some (11, this))), some (vi v1), none, some (vi (v3 + (1 : Int32))), some (vi r78), none, none, none]) (st' := []) (M1 := M79) (pc' := 215) (tb_Model hγ) [.iinc 3 1] (by decide +kernel) rfl rfl trivial ?_
        refine E_goto (off := -55) (tgt := 160) (by decide +kernel) (by decide) ?_
        refine E_mask [true, true, false, true, false, false, false, false] rfl ?_
        exact ih v1 (v3 + (1 : Int32)) M79 h
set_option maxRecDepth 4096 in
theorem lkk_Model_linkCode_L74 {γ : Gm} (hγ : Gk γ) {d0 d : Nat} (K : Nat → Int32 → (Int32 → Mem → Prop) → Mem → Prop) (hK : ∀ (this : Nat) (a1 : Int32) (Q : Int32 → Mem → Prop) (M : Mem), K this a1 Q M → ∀ d, d0 ≤ d → E γ k_Model_isLinked d 0 [some (vr (some (11, this))), some (vi a1), none] [] M (Qi Q)) (hd : d0 ≤ d) (hb : 8 ≤ d) (this : Nat) (Q : Int32 → Mem → Prop) : ∀ (n : Nat) (v1 : Int32) (v2 : Int32) (v3 : Int32) (M : Mem), wk_Model_linkCode_L74 K this Q n v1 v2 v3 M → E γ k_Model_linkCode (d + 1) 74 [some (vr (some (11, this))), some (vi v1), some (vi v2), some (vi v3), none, none, none, none] [] M (Qi Q) := by
  intro n
  induction n with
  | zero => intro v1 v2 v3 M h; exact h.elim
  | succ n ih =>
    intro v1 v2 v3 M h
    unfold wk_Model_linkCode_L74 at h
    refine E_blk (lv' := [some (vr (some (11, this))), some (vi v1), some (vi v2), some (vi v3), none, none, none, none]) (st' := [vr (mR M 11 this 45), vi v3]) (M1 := M) (pc' := 79) (tb_Model hγ) [.iload_n 3, .aload_n 0, .getfield 522] (by decide +kernel) rfl rfl trivial ?_
    obtain ⟨i17, ei17, h⟩ := h
    rw [ei17]
    obtain ⟨c18, h⟩ := h
    refine E_blk (lv' := [some (vr (some (11, this))), some (vi v1), some (vi v2), some (vi v3), none, none, none, none]) (st' := [vi (mI M 134 i17 v1.toNatClampNeg), vi v3]) (M1 := M) (pc' := 84) (tb_Model hγ) [.getfield 432, .iload_n 1, .iaload] (by decide +kernel) rfl rfl ⟨c18, trivial⟩ ?_
    refine E_icmp_ge (off := 56) (tgt := 140) (by decide +kernel) (by decide) (fun b19 => ?_) (fun b19 => ?_)
    · rw [if_pos b19] at h
      refine E_blk (lv' := [some (vr (some (11, this))), some (vi v1), some (vi v2), some (vi v3), none, none, none, none]) (st' := [vi v2, vr (some (11, this))]) (M1 := M) (pc' := 142) (tb_Model hγ) [.aload_n 0, .iload_n 2] (by decide +kernel) rfl rfl trivial ?_
      refine E_callV (κ' := k_Model_isLinked) (As := [vi v2]) (st := []) mv_Model_isLinked (Or.inl (tbk_mem (j := 15) (k := 145) rfl)) rfl (by decide +kernel) (Nat.le_of_ble_eq_true rfl) (Nat.le_of_ble_eq_true rfl) rfl (by omega) (hK this v2 _ M h (d + 0) (by omega)) (fun _ _ => Qi_r) (fun v M20 hp => Qi_k (R := fun st => E γ k_Model_linkCode (d + 1) 145 [some (vr (some (11, this))), some (vi v1), some (vi v2), some (vi v3), none, none, none, none] st M20 (Qi Q)) hp (fun r21 h => ?_))
      refine E_if_ne (off := 13) (tgt := 158) (by decide +kernel) (by decide) (fun b22 => ?_) (fun b22 => ?_)
      · rw [if_pos b22] at h
        refine E_blk (lv' := [some (vr (some (11, this))), some (vi v1), some (vi v2), some (vi v3), none, none, none, none]) (st' := [vr (mR M20 11 this 45)]) (M1 := M20) (pc' := 152) (tb_Model hγ) [.aload_n 0, .getfield 522] (by decide +kernel) rfl rfl trivial ?_
        obtain ⟨i23, ei23, h⟩ := h
        rw [ei23]
        obtain ⟨c24, h⟩ := h
        refine E_blk (lv' := [some (vr (some (11, this))), some (vi v1), some (vi v2), some (vi v3), none, none, none, none]) (st' := [vi (mI M20 138 i23 v2.toNatClampNeg)]) (M1 := M20) (pc' := 157) (tb_Model hγ) [.getfield 444, .iload_n 2, .iaload] (by decide +kernel) rfl rfl ⟨c24, trivial⟩ ?_
        exact E_iret rfl (by decide +kernel) h
      · rw [if_neg b22] at h
        refine E_blk (lv' := [some (vr (some (11, this))), some (vi v1), some (vi v2), some (vi (0 : Int32)), none, none, none, none]) (st' := []) (M1 := M20) (pc' := 160) (tb_Model hγ) [.iconst 0, .istore_n 3] (by decide +kernel) rfl rfl trivial ?_
        obtain ⟨n84, h⟩ := h
        refine E_mask [true, true, false, true, false, false, false, false] rfl ?_
        exact lkk_Model_linkCode_L160 hγ K hK hd hb this Q n84 v1 (0 : Int32) M20 h
    · rw [if_neg b19] at h
      refine E_blk (lv' := [some (vr (some (11, this))), some (vi v1), some (vi v2), some (vi v3), none, none, none, none]) (st' := [vr (mR M 11 this 45), vr (some (11, this))]) (M1 := M) (pc' := 92) (tb_Model hγ) [.aload_n 0, .aload_n 0, .getfield 522] (by decide +kernel) rfl rfl trivial ?_
      obtain ⟨i85, ei85, h⟩ := h
      rw [ei85]
      obtain ⟨c86, h⟩ := h
      refine E_blk (lv' := [some (vr (some (11, this))), some (vi v1), some (vi v2), some (vi v3), none, none, none, none]) (st' := [vi (mI M 133 i85 (((4 : Int32) * v1) + v3).toNatClampNeg), vr (some (11, this))]) (M1 := M) (pc' := 101) (tb_Model hγ) [.getfield 612, .iconst 4, .iload_n 1, .imul, .iload_n 3, .iadd, .iaload] (by decide +kernel) rfl rfl ⟨c86, trivial⟩ ?_
      refine E_callV (κ' := k_Model_classOf) (As := [vi (mI M 133 i85 (((4 : Int32) * v1) + v3).toNatClampNeg)]) (st := []) mv_Model_classOf (Or.inl (tbk_mem (j := 15) (k := 39) rfl)) rfl (by decide +kernel) (Nat.le_of_ble_eq_true rfl) (Nat.le_of_ble_eq_true rfl) rfl (by omega) (lk_Model_classOf hγ this (mI M 133 i85 (((4 : Int32) * v1) + v3).toNatClampNeg) _ M h) (fun _ _ => Qi_r) (fun v M87 hp => Qi_k (R := fun st => E γ k_Model_linkCode (d + 1) 104 [some (vr (some (11, this))), some (vi v1), some (vi v2), some (vi v3), none, none, none, none] st M87 (Qi Q)) hp (fun r88 h => ?_))
      refine E_blk (lv' := [some (vr (some (11, this))), some (vi v1), some (vi v2), some (vi v3), some (vi r88), none, none, none]) (st' := [vi r88]) (M1 := M87) (pc' := 108) (tb_Model hγ) [.istore 4, .iload 4] (by decide +kernel) rfl rfl trivial ?_
      refine E_if_ge (off := 7) (tgt := 115) (by decide +kernel) (by decide) (fun b89 => ?_) (fun b89 => ?_)
      · rw [if_pos b89] at h
        refine E_blk (lv' := [some (vr (some (11, this))), some (vi v1), some (vi v2), some (vi v3), some (vi r88), none, none, none]) (st' := [vr (mR M87 11 this 45)]) (M1 := M87) (pc' := 119) (tb_Model hγ) [.aload_n 0, .getfield 522] (by decide +kernel) rfl rfl trivial ?_
        obtain ⟨i90, ei90, h⟩ := h
        rw [ei90]
        obtain ⟨c91, h⟩ := h
        refine E_blk (lv' := [some (vr (some (11, this))), some (vi v1), some (vi v2), some (vi v3), some (vi r88), none, none, none]) (st' := [vi ((mI M87 132 i90 r88.toNatClampNeg) &&& (4 : Int32))]) (M1 := M87) (pc' := 127) (tb_Model hγ) [.getfield 429, .iload 4, .iaload, .iconst 4, .iand] (by decide +kernel) rfl rfl ⟨c91, trivial⟩ ?_
        refine E_if_ne (off := 7) (tgt := 134) (by decide +kernel) (by decide) (fun b92 => ?_) (fun b92 => ?_)
        · rw [if_pos b92] at h
          refine E_blk (lv' := [some (vr (some (11, this))), some (vi v1), some (vi v2), some (vi v3), some (vi r88), none, none, none]) (st' := [vi (2315 : Int32)]) (M1 := M87) (pc' := 133) (tb_Model hγ) [.sipush 2315] (by decide +kernel) rfl rfl trivial ?_
          exact E_iret rfl (by decide +kernel) h
        · rw [if_neg b92] at h
          refine E_blk (lv' := [some (vr (some (11, this))), some (vi v1), some (vi v2), some (vi (v3 + (1 : Int32))), some (vi r88), none, none, none]) (st' := []) (M1 := M87) (pc' := 137) (tb_Model hγ) [.iinc 3 1] (by decide +kernel) rfl rfl trivial ?_
          refine E_goto (off := -63) (tgt := 74) (by decide +kernel) (by decide) ?_
          refine E_mask [true, true, true, true, false, false, false, false] rfl ?_
          exact ih v1 v2 (v3 + (1 : Int32)) M87 h
      · rw [if_neg b89] at h
        refine E_blk (lv' := [some (vr (some (11, this))), some (vi v1), some (vi v2), some (vi v3), some (vi r88), none, none, none]) (st' := [vi (2211 : Int32)]) (M1 := M87) (pc' := 114) (tb_Model hγ) [.sipush 2211] (by decide +kernel) rfl rfl trivial ?_
        exact E_iret rfl (by decide +kernel) h
set_option maxRecDepth 4096 in
theorem lkk_Model_linkCode_j72 {γ : Gm} (hγ : Gk γ) {d0 d : Nat} (K : Nat → Int32 → (Int32 → Mem → Prop) → Mem → Prop) (hK : ∀ (this : Nat) (a1 : Int32) (Q : Int32 → Mem → Prop) (M : Mem), K this a1 Q M → ∀ d, d0 ≤ d → E γ k_Model_isLinked d 0 [some (vr (some (11, this))), some (vi a1), none] [] M (Qi Q)) (hd : d0 ≤ d) (hb : 8 ≤ d) (this : Nat) (Q : Int32 → Mem → Prop) (v1 : Int32) (v2 : Int32) (M : Mem) (h : wk_Model_linkCode_j72 K this Q v1 v2 M) : E γ k_Model_linkCode (d + 1) 72 [some (vr (some (11, this))), some (vi v1), some (vi v2), none, none, none, none, none] [] M (Qi Q) := by
  unfold wk_Model_linkCode_j72 at h
  refine E_blk (lv' := [some (vr (some (11, this))), some (vi v1), some (vi v2), some (vi (0 : Int32)), none, none, none, none]) (st' := []) (M1 := M) (pc' := 74) (tb_Model hγ) [.iconst 0, .istore_n 3] (by decide +kernel) rfl rfl trivial ?_
  obtain ⟨n93, h⟩ := h
  refine E_mask [true, true, true, true, false, false, false, false] rfl ?_
  exact lkk_Model_linkCode_L74 hγ K hK hd hb this Q n93 v1 v2 (0 : Int32) M h
set_option maxRecDepth 4096 in
theorem lkk_Model_linkCode {γ : Gm} (hγ : Gk γ) {d0 d : Nat} (K : Nat → Int32 → (Int32 → Mem → Prop) → Mem → Prop) (hK : ∀ (this : Nat) (a1 : Int32) (Q : Int32 → Mem → Prop) (M : Mem), K this a1 Q M → ∀ d, d0 ≤ d → E γ k_Model_isLinked d 0 [some (vr (some (11, this))), some (vi a1), none] [] M (Qi Q)) (hd : d0 ≤ d) (hb : 8 ≤ d) (this : Nat) (a1 : Int32) (Q : Int32 → Mem → Prop) (M : Mem) (h : wk_Model_linkCode K this a1 Q M) : E γ k_Model_linkCode (d + 1) 0 [some (vr (some (11, this))), some (vi a1), none, none, none, none, none, none] [] M (Qi Q) := by
  unfold wk_Model_linkCode at h
  refine E_blk (lv' := [some (vr (some (11, this))), some (vi a1), none, none, none, none, none, none]) (st' := [vi (1 : Int32), vi a1, vr (some (11, this)), vr (some (11, this))]) (M1 := M) (pc' := 4) (tb_Model hγ) [.aload_n 0, .aload_n 0, .iload_n 1, .iconst 1] (by decide +kernel) rfl rfl trivial ?_
  refine E_callV (κ' := k_Model_directs) (As := [vi a1, vi (1 : Int32)]) (st := [vr (some (11, this))]) mv_Model_directs (Or.inl (tbk_mem (j := 15) (k := 153) rfl)) rfl (by decide +kernel) (Nat.le_of_ble_eq_true rfl) (Nat.le_of_ble_eq_true rfl) rfl (by omega) (lk_Model_directs hγ this a1 (1 : Int32) _ M h) (fun _ _ => Ql_r) (fun v M1 hp => Ql_k (R := fun st => E γ k_Model_linkCode (d + 1) 7 [some (vr (some (11, this))), some (vi a1), none, none, none, none, none, none] st M1 (Qi Q)) hp (fun r2 h => ?_))
  refine E_blk (lv' := [some (vr (some (11, this))), some (vi a1), none, none, none, none, none, none]) (st' := [vi (1 : Int32), vl r2, vr (some (11, this))]) (M1 := M1) (pc' := 8) (tb_Model hγ) [.iconst 1] (by decide +kernel) rfl rfl trivial ?_
  refine E_callV (κ' := k_Model_upFrom) (As := [vl r2, vi (1 : Int32)]) (st := []) mv_Model_upFrom (Or.inl (tbk_mem (j := 15) (k := 161) rfl)) rfl (by decide +kernel) (Nat.le_of_ble_eq_true rfl) (Nat.le_of_ble_eq_true rfl) rfl (by omega) (lk_Model_upFrom hγ this r2 (1 : Int32) _ M1 h) (fun _ _ => Ql_r) (fun v M3 hp => Ql_k (R := fun st => E γ k_Model_linkCode (d + 1) 11 [some (vr (some (11, this))), some (vi a1), none, none, none, none, none, none] st M3 (Qi Q)) hp (fun r4 h => ?_))
  refine E_blk (lv' := [some (vr (some (11, this))), some (vi a1), none, none, none, none, none, none]) (st' := [vi (lg_cmp ((r4 >>> (a1.toInt64 &&& 63)) &&& (1 : Int64)) (1 : Int64))]) (M1 := M3) (pc' := 17) (tb_Model hγ) [.iload_n 1, .lshr, .lconst 1, .land, .lconst 1, .lcmp] (by decide +kernel) rfl rfl trivial ?_
  refine E_if_ne (off := 7) (tgt := 24) (by decide +kernel) (by decide) (fun b5 => ?_) (fun b5 => ?_)
  · rw [if_pos b5] at h
    refine E_blk (lv' := [some (vr (some (11, this))), some (vi a1), none, none, none, none, none, none]) (st' := [vi (2416 : Int32)]) (M1 := M3) (pc' := 23) (tb_Model hγ) [.sipush 2416] (by decide +kernel) rfl rfl trivial ?_
    exact E_iret rfl (by decide +kernel) h
  · rw [if_neg b5] at h
    refine E_blk (lv' := [some (vr (some (11, this))), some (vi a1), none, none, none, none, none, none]) (st' := [vr (mR M3 11 this 45), vr (some (11, this))]) (M1 := M3) (pc' := 29) (tb_Model hγ) [.aload_n 0, .aload_n 0, .getfield 522] (by decide +kernel) rfl rfl trivial ?_
    obtain ⟨i6, ei6, h⟩ := h
    rw [ei6]
    obtain ⟨c7, h⟩ := h
    refine E_blk (lv' := [some (vr (some (11, this))), some (vi a1), none, none, none, none, none, none]) (st' := [vi (mI M3 131 i6 a1.toNatClampNeg), vr (some (11, this))]) (M1 := M3) (pc' := 34) (tb_Model hγ) [.getfield 426, .iload_n 1, .iaload] (by decide +kernel) rfl rfl ⟨c7, trivial⟩ ?_
    refine E_callV (κ' := k_Model_classOf) (As := [vi (mI M3 131 i6 a1.toNatClampNeg)]) (st := []) mv_Model_classOf (Or.inl (tbk_mem (j := 15) (k := 39) rfl)) rfl (by decide +kernel) (Nat.le_of_ble_eq_true rfl) (Nat.le_of_ble_eq_true rfl) rfl (by omega) (lk_Model_classOf hγ this (mI M3 131 i6 a1.toNatClampNeg) _ M3 h) (fun _ _ => Qi_r) (fun v M8 hp => Qi_k (R := fun st => E γ k_Model_linkCode (d + 1) 37 [some (vr (some (11, this))), some (vi a1), none, none, none, none, none, none] st M8 (Qi Q)) hp (fun r9 h => ?_))
    refine E_blk (lv' := [some (vr (some (11, this))), some (vi a1), some (vi r9), none, none, none, none, none]) (st' := [vi r9]) (M1 := M8) (pc' := 39) (tb_Model hγ) [.istore_n 2, .iload_n 2] (by decide +kernel) rfl rfl trivial ?_
    refine E_if_ge (off := 7) (tgt := 46) (by decide +kernel) (by decide) (fun b10 => ?_) (fun b10 => ?_)
    · rw [if_pos b10] at h
      refine E_blk (lv' := [some (vr (some (11, this))), some (vi a1), some (vi r9), none, none, none, none, none]) (st' := [vi (3 : Int32), vr (some (11, this))]) (M1 := M8) (pc' := 48) (tb_Model hγ) [.aload_n 0, .iconst 3] (by decide +kernel) rfl rfl trivial ?_
      refine E_callV (κ' := k_Model_isOff) (As := [vi (3 : Int32)]) (st := []) mv_Model_isOff (Or.inl (tbk_mem (j := 15) (k := 47) rfl)) rfl (by decide +kernel) (Nat.le_of_ble_eq_true rfl) (Nat.le_of_ble_eq_true rfl) rfl (by omega) (lk_Model_isOff hγ this (3 : Int32) _ M8 h) (fun _ _ => Qi_r) (fun v M11 hp => Qi_k (R := fun st => E γ k_Model_linkCode (d + 1) 51 [some (vr (some (11, this))), some (vi a1), some (vi r9), none, none, none, none, none] st M11 (Qi Q)) hp (fun r12 h => ?_))
      refine E_if_ne (off := 21) (tgt := 72) (by decide +kernel) (by decide) (fun b13 => ?_) (fun b13 => ?_)
      · rw [if_pos b13] at h
        refine E_blk (lv' := [some (vr (some (11, this))), some (vi a1), some (vi r9), none, none, none, none, none]) (st' := [vr (mR M11 11 this 45)]) (M1 := M11) (pc' := 58) (tb_Model hγ) [.aload_n 0, .getfield 522] (by decide +kernel) rfl rfl trivial ?_
        obtain ⟨i14, ei14, h⟩ := h
        rw [ei14]
        obtain ⟨c15, h⟩ := h
        refine E_blk (lv' := [some (vr (some (11, this))), some (vi a1), some (vi r9), none, none, none, none, none]) (st' := [vi ((mI M11 132 i14 r9.toNatClampNeg) &&& (5 : Int32))]) (M1 := M11) (pc' := 65) (tb_Model hγ) [.getfield 429, .iload_n 2, .iaload, .iconst 5, .iand] (by decide +kernel) rfl rfl ⟨c15, trivial⟩ ?_
        refine E_if_eq (off := 7) (tgt := 72) (by decide +kernel) (by decide) (fun b16 => ?_) (fun b16 => ?_)
        · rw [if_pos b16] at h
          refine E_mask [true, true, true, false, false, false, false, false] rfl ?_
          exact lkk_Model_linkCode_j72 hγ K hK hd hb this Q a1 r9 M11 h
        · rw [if_neg b16] at h
          refine E_blk (lv' := [some (vr (some (11, this))), some (vi a1), some (vi r9), none, none, none, none, none]) (st' := [vi (2115 : Int32)]) (M1 := M11) (pc' := 71) (tb_Model hγ) [.sipush 2115] (by decide +kernel) rfl rfl trivial ?_
          exact E_iret rfl (by decide +kernel) h
      · rw [if_neg b13] at h
        refine E_mask [true, true, true, false, false, false, false, false] rfl ?_
        exact lkk_Model_linkCode_j72 hγ K hK hd hb this Q a1 r9 M11 h
    · rw [if_neg b10] at h
      refine E_blk (lv' := [some (vr (some (11, this))), some (vi a1), some (vi r9), none, none, none, none, none]) (st' := [vi (2011 : Int32)]) (M1 := M8) (pc' := 45) (tb_Model hγ) [.sipush 2011] (by decide +kernel) rfl rfl trivial ?_
      exact E_iret rfl (by decide +kernel) h
def wk_Model_isLinked_j36 (K : Nat → Int32 → (Int32 → Mem → Prop) → Mem → Prop) (this : Nat) (Q : Int32 → Mem → Prop) (v1 : Int32) (M : Mem) : Prop :=
  ∃ i9, (mR M 11 this 45) = some (12, i9) ∧ vp_in v1 (mL M 138 i9) ∧ if (mI M 138 i9 v1.toNatClampNeg) = (1 : Int32) then (Q (1 : Int32) M) else (Q (0 : Int32) M)
def wk_Model_isLinked_j35 (K : Nat → Int32 → (Int32 → Mem → Prop) → Mem → Prop) (this : Nat) (Q : Int32 → Mem → Prop) (v1 : Int32) (s0 : Int32) (s1 : Int32) (s2 : Nat) (M : Mem) : Prop :=
  vp_in s1 (mL M 138 s2) ∧ wk_Model_isLinked_j36 K this Q v1 (sI M 138 s2 s1.toNatClampNeg s0)
def wk_Model_isLinked (K : Nat → Int32 → (Int32 → Mem → Prop) → Mem → Prop) (this : Nat) (a1 : Int32) (Q : Int32 → Mem → Prop) (M : Mem) : Prop :=
  ∃ i1, (mR M 11 this 45) = some (12, i1) ∧ vp_in a1 (mL M 138 i1) ∧ if (mI M 138 i1 a1.toNatClampNeg) = 0 then (wk_Model_linkCode K this a1 (fun r5 M4 => ∃ i6, (mR M4 11 this 45) = some (12, i6) ∧ if r5 = 0 then (wk_Model_isLinked_j35 K this Q a1 (1 : Int32) a1 i6 M4) else (wk_Model_isLinked_j35 K this Q a1 r5 a1 i6 M4)) M) else (wk_Model_isLinked_j36 K this Q a1 M)
def wr_Model_isLinked : Nat → Nat → Int32 → (Int32 → Mem → Prop) → Mem → Prop
  | 0 => fun _ _ _ _ => False
  | n + 1 => wk_Model_isLinked (wr_Model_isLinked n)
def w_Model_isLinked (this : Nat) (a1 : Int32) (Q : Int32 → Mem → Prop) (M : Mem) : Prop := ∃ n : Nat, n ≤ 60 ∧ wr_Model_isLinked n this a1 Q M
def w_Model_linkCode (this : Nat) (a1 : Int32) (Q : Int32 → Mem → Prop) (M : Mem) : Prop := ∃ n : Nat, n ≤ 60 ∧ wk_Model_linkCode (wr_Model_isLinked n) this a1 Q M
set_option maxRecDepth 4096 in
theorem lkk_Model_isLinked_j36 {γ : Gm} (hγ : Gk γ) {d0 d : Nat} (K : Nat → Int32 → (Int32 → Mem → Prop) → Mem → Prop) (hK : ∀ (this : Nat) (a1 : Int32) (Q : Int32 → Mem → Prop) (M : Mem), K this a1 Q M → ∀ d, d0 ≤ d → E γ k_Model_isLinked d 0 [some (vr (some (11, this))), some (vi a1), none] [] M (Qi Q)) (hd : d0 ≤ d) (hb : 8 ≤ d) (this : Nat) (Q : Int32 → Mem → Prop) (v1 : Int32) (M : Mem) (h : wk_Model_isLinked_j36 K this Q v1 M) : E γ k_Model_isLinked (d + 2) 36 [some (vr (some (11, this))), some (vi v1), none] [] M (Qi Q) := by
  unfold wk_Model_isLinked_j36 at h
  refine E_blk (lv' := [some (vr (some (11, this))), some (vi v1), none]) (st' := [vr (mR M 11 this 45)]) (M1 := M) (pc' := 40) (tb_Model hγ) [.aload_n 0, .getfield 522] (by decide +kernel) rfl rfl trivial ?_
  obtain ⟨i9, ei9, h⟩ := h
  rw [ei9]
  obtain ⟨c10, h⟩ := h
  refine E_blk (lv' := [some (vr (some (11, this))), some (vi v1), none]) (st' := [vi (1 : Int32), vi (mI M 138 i9 v1.toNatClampNeg)]) (M1 := M) (pc' := 46) (tb_Model hγ) [.getfield 444, .iload_n 1, .iaload, .iconst 1] (by decide +kernel) rfl rfl ⟨c10, trivial⟩ ?_
  refine E_icmp_ne (off := 7) (tgt := 53) (by decide +kernel) (by decide) (fun b11 => ?_) (fun b11 => ?_)
  · rw [if_pos b11] at h
    refine E_blk (lv' := [some (vr (some (11, this))), some (vi v1), none]) (st' := [vi (1 : Int32)]) (M1 := M) (pc' := 50) (tb_Model hγ) [.iconst 1] (by decide +kernel) rfl rfl trivial ?_
    refine E_goto (off := 4) (tgt := 54) (by decide +kernel) (by decide) ?_
    exact E_zret rfl (Or.inr rfl) (by decide +kernel) h
  · rw [if_neg b11] at h
    refine E_blk (lv' := [some (vr (some (11, this))), some (vi v1), none]) (st' := [vi (0 : Int32)]) (M1 := M) (pc' := 54) (tb_Model hγ) [.iconst 0] (by decide +kernel) rfl rfl trivial ?_
    exact E_zret rfl (Or.inl rfl) (by decide +kernel) h
set_option maxRecDepth 4096 in
theorem lkk_Model_isLinked_j35 {γ : Gm} (hγ : Gk γ) {d0 d : Nat} (K : Nat → Int32 → (Int32 → Mem → Prop) → Mem → Prop) (hK : ∀ (this : Nat) (a1 : Int32) (Q : Int32 → Mem → Prop) (M : Mem), K this a1 Q M → ∀ d, d0 ≤ d → E γ k_Model_isLinked d 0 [some (vr (some (11, this))), some (vi a1), none] [] M (Qi Q)) (hd : d0 ≤ d) (hb : 8 ≤ d) (this : Nat) (Q : Int32 → Mem → Prop) (v1 : Int32) (s0 : Int32) (s1 : Int32) (s2 : Nat) (M : Mem) (h : wk_Model_isLinked_j35 K this Q v1 s0 s1 s2 M) : E γ k_Model_isLinked (d + 2) 35 [some (vr (some (11, this))), some (vi v1), none] [vi s0, vi s1, vr (some (138, s2))] M (Qi Q) := by
  unfold wk_Model_isLinked_j35 at h
  obtain ⟨c8, h⟩ := h
  refine E_blk (lv' := [some (vr (some (11, this))), some (vi v1), none]) (st' := []) (M1 := (sI M 138 s2 s1.toNatClampNeg s0)) (pc' := 36) (tb_Model hγ) [.iastore] (by decide +kernel) rfl rfl ⟨c8, trivial⟩ ?_
  refine E_mask [true, true, false] rfl ?_
  exact lkk_Model_isLinked_j36 hγ K hK hd hb this Q v1 (sI M 138 s2 s1.toNatClampNeg s0) h
set_option maxRecDepth 4096 in
theorem lkk_Model_isLinked {γ : Gm} (hγ : Gk γ) {d0 d : Nat} (K : Nat → Int32 → (Int32 → Mem → Prop) → Mem → Prop) (hK : ∀ (this : Nat) (a1 : Int32) (Q : Int32 → Mem → Prop) (M : Mem), K this a1 Q M → ∀ d, d0 ≤ d → E γ k_Model_isLinked d 0 [some (vr (some (11, this))), some (vi a1), none] [] M (Qi Q)) (hd : d0 ≤ d) (hb : 8 ≤ d) (this : Nat) (a1 : Int32) (Q : Int32 → Mem → Prop) (M : Mem) (h : wk_Model_isLinked K this a1 Q M) : E γ k_Model_isLinked (d + 2) 0 [some (vr (some (11, this))), some (vi a1), none] [] M (Qi Q) := by
  unfold wk_Model_isLinked at h
  refine E_blk (lv' := [some (vr (some (11, this))), some (vi a1), none]) (st' := [vr (mR M 11 this 45)]) (M1 := M) (pc' := 4) (tb_Model hγ) [.aload_n 0, .getfield 522] (by decide +kernel) rfl rfl trivial ?_
  obtain ⟨i1, ei1, h⟩ := h
  rw [ei1]
  obtain ⟨c2, h⟩ := h
  refine E_blk (lv' := [some (vr (some (11, this))), some (vi a1), none]) (st' := [vi (mI M 138 i1 a1.toNatClampNeg)]) (M1 := M) (pc' := 9) (tb_Model hγ) [.getfield 444, .iload_n 1, .iaload] (by decide +kernel) rfl rfl ⟨c2, trivial⟩ ?_
  refine E_if_ne (off := 27) (tgt := 36) (by decide +kernel) (by decide) (fun b3 => ?_) (fun b3 => ?_)
  · rw [if_pos b3] at h
    refine E_blk (lv' := [some (vr (some (11, this))), some (vi a1), none]) (st' := [vi a1, vr (some (11, this))]) (M1 := M) (pc' := 14) (tb_Model hγ) [.aload_n 0, .iload_n 1] (by decide +kernel) rfl rfl trivial ?_
    refine E_callV (κ' := k_Model_linkCode) (As := [vi a1]) (st := []) mv_Model_linkCode (Or.inl (tbk_mem (j := 15) (k := 149) rfl)) rfl (by decide +kernel) (Nat.le_of_ble_eq_true rfl) (Nat.le_of_ble_eq_true rfl) rfl (by omega) (lkk_Model_linkCode hγ K hK hd hb this a1 _ M h) (fun _ _ => Qi_r) (fun v M4 hp => Qi_k (R := fun st => E γ k_Model_isLinked (d + 2) 17 [some (vr (some (11, this))), some (vi a1), none] st M4 (Qi Q)) hp (fun r5 h => ?_))
    refine E_blk (lv' := [some (vr (some (11, this))), some (vi a1), some (vi r5)]) (st' := [vr (mR M4 11 this 45)]) (M1 := M4) (pc' := 22) (tb_Model hγ) [.istore_n 2, .aload_n 0, .getfield 522] (by decide +kernel) rfl rfl trivial ?_
    obtain ⟨i6, ei6, h⟩ := h
    rw [ei6]
    refine E_blk (lv' := [some (vr (some (11, this))), some (vi a1), some (vi r5)]) (st' := [vi r5, vi a1, vr (some (138, i6))]) (M1 := M4) (pc' := 27) (tb_Model hγ) [.getfield 444, .iload_n 1, .iload_n 2] (by decide +kernel) rfl rfl trivial ?_
    refine E_if_ne (off := 7) (tgt := 34) (by decide +kernel) (by decide) (fun b7 => ?_) (fun b7 => ?_)
    · rw [if_pos b7] at h
      refine E_blk (lv' := [some (vr (some (11, this))), some (vi a1), some (vi r5)]) (st' := [vi (1 : Int32), vi a1, vr (some (138, i6))]) (M1 := M4) (pc' := 31) (tb_Model hγ) [.iconst 1] (by decide +kernel) rfl rfl trivial ?_
      refine E_goto (off := 4) (tgt := 35) (by decide +kernel) (by decide) ?_
      refine E_mask [true, true, false] rfl ?_
      exact lkk_Model_isLinked_j35 hγ K hK hd hb this Q a1 (1 : Int32) a1 i6 M4 h
    · rw [if_neg b7] at h
      refine E_blk (lv' := [some (vr (some (11, this))), some (vi a1), some (vi r5)]) (st' := [vi r5, vi a1, vr (some (138, i6))]) (M1 := M4) (pc' := 35) (tb_Model hγ) [.iload_n 2] (by decide +kernel) rfl rfl trivial ?_
      refine E_mask [true, true, false] rfl ?_
      exact lkk_Model_isLinked_j35 hγ K hK hd hb this Q a1 r5 a1 i6 M4 h
  · rw [if_neg b3] at h
    refine E_mask [true, true, false] rfl ?_
    exact lkk_Model_isLinked_j36 hγ K hK hd hb this Q a1 M h
theorem lkr_Model_isLinked {γ : Gm} (hγ : Gk γ) : ∀ (n : Nat) (this : Nat) (a1 : Int32) (Q : Int32 → Mem → Prop) (M : Mem), wr_Model_isLinked n this a1 Q M → ∀ d, 8 + 2 * n ≤ d → E γ k_Model_isLinked d 0 [some (vr (some (11, this))), some (vi a1), none] [] M (Qi Q) := by
  intro n
  induction n with
  | zero => intro this a1 Q M h; exact h.elim
  | succ n ih =>
    intro this a1 Q M h d hd
    obtain ⟨e, rfl⟩ : ∃ e, d = e + 2 := ⟨d - 2, by omega⟩
    exact lkk_Model_isLinked hγ (d0 := 8 + 2 * n) (d := e) (wr_Model_isLinked n) ih (by omega) (by omega) this a1 Q M h
theorem lk_Model_isLinked {γ : Gm} (hγ : Gk γ) (this : Nat) (a1 : Int32) (Q : Int32 → Mem → Prop) (M : Mem) (h : w_Model_isLinked this a1 Q M) : E γ k_Model_isLinked 128 0 [some (vr (some (11, this))), some (vi a1), none] [] M (Qi Q) := by
  obtain ⟨n, hn, h⟩ := h
  exact lkr_Model_isLinked hγ n this a1 Q M h _ (by omega)
theorem lk_Model_linkCode {γ : Gm} (hγ : Gk γ) (this : Nat) (a1 : Int32) (Q : Int32 → Mem → Prop) (M : Mem) (h : w_Model_linkCode this a1 Q M) : E γ k_Model_linkCode 129 0 [some (vr (some (11, this))), some (vi a1), none, none, none, none, none, none] [] M (Qi Q) := by
  obtain ⟨n, hn, h⟩ := h
  exact lkk_Model_linkCode hγ (d0 := 8 + 2 * n) (d := 128) (wr_Model_isLinked n) (lkr_Model_isLinked hγ n) (by omega) (by omega) this a1 Q M h
def w_Model_fails (this : Nat) (a1 : Int32) (a2 : Int32) (Q : Int32 → Mem → Prop) (M : Mem) : Prop :=
  Q (-1 : Int32) (sI (sI M 11 this 81 a1) 11 this 80 a2)
set_option maxRecDepth 4096 in
theorem lk_Model_fails {γ : Gm} (hγ : Gk γ) (this : Nat) (a1 : Int32) (a2 : Int32) (Q : Int32 → Mem → Prop) (M : Mem) (h : w_Model_fails this a1 a2 Q M) : E γ k_Model_fails 0 0 [some (vr (some (11, this))), some (vi a1), some (vi a2)] [] M (Qi Q) := by
  unfold w_Model_fails at h
  refine E_blk (lv' := [some (vr (some (11, this))), some (vi a1), some (vi a2)]) (st' := [vi (-1 : Int32)]) (M1 := (sI (sI M 11 this 81 a1) 11 this 80 a2)) (pc' := 11) (tb_Model hγ) [.aload_n 0, .iload_n 1, .putfield 844, .aload_n 0, .iload_n 2, .putfield 847, .iconst (.negSucc 0)] (by decide +kernel) rfl rfl trivial ?_
  exact E_iret rfl (by decide +kernel) h
def w_Model_findLinked (this : Nat) (a1 : Int32) (Q : Int32 → Mem → Prop) (M : Mem) : Prop :=
  w_Model_classOf this a1 (fun r2 M1 => if 0 ≤ r2 then (w_Model_isLinked this r2 (fun r5 M4 => if r5 = 0 then (∃ i7, (mR M4 11 this 45) = some (12, i7) ∧ vp_in r2 (mL M4 138 i7) ∧ ¬ (100 : Int32) = 0 ∧ ∃ i10, (mR M4 11 this 45) = some (12, i10) ∧ vp_in r2 (mL M4 138 i10) ∧ ¬ (100 : Int32) = 0 ∧ w_Model_fails this ((mI M4 138 i7 r2.toNatClampNeg) / (100 : Int32)) ((mI M4 138 i10 r2.toNatClampNeg) - (mI M4 138 i10 r2.toNatClampNeg) / (100 : Int32) * (100 : Int32)) (fun r14 M13 => Q r14 M13) M4) else (Q r2 M4)) M1) else (w_Model_fails this (50 : Int32) (11 : Int32) (fun r16 M15 => Q r16 M15) M1)) M
set_option maxRecDepth 4096 in
theorem lk_Model_findLinked {γ : Gm} (hγ : Gk γ) (this : Nat) (a1 : Int32) (Q : Int32 → Mem → Prop) (M : Mem) (h : w_Model_findLinked this a1 Q M) : E γ k_Model_findLinked 129 0 [some (vr (some (11, this))), some (vi a1), none] [] M (Qi Q) := by
  unfold w_Model_findLinked at h
  refine E_blk (lv' := [some (vr (some (11, this))), some (vi a1), none]) (st' := [vi a1, vr (some (11, this))]) (M1 := M) (pc' := 2) (tb_Model hγ) [.aload_n 0, .iload_n 1] (by decide +kernel) rfl rfl trivial ?_
  refine E_callV (κ' := k_Model_classOf) (As := [vi a1]) (st := []) mv_Model_classOf (Or.inl (tbk_mem (j := 15) (k := 39) rfl)) rfl (by decide +kernel) (Nat.le_of_ble_eq_true rfl) (Nat.le_of_ble_eq_true rfl) rfl (by decide) (lk_Model_classOf hγ this a1 _ M h) (fun _ _ => Qi_r) (fun v M1 hp => Qi_k (R := fun st => E γ k_Model_findLinked 129 5 [some (vr (some (11, this))), some (vi a1), none] st M1 (Qi Q)) hp (fun r2 h => ?_))
  refine E_blk (lv' := [some (vr (some (11, this))), some (vi a1), some (vi r2)]) (st' := [vi r2]) (M1 := M1) (pc' := 7) (tb_Model hγ) [.istore_n 2, .iload_n 2] (by decide +kernel) rfl rfl trivial ?_
  refine E_if_ge (off := 12) (tgt := 19) (by decide +kernel) (by decide) (fun b3 => ?_) (fun b3 => ?_)
  · rw [if_pos b3] at h
    refine E_blk (lv' := [some (vr (some (11, this))), some (vi a1), some (vi r2)]) (st' := [vi r2, vr (some (11, this))]) (M1 := M1) (pc' := 21) (tb_Model hγ) [.aload_n 0, .iload_n 2] (by decide +kernel) rfl rfl trivial ?_
    refine E_callV (κ' := k_Model_isLinked) (As := [vi r2]) (st := []) mv_Model_isLinked (Or.inl (tbk_mem (j := 15) (k := 145) rfl)) rfl (by decide +kernel) (Nat.le_of_ble_eq_true rfl) (Nat.le_of_ble_eq_true rfl) rfl (by decide) (lk_Model_isLinked hγ this r2 _ M1 h) (fun _ _ => Qi_r) (fun v M4 hp => Qi_k (R := fun st => E γ k_Model_findLinked 129 24 [some (vr (some (11, this))), some (vi a1), some (vi r2)] st M4 (Qi Q)) hp (fun r5 h => ?_))
    refine E_if_eq (off := 7) (tgt := 31) (by decide +kernel) (by decide) (fun b6 => ?_) (fun b6 => ?_)
    · rw [if_pos b6] at h
      refine E_blk (lv' := [some (vr (some (11, this))), some (vi a1), some (vi r2)]) (st' := [vr (mR M4 11 this 45), vr (some (11, this))]) (M1 := M4) (pc' := 36) (tb_Model hγ) [.aload_n 0, .aload_n 0, .getfield 522] (by decide +kernel) rfl rfl trivial ?_
      obtain ⟨i7, ei7, h⟩ := h
      rw [ei7]
      obtain ⟨c8, c9, h⟩ := h
      refine E_blk (lv' := [some (vr (some (11, this))), some (vi a1), some (vi r2)]) (st' := [vr (mR M4 11 this 45), vi ((mI M4 138 i7 r2.toNatClampNeg) / (100 : Int32)), vr (some (11, this))]) (M1 := M4) (pc' := 48) (tb_Model hγ) [.getfield 444, .iload_n 2, .iaload, .bipush 100, .idiv, .aload_n 0, .getfield 522] (by decide +kernel) rfl rfl ⟨c8, c9, trivial⟩ ?_
      obtain ⟨i10, ei10, h⟩ := h
      rw [ei10]
      obtain ⟨c11, c12, h⟩ := h
      refine E_blk (lv' := [some (vr (some (11, this))), some (vi a1), some (vi r2)]) (st' := [vi ((mI M4 138 i10 r2.toNatClampNeg) - (mI M4 138 i10 r2.toNatClampNeg) / (100 : Int32) * (100 : Int32)), vi ((mI M4 138 i7 r2.toNatClampNeg) / (100 : Int32)), vr (some (11, this))]) (M1 := M4) (pc' := 56) (tb_Model hγ) [.getfield 444, .iload_n 2, .iaload, .bipush 100, .irem] (by decide +kernel) rfl rfl ⟨c11, c12, trivial⟩ ?_
      refine E_callV (κ' := k_Model_fails) (As := [vi ((mI M4 138 i7 r2.toNatClampNeg) / (100 : Int32)), vi ((mI M4 138 i10 r2.toNatClampNeg) - (mI M4 138 i10 r2.toNatClampNeg) / (100 : Int32) * (100 : Int32))]) (st := []) mv_Model_fails (Or.inl (tbk_mem (j := 16) (k := 87) rfl)) rfl (by decide +kernel) (Nat.le_of_ble_eq_true rfl) (Nat.le_of_ble_eq_true rfl) rfl (by decide) (lk_Model_fails hγ this ((mI M4 138 i7 r2.toNatClampNeg) / (100 : Int32)) ((mI M4 138 i10 r2.toNatClampNeg) - (mI M4 138 i10 r2.toNatClampNeg) / (100 : Int32) * (100 : Int32)) _ M4 h) (fun _ _ => Qi_r) (fun v M13 hp => Qi_k (R := fun st => E γ k_Model_findLinked 129 59 [some (vr (some (11, this))), some (vi a1), some (vi r2)] st M13 (Qi Q)) hp (fun r14 h => ?_))
      exact E_iret rfl (by decide +kernel) h
    · rw [if_neg b6] at h
      refine E_blk (lv' := [some (vr (some (11, this))), some (vi a1), some (vi r2)]) (st' := [vi r2]) (M1 := M4) (pc' := 28) (tb_Model hγ) [.iload_n 2] (by decide +kernel) rfl rfl trivial ?_
      refine E_goto (off := 31) (tgt := 59) (by decide +kernel) (by decide) ?_
      exact E_iret rfl (by decide +kernel) h
  · rw [if_neg b3] at h
    refine E_blk (lv' := [some (vr (some (11, this))), some (vi a1), some (vi r2)]) (st' := [vi (11 : Int32), vi (50 : Int32), vr (some (11, this))]) (M1 := M1) (pc' := 15) (tb_Model hγ) [.aload_n 0, .bipush 50, .bipush 11] (by decide +kernel) rfl rfl trivial ?_
    refine E_callV (κ' := k_Model_fails) (As := [vi (50 : Int32), vi (11 : Int32)]) (st := []) mv_Model_fails (Or.inl (tbk_mem (j := 16) (k := 87) rfl)) rfl (by decide +kernel) (Nat.le_of_ble_eq_true rfl) (Nat.le_of_ble_eq_true rfl) rfl (by decide) (lk_Model_fails hγ this (50 : Int32) (11 : Int32) _ M1 h) (fun _ _ => Qi_r) (fun v M15 hp => Qi_k (R := fun st => E γ k_Model_findLinked 129 18 [some (vr (some (11, this))), some (vi a1), some (vi r2)] st M15 (Qi Q)) hp (fun r16 h => ?_))
    exact E_iret rfl (by decide +kernel) h
def wk_Model_fieldByFaces_j143 (K : Nat → Int32 → Int32 → Int32 → (Int32 → Mem → Prop) → Mem → Prop) (this : Nat) (Q : Int32 → Mem → Prop) (k92 : Int32 → Int32 → Int32 → Int32 → Mem → Prop) (v1 : Int32) (v2 : Int32) (v3 : Int32) (v4 : Int32) (s0 : Int32) (M : Mem) : Prop :=
  if s0 < 0 then (k92 v1 v2 v3 (v4 + (1 : Int32)) M) else (Q s0 M)
def wk_Model_fieldByFaces_L92 (K : Nat → Int32 → Int32 → Int32 → (Int32 → Mem → Prop) → Mem → Prop) (this : Nat) (Q : Int32 → Mem → Prop) : Nat → Int32 → Int32 → Int32 → Int32 → Mem → Prop
  | 0, _, _, _, _, _ => False
  | n + 1, v1, v2, v3, v4, M => ∃ i6, (mR M 11 this 45) = some (12, i6) ∧ vp_in v1 (mL M 134 i6) ∧ if (mI M 134 i6 v1.toNatClampNeg) ≤ v4 then (Q (-1 : Int32) M) else (∃ i9, (mR M 11 this 45) = some (12, i9) ∧ vp_in (((4 : Int32) * v1) + v4) (mL M 133 i9) ∧ w_Model_classOf this (mI M 133 i9 (((4 : Int32) * v1) + v4).toNatClampNeg) (fun r12 M11 => if r12 < 0 then (wk_Model_fieldByFaces_j143 K this Q (wk_Model_fieldByFaces_L92 K this Q n) v1 v2 v3 v4 (-1 : Int32) M11) else (K this r12 v2 v3 (fun r16 M15 => wk_Model_fieldByFaces_j143 K this Q (wk_Model_fieldByFaces_L92 K this Q n) v1 v2 v3 v4 r16 M15) M11)) M)
def wk_Model_fieldByFaces_j83 (K : Nat → Int32 → Int32 → Int32 → (Int32 → Mem → Prop) → Mem → Prop) (this : Nat) (Q : Int32 → Mem → Prop) (k33 : Int32 → Int32 → Int32 → Int32 → Mem → Prop) (v1 : Int32) (v2 : Int32) (v3 : Int32) (v4 : Int32) (M : Mem) : Prop :=
  k33 v1 v2 v3 (v4 + (1 : Int32)) M
def wk_Model_fieldByFaces_L33 (K : Nat → Int32 → Int32 → Int32 → (Int32 → Mem → Prop) → Mem → Prop) (this : Nat) (Q : Int32 → Mem → Prop) : Nat → Int32 → Int32 → Int32 → Int32 → Mem → Prop
  | 0, _, _, _, _, _ => False
  | n + 1, v1, v2, v3, v4, M => ∃ i3, (mR M 11 this 45) = some (12, i3) ∧ vp_in v1 (mL M 135 i3) ∧ if (((8 : Int32) * v1) + (mI M 135 i3 v1.toNatClampNeg)) ≤ v4 then (∃ n17 : Nat, wk_Model_fieldByFaces_L92 K this Q n17 v1 v2 v3 (0 : Int32) M) else (∃ i18, (mR M 11 this 45) = some (12, i18) ∧ vp_in v4 (mL M 139 i18) ∧ if (mI M 139 i18 v4.toNatClampNeg) = v2 then (∃ i21, (mR M 11 this 45) = some (12, i21) ∧ vp_in v4 (mL M 140 i21) ∧ if (mI M 140 i21 v4.toNatClampNeg) = v3 then (Q v4 M) else (wk_Model_fieldByFaces_j83 K this Q (wk_Model_fieldByFaces_L33 K this Q n) v1 v2 v3 v4 M)) else (wk_Model_fieldByFaces_j83 K this Q (wk_Model_fieldByFaces_L33 K this Q n) v1 v2 v3 v4 M))
def wk_Model_fieldByFaces (K : Nat → Int32 → Int32 → Int32 → (Int32 → Mem → Prop) → Mem → Prop) (this : Nat) (a1 : Int32) (a2 : Int32) (a3 : Int32) (Q : Int32 → Mem → Prop) (M : Mem) : Prop :=
  if (lg_cmp (((mJ M 11 this 82) >>> (a1.toInt64 &&& 63)) &&& (1 : Int64)) (1 : Int64)) = 0 then (Q (-1 : Int32) M) else (∃ M2, M2 = (sJ M 11 this 82 ((mJ M 11 this 82) ||| ((1 : Int64) <<< (a1.toInt64 &&& 63)))) ∧ ∃ n24 : Nat, wk_Model_fieldByFaces_L33 K this Q n24 a1 a2 a3 ((8 : Int32) * a1) M2)
def wr_Model_fieldByFaces : Nat → Nat → Int32 → Int32 → Int32 → (Int32 → Mem → Prop) → Mem → Prop
  | 0 => fun _ _ _ _ _ _ => False
  | n + 1 => wk_Model_fieldByFaces (wr_Model_fieldByFaces n)
def w_Model_fieldByFaces (this : Nat) (a1 : Int32) (a2 : Int32) (a3 : Int32) (Q : Int32 → Mem → Prop) (M : Mem) : Prop := ∃ n : Nat, n ≤ 60 ∧ wr_Model_fieldByFaces n this a1 a2 a3 Q M
set_option maxRecDepth 4096 in
theorem lkk_Model_fieldByFaces_j143 {γ : Gm} (hγ : Gk γ) {d0 d : Nat} (K : Nat → Int32 → Int32 → Int32 → (Int32 → Mem → Prop) → Mem → Prop) (hK : ∀ (this : Nat) (a1 : Int32) (a2 : Int32) (a3 : Int32) (Q : Int32 → Mem → Prop) (M : Mem), K this a1 a2 a3 Q M → ∀ d, d0 ≤ d → E γ k_Model_fieldByFaces d 0 [some (vr (some (11, this))), some (vi a1), some (vi a2), some (vi a3), none, none, none] [] M (Qi Q)) (hd : d0 ≤ d) (hb : 1 ≤ d) (this : Nat) (Q : Int32 → Mem → Prop) (k92 : Int32 → Int32 → Int32 → Int32 → Mem → Prop) (hk92 : ∀ (v1 : Int32) (v2 : Int32) (v3 : Int32) (v4 : Int32) (M : Mem), k92 v1 v2 v3 v4 M → E γ k_Model_fieldByFaces (d + 1) 92 [some (vr (some (11, this))), some (vi v1), some (vi v2), some (vi v3), some (vi v4), none, none] [] M (Qi Q)) (v1 : Int32) (v2 : Int32) (v3 : Int32) (v4 : Int32) (s0 : Int32) (M : Mem) (h : wk_Model_fieldByFaces_j143 K this Q k92 v1 v2 v3 v4 s0 M) : E γ k_Model_fieldByFaces (d + 1) 143 [some (vr (some (11, this))), some (vi v1), some (vi v2), some (vi v3), some (vi v4), none, none] [vi s0] M (Qi Q) := by
  unfold wk_Model_fieldByFaces_j143 at h
  refine E_blk (lv' := [some (vr (some (11, this))), some (vi v1), some (vi v2), some (vi v3), some (vi v4), none, some (vi s0)]) (st' := [vi s0]) (M1 := M) (pc' := 147) (tb_Model hγ) [.istore 6, .iload 6] (by decide +kernel) rfl rfl trivial ?_
  refine E_if_lt (off := 6) (tgt := 153) (by decide +kernel) (by decide) (fun b14 => ?_) (fun b14 => ?_)
  · rw [if_pos b14] at h
    refine E_blk (lv' := [some (vr (some (11, this))), some (vi v1), some (vi v2), some (vi v3), some (vi (v4 + (1 : Int32))), none, some (vi s0)]) (st' := []) (M1 := M) (pc' := 156) (tb_Model hγ) [.iinc 4 1] (by decide +kernel) rfl rfl trivial ?_
    refine E_goto (off := -64) (tgt := 92) (by decide +kernel) (by decide) ?_
    refine E_mask [true, true, true, true, true, false, false] rfl ?_
    exact hk92 v1 v2 v3 (v4 + (1 : Int32)) M h
  · rw [if_neg b14] at h
    refine E_blk (lv' := [some (vr (some (11, this))), some (vi v1), some (vi v2), some (vi v3), some (vi v4), none, some (vi s0)]) (st' := [vi s0]) (M1 := M) (pc' := 152) (tb_Model hγ) [.iload 6] (by decide +kernel) rfl rfl trivial ?_
    exact E_iret rfl (by decide +kernel) h
set_option maxRecDepth 4096 in
theorem lkk_Model_fieldByFaces_L92 {γ : Gm} (hγ : Gk γ) {d0 d : Nat} (K : Nat → Int32 → Int32 → Int32 → (Int32 → Mem → Prop) → Mem → Prop) (hK : ∀ (this : Nat) (a1 : Int32) (a2 : Int32) (a3 : Int32) (Q : Int32 → Mem → Prop) (M : Mem), K this a1 a2 a3 Q M → ∀ d, d0 ≤ d → E γ k_Model_fieldByFaces d 0 [some (vr (some (11, this))), some (vi a1), some (vi a2), some (vi a3), none, none, none] [] M (Qi Q)) (hd : d0 ≤ d) (hb : 1 ≤ d) (this : Nat) (Q : Int32 → Mem → Prop) : ∀ (n : Nat) (v1 : Int32) (v2 : Int32) (v3 : Int32) (v4 : Int32) (M : Mem), wk_Model_fieldByFaces_L92 K this Q n v1 v2 v3 v4 M → E γ k_Model_fieldByFaces (d + 1) 92 [some (vr (some (11, this))), some (vi v1), some (vi v2), some (vi v3), some (vi v4), none, none] [] M (Qi Q) := by
  intro n
  induction n with
  | zero => intro v1 v2 v3 v4 M h; exact h.elim
  | succ n ih =>
    intro v1 v2 v3 v4 M h
    unfold wk_Model_fieldByFaces_L92 at h
    refine E_blk (lv' := [some (vr (some (11, this))), some (vi v1), some (vi v2), some (vi v3), some (vi v4), none, none]) (st' := [vr (mR M 11 this 45), vi v4]) (M1 := M) (pc' := 98) (tb_Model hγ) [.iload 4, .aload_n 0, .getfield 522] (by decide +kernel) rfl rfl trivial ?_
    obtain ⟨i6, ei6, h⟩ := h
    rw [ei6]
    obtain ⟨c7, h⟩ := h
    refine E_blk (lv' := [some (vr (some (11, this))), some (vi v1), some (vi v2), some (vi v3), some (vi v4), none, none]) (st' := [vi (mI M 134 i6 v1.toNatClampNeg), vi v4]) (M1 := M) (pc' := 103) (tb_Model hγ) [.getfield 432, .iload_n 1, .iaload] (by decide +kernel) rfl rfl ⟨c7, trivial⟩ ?_
    refine E_icmp_ge (off := 56) (tgt := 159) (by decide +kernel) (by decide) (fun b8 => ?_) (fun b8 => ?_)
    · rw [if_pos b8] at h
      refine E_blk (lv' := [some (vr (some (11, this))), some (vi v1), some (vi v2), some (vi v3), some (vi v4), none, none]) (st' := [vi (-1 : Int32)]) (M1 := M) (pc' := 160) (tb_Model hγ) [.iconst (.negSucc 0)] (by decide +kernel) rfl rfl trivial ?_
      exact E_iret rfl (by decide +kernel) h
    · rw [if_neg b8] at h
      refine E_blk (lv' := [some (vr (some (11, this))), some (vi v1), some (vi v2), some (vi v3), some (vi v4), none, none]) (st' := [vr (mR M 11 this 45), vr (some (11, this))]) (M1 := M) (pc' := 111) (tb_Model hγ) [.aload_n 0, .aload_n 0, .getfield 522] (by decide +kernel) rfl rfl trivial ?_
      obtain ⟨i9, ei9, h⟩ := h
      rw [ei9]
      obtain ⟨c10, h⟩ := h
      refine E_blk (lv' := [some (vr (some (11, this))), some (vi v1), some (vi v2), some (vi v3), some (vi v4), none, none]) (st' := [vi (mI M 133 i9 (((4 : Int32) * v1) + v4).toNatClampNeg), vr (some (11, this))]) (M1 := M) (pc' := 121) (tb_Model hγ) [.getfield 612, .iconst 4, .iload_n 1, .imul, .iload 4, .iadd, .iaload] (by decide +kernel) rfl rfl ⟨c10, trivial⟩ ?_
      refine E_callV (κ' := k_Model_classOf) (As := [vi (mI M 133 i9 (((4 : Int32) * v1) + v4).toNatClampNeg)]) (st := []) mv_Model_classOf (Or.inl (tbk_mem (j := 15) (k := 39) rfl)) rfl (by decide +kernel) (Nat.le_of_ble_eq_true rfl) (Nat.le_of_ble_eq_true rfl) rfl (by omega) (lk_Model_classOf hγ this (mI M 133 i9 (((4 : Int32) * v1) + v4).toNatClampNeg) _ M h) (fun _ _ => Qi_r) (fun v M11 hp => Qi_k (R := fun st => E γ k_Model_fieldByFaces (d + 1) 124 [some (vr (some (11, this))), some (vi v1), some (vi v2), some (vi v3), some (vi v4), none, none] st M11 (Qi Q)) hp (fun r12 h => ?_))
      refine E_blk (lv' := [some (vr (some (11, this))), some (vi v1), some (vi v2), some (vi v3), some (vi v4), some (vi r12), none]) (st' := [vi r12]) (M1 := M11) (pc' := 128) (tb_Model hγ) [.istore 5, .iload 5] (by decide +kernel) rfl rfl trivial ?_
      refine E_if_lt (off := 14) (tgt := 142) (by decide +kernel) (by decide) (fun b13 => ?_) (fun b13 => ?_)
      · rw [if_pos b13] at h
        refine E_blk (lv' := [some (vr (some (11, this))), some (vi v1), some (vi v2), some (vi v3), some (vi v4), some (vi r12), none]) (st' := [vi (-1 : Int32)]) (M1 := M11) (pc' := 143) (tb_Model hγ) [.iconst (.negSucc 0)] (by decide +kernel) rfl rfl trivial ?_
        refine E_mask [true, true, true, true, true, false, false] rfl ?_
        exact lkk_Model_fieldByFaces_j143 hγ K hK hd hb this Q (wk_Model_fieldByFaces_L92 K this Q n) ih v1 v2 v3 v4 (-1 : Int32) M11 h
      · rw [if_neg b13] at h
        refine E_blk (lv' := [some (vr (some (11, this))), some (vi v1), some (vi v2), some (vi v3), some (vi v4), some (vi r12), none]) (st' := [vi v3, vi v2, vi r12, vr (some (11, this))]) (M1 := M11) (pc' := 136) (tb_Model hγ) [.aload_n 0, .iload 5, .iload_n 2, .iload_n 3] (by decide +kernel) rfl rfl trivial ?_
        refine E_callV (κ' := k_Model_fieldByFaces) (As := [vi r12, vi v2, vi v3]) (st := []) mv_Model_fieldByFaces (Or.inl (tbk_mem (j := 16) (k := 163) rfl)) rfl (by decide +kernel) (Nat.le_of_ble_eq_true rfl) (Nat.le_of_ble_eq_true rfl) rfl (by omega) (hK this r12 v2 v3 _ M11 h (d + 0) (by omega)) (fun _ _ => Qi_r) (fun v M15 hp => Qi_k (R := fun st => E γ k_Model_fieldByFaces (d + 1) 139 [some (vr (some (11, this))), some (vi v1), some (vi v2), some (vi v3), some (vi v4), some (vi r12), none] st M15 (Qi Q)) hp (fun r16 h => ?_))
        refine E_goto (off := 4) (tgt := 143) (by decide +kernel) (by decide) ?_
        refine E_mask [true, true, true, true, true, false, false] rfl ?_
        exact lkk_Model_fieldByFaces_j143 hγ K hK hd hb this Q (wk_Model_fieldByFaces_L92 K this Q n) ih v1 v2 v3 v4 r16 M15 h
set_option maxRecDepth 4096 in
theorem lkk_Model_fieldByFaces_j83 {γ : Gm} (hγ : Gk γ) {d0 d : Nat} (K : Nat → Int32 → Int32 → Int32 → (Int32 → Mem → Prop) → Mem → Prop) (hK : ∀ (this : Nat) (a1 : Int32) (a2 : Int32) (a3 : Int32) (Q : Int32 → Mem → Prop) (M : Mem), K this a1 a2 a3 Q M → ∀ d, d0 ≤ d → E γ k_Model_fieldByFaces d 0 [some (vr (some (11, this))), some (vi a1), some (vi a2), some (vi a3), none, none, none] [] M (Qi Q)) (hd : d0 ≤ d) (hb : 1 ≤ d) (this : Nat) (Q : Int32 → Mem → Prop) (k33 : Int32 → Int32 → Int32 → Int32 → Mem → Prop) (hk33 : ∀ (v1 : Int32) (v2 : Int32) (v3 : Int32) (v4 : Int32) (M : Mem), k33 v1 v2 v3 v4 M → E γ k_Model_fieldByFaces (d + 1) 33 [some (vr (some (11, this))), some (vi v1), some (vi v2), some (vi v3), some (vi v4), none, none] [] M (Qi Q)) (v1 : Int32) (v2 : Int32) (v3 : Int32) (v4 : Int32) (M : Mem) (h : wk_Model_fieldByFaces_j83 K this Q k33 v1 v2 v3 v4 M) : E γ k_Model_fieldByFaces (d + 1) 83 [some (vr (some (11, this))), some (vi v1), some (vi v2), some (vi v3), some (vi v4), none, none] [] M (Qi Q) := by
  unfold wk_Model_fieldByFaces_j83 at h
  refine E_blk (lv' := [some (vr (some (11, this))), some (vi v1), some (vi v2), some (vi v3), some (vi (v4 + (1 : Int32))), none, none]) (st' := []) (M1 := M) (pc' := 86) (tb_Model hγ) [.iinc 4 1] (by decide +kernel) rfl rfl trivial ?_
  refine E_goto (off := -53) (tgt := 33) (by decide +kernel) (by decide) ?_
  refine E_mask [true, true, true, true, true, false, false] rfl ?_
  exact hk33 v1 v2 v3 (v4 + (1 : Int32)) M h
set_option maxRecDepth 4096 in
theorem lkk_Model_fieldByFaces_L33 {γ : Gm} (hγ : Gk γ) {d0 d : Nat} (K : Nat → Int32 → Int32 → Int32 → (Int32 → Mem → Prop) → Mem → Prop) (hK : ∀ (this : Nat) (a1 : Int32) (a2 : Int32) (a3 : Int32) (Q : Int32 → Mem → Prop) (M : Mem), K this a1 a2 a3 Q M → ∀ d, d0 ≤ d → E γ k_Model_fieldByFaces d 0 [some (vr (some (11, this))), some (vi a1), some (vi a2), some (vi a3), none, none, none] [] M (Qi Q)) (hd : d0 ≤ d) (hb : 1 ≤ d) (this : Nat) (Q : Int32 → Mem → Prop) : ∀ (n : Nat) (v1 : Int32) (v2 : Int32) (v3 : Int32) (v4 : Int32) (M : Mem), wk_Model_fieldByFaces_L33 K this Q n v1 v2 v3 v4 M → E γ k_Model_fieldByFaces (d + 1) 33 [some (vr (some (11, this))), some (vi v1), some (vi v2), some (vi v3), some (vi v4), none, none] [] M (Qi Q) := by
  intro n
  induction n with
  | zero => intro v1 v2 v3 v4 M h; exact h.elim
  | succ n ih =>
    intro v1 v2 v3 v4 M h
    unfold wk_Model_fieldByFaces_L33 at h
    refine E_blk (lv' := [some (vr (some (11, this))), some (vi v1), some (vi v2), some (vi v3), some (vi v4), none, none]) (st' := [vr (mR M 11 this 45), vi ((8 : Int32) * v1), vi v4]) (M1 := M) (pc' := 43) (tb_Model hγ) [.iload 4, .bipush 8, .iload_n 1, .imul, .aload_n 0, .getfield 522] (by decide +kernel) rfl rfl trivial ?_
    obtain ⟨i3, ei3, h⟩ := h
    rw [ei3]
    obtain ⟨c4, h⟩ := h
    refine E_blk (lv' := [some (vr (some (11, this))), some (vi v1), some (vi v2), some (vi v3), some (vi v4), none, none]) (st' := [vi (((8 : Int32) * v1) + (mI M 135 i3 v1.toNatClampNeg)), vi v4]) (M1 := M) (pc' := 49) (tb_Model hγ) [.getfield 435, .iload_n 1, .iaload, .iadd] (by decide +kernel) rfl rfl ⟨c4, trivial⟩ ?_
    refine E_icmp_ge (off := 40) (tgt := 89) (by decide +kernel) (by decide) (fun b5 => ?_) (fun b5 => ?_)
    · rw [if_pos b5] at h
      refine E_blk (lv' := [some (vr (some (11, this))), some (vi v1), some (vi v2), some (vi v3), some (vi (0 : Int32)), none, none]) (st' := []) (M1 := M) (pc' := 92) (tb_Model hγ) [.iconst 0, .istore 4] (by decide +kernel) rfl rfl trivial ?_
      obtain ⟨n17, h⟩ := h
      refine E_mask [true, true, true, true, true, false, false] rfl ?_
      exact lkk_Model_fieldByFaces_L92 hγ K hK hd hb this Q n17 v1 v2 v3 (0 : Int32) M h
    · rw [if_neg b5] at h
      refine E_blk (lv' := [some (vr (some (11, this))), some (vi v1), some (vi v2), some (vi v3), some (vi v4), none, none]) (st' := [vr (mR M 11 this 45)]) (M1 := M) (pc' := 56) (tb_Model hγ) [.aload_n 0, .getfield 522] (by decide +kernel) rfl rfl trivial ?_
      obtain ⟨i18, ei18, h⟩ := h
      rw [ei18]
      obtain ⟨c19, h⟩ := h
      refine E_blk (lv' := [some (vr (some (11, this))), some (vi v1), some (vi v2), some (vi v3), some (vi v4), none, none]) (st' := [vi v2, vi (mI M 139 i18 v4.toNatClampNeg)]) (M1 := M) (pc' := 63) (tb_Model hγ) [.getfield 621, .iload 4, .iaload, .iload_n 2] (by decide +kernel) rfl rfl ⟨c19, trivial⟩ ?_
      refine E_icmp_ne (off := 20) (tgt := 83) (by decide +kernel) (by decide) (fun b20 => ?_) (fun b20 => ?_)
      · rw [if_pos b20] at h
        refine E_blk (lv' := [some (vr (some (11, this))), some (vi v1), some (vi v2), some (vi v3), some (vi v4), none, none]) (st' := [vr (mR M 11 this 45)]) (M1 := M) (pc' := 70) (tb_Model hγ) [.aload_n 0, .getfield 522] (by decide +kernel) rfl rfl trivial ?_
        obtain ⟨i21, ei21, h⟩ := h
        rw [ei21]
        obtain ⟨c22, h⟩ := h
        refine E_blk (lv' := [some (vr (some (11, this))), some (vi v1), some (vi v2), some (vi v3), some (vi v4), none, none]) (st' := [vi v3, vi (mI M 140 i21 v4.toNatClampNeg)]) (M1 := M) (pc' := 77) (tb_Model hγ) [.getfield 624, .iload 4, .iaload, .iload_n 3] (by decide +kernel) rfl rfl ⟨c22, trivial⟩ ?_
        refine E_icmp_ne (off := 6) (tgt := 83) (by decide +kernel) (by decide) (fun b23 => ?_) (fun b23 => ?_)
        · rw [if_pos b23] at h
          refine E_blk (lv' := [some (vr (some (11, this))), some (vi v1), some (vi v2), some (vi v3), some (vi v4), none, none]) (st' := [vi v4]) (M1 := M) (pc' := 82) (tb_Model hγ) [.iload 4] (by decide +kernel) rfl rfl trivial ?_
          exact E_iret rfl (by decide +kernel) h
        · rw [if_neg b23] at h
          refine E_mask [true, true, true, true, true, false, false] rfl ?_
          exact lkk_Model_fieldByFaces_j83 hγ K hK hd hb this Q (wk_Model_fieldByFaces_L33 K this Q n) ih v1 v2 v3 v4 M h
      · rw [if_neg b20] at h
        refine E_mask [true, true, true, true, true, false, false] rfl ?_
        exact lkk_Model_fieldByFaces_j83 hγ K hK hd hb this Q (wk_Model_fieldByFaces_L33 K this Q n) ih v1 v2 v3 v4 M h
set_option maxRecDepth 4096 in
theorem lkk_Model_fieldByFaces {γ : Gm} (hγ : Gk γ) {d0 d : Nat} (K : Nat → Int32 → Int32 → Int32 → (Int32 → Mem → Prop) → Mem → Prop) (hK : ∀ (this : Nat) (a1 : Int32) (a2 : Int32) (a3 : Int32) (Q : Int32 → Mem → Prop) (M : Mem), K this a1 a2 a3 Q M → ∀ d, d0 ≤ d → E γ k_Model_fieldByFaces d 0 [some (vr (some (11, this))), some (vi a1), some (vi a2), some (vi a3), none, none, none] [] M (Qi Q)) (hd : d0 ≤ d) (hb : 1 ≤ d) (this : Nat) (a1 : Int32) (a2 : Int32) (a3 : Int32) (Q : Int32 → Mem → Prop) (M : Mem) (h : wk_Model_fieldByFaces K this a1 a2 a3 Q M) : E γ k_Model_fieldByFaces (d + 1) 0 [some (vr (some (11, this))), some (vi a1), some (vi a2), some (vi a3), none, none, none] [] M (Qi Q) := by
  unfold wk_Model_fieldByFaces at h
  refine E_blk (lv' := [some (vr (some (11, this))), some (vi a1), some (vi a2), some (vi a3), none, none, none]) (st' := [vi (lg_cmp (((mJ M 11 this 82) >>> (a1.toInt64 &&& 63)) &&& (1 : Int64)) (1 : Int64))]) (M1 := M) (pc' := 10) (tb_Model hγ) [.aload_n 0, .getfield 853, .iload_n 1, .lshr, .lconst 1, .land, .lconst 1, .lcmp] (by decide +kernel) rfl rfl trivial ?_
  refine E_if_ne (off := 5) (tgt := 15) (by decide +kernel) (by decide) (fun b1 => ?_) (fun b1 => ?_)
  · rw [if_pos b1] at h
    refine E_blk (lv' := [some (vr (some (11, this))), some (vi a1), some (vi a2), some (vi a3), none, none, none]) (st' := [vi (-1 : Int32)]) (M1 := M) (pc' := 14) (tb_Model hγ) [.iconst (.negSucc 0)] (by decide +kernel) rfl rfl trivial ?_
    exact E_iret rfl (by decide +kernel) h
  · rw [if_neg b1] at h
    refine E_blk (lv' := [some (vr (some (11, this))), some (vi a1), some (vi a2), some (vi a3), none, none, none]) (st' := []) (M1 := (sJ M 11 this 82 ((mJ M 11 this 82) ||| ((1 : Int64) <<< (a1.toInt64 &&& 63))))) (pc' := 27) (tb_Model hγ) [.aload_n 0, .dup, .getfield 853, .lconst 1, .iload_n 1, .lshl, .lor, .putfield 853] (by decide +kernel) rfl rfl trivial ?_
    obtain ⟨M2, eM2, h⟩ := h
    rw [← eM2]
    refine E_blk (lv' := [some (vr (some (11, this))), some (vi a1), some (vi a2), some (vi a3), some (vi ((8 : Int32) * a1)), none, none]) (st' := []) (M1 := M2) (pc' := 33) (tb_Model hγ) [.bipush 8, .iload_n 1, .imul, .istore 4] (by decide +kernel) rfl rfl trivial ?_
    obtain ⟨n24, h⟩ := h
    refine E_mask [true, true, true, true, true, false, false] rfl ?_
    exact lkk_Model_fieldByFaces_L33 hγ K hK hd hb this Q n24 a1 a2 a3 ((8 : Int32) * a1) M2 h
theorem lkr_Model_fieldByFaces {γ : Gm} (hγ : Gk γ) : ∀ (n : Nat) (this : Nat) (a1 : Int32) (a2 : Int32) (a3 : Int32) (Q : Int32 → Mem → Prop) (M : Mem), wr_Model_fieldByFaces n this a1 a2 a3 Q M → ∀ d, 1 + 1 * n ≤ d → E γ k_Model_fieldByFaces d 0 [some (vr (some (11, this))), some (vi a1), some (vi a2), some (vi a3), none, none, none] [] M (Qi Q) := by
  intro n
  induction n with
  | zero => intro this a1 a2 a3 Q M h; exact h.elim
  | succ n ih =>
    intro this a1 a2 a3 Q M h d hd
    obtain ⟨e, rfl⟩ : ∃ e, d = e + 1 := ⟨d - 1, by omega⟩
    exact lkk_Model_fieldByFaces hγ (d0 := 1 + 1 * n) (d := e) (wr_Model_fieldByFaces n) ih (by omega) (by omega) this a1 a2 a3 Q M h
theorem lk_Model_fieldByFaces {γ : Gm} (hγ : Gk γ) (this : Nat) (a1 : Int32) (a2 : Int32) (a3 : Int32) (Q : Int32 → Mem → Prop) (M : Mem) (h : w_Model_fieldByFaces this a1 a2 a3 Q M) : E γ k_Model_fieldByFaces 61 0 [some (vr (some (11, this))), some (vi a1), some (vi a2), some (vi a3), none, none, none] [] M (Qi Q) := by
  obtain ⟨n, hn, h⟩ := h
  exact lkr_Model_fieldByFaces hγ n this a1 a2 a3 Q M h _ (by omega)
def w_Model_findField_j297 (this : Nat) (Q : Int32 → Mem → Prop)  (M : Mem) : Prop :=
  w_Model_fails this (54 : Int32) (14 : Int32) (fun r37 M36 => Q r37 M36) M
def w_Model_findField_j294 (this : Nat) (Q : Int32 → Mem → Prop) (v5 : Int32) (s0 : Int32) (s1 : Int32) (M : Mem) : Prop :=
  if s1 = s0 then (Q v5 M) else (w_Model_findField_j297 this Q  M)
def w_Model_findField_j241 (this : Nat) (Q : Int32 → Mem → Prop) (v3 : Int32) (v5 : Int32) (v7 : Int32) (v8 : Int32) (v9 : Int32) (s0 : Int32) (M : Mem) : Prop :=
  w_Model_isOff this (6 : Int32) (fun r27 M26 => if r27 = 0 then (if s0 = 0 then (Q v5 M26) else (if (v7 &&& (2 : Int32)) = 0 then (Q v5 M26) else (if v9 = 0 then (∃ i32, (mR M26 11 this 45) = some (12, i32) ∧ vp_in v3 (mL M26 144 i32) ∧ if v8 = 0 then (w_Model_findField_j294 this Q v5 (mI M26 11 this 6) (mI M26 144 i32 v3.toNatClampNeg) M26) else (w_Model_findField_j294 this Q v5 (mI M26 11 this 7) (mI M26 144 i32 v3.toNatClampNeg) M26)) else (w_Model_findField_j297 this Q  M26)))) else (Q v5 M26)) M
def w_Model_findField_j236 (this : Nat) (Q : Int32 → Mem → Prop) (v3 : Int32) (v5 : Int32) (v7 : Int32) (v8 : Int32) (v9 : Int32) (M : Mem) : Prop :=
  w_Model_findField_j241 this Q v3 v5 v7 v8 v9 (1 : Int32) M
def w_Model_findField_j224 (this : Nat) (Q : Int32 → Mem → Prop) (v1 : Int32) (v3 : Int32) (v5 : Int32) (v7 : Int32) (v8 : Int32) (v9 : Int32) (M : Mem) : Prop :=
  if v1 = (47 : Int32) then (w_Model_findField_j236 this Q v3 v5 v7 v8 v9 M) else (if v1 = (49 : Int32) then (w_Model_findField_j236 this Q v3 v5 v7 v8 v9 M) else (w_Model_findField_j241 this Q v3 v5 v7 v8 v9 (0 : Int32) M))
def w_Model_findField_j215 (this : Nat) (Q : Int32 → Mem → Prop)  (M : Mem) : Prop :=
  w_Model_fails this (55 : Int32) (15 : Int32) (fun r40 M39 => Q r40 M39) M
def w_Model_findField_j190 (this : Nat) (Q : Int32 → Mem → Prop) (v1 : Int32) (v3 : Int32) (v5 : Int32) (v6 : Int32) (v7 : Int32) (v8 : Int32) (v9 : Int32) (s0 : Int32) (M : Mem) : Prop :=
  if s0 = v8 then (if v8 = 0 then (∃ i22, (mR M 11 this 45) = some (12, i22) ∧ vp_in v6 (mL M 132 i22) ∧ if ((mI M 132 i22 v6.toNatClampNeg) &&& (4 : Int32)) = 0 then (w_Model_findField_j224 this Q v1 v3 v5 v7 v8 v9 M) else (w_Model_findField_j215 this Q  M)) else (w_Model_findField_j224 this Q v1 v3 v5 v7 v8 v9 M)) else (w_Model_findField_j215 this Q  M)
def w_Model_findField_j178 (this : Nat) (Q : Int32 → Mem → Prop) (v1 : Int32) (v3 : Int32) (v5 : Int32) (v6 : Int32) (v7 : Int32) (v8 : Int32) (v9 : Int32) (M : Mem) : Prop :=
  if (v7 &&& (1 : Int32)) = 0 then (w_Model_findField_j190 this Q v1 v3 v5 v6 v7 v8 v9 (0 : Int32) M) else (w_Model_findField_j190 this Q v1 v3 v5 v6 v7 v8 v9 (1 : Int32) M)
def w_Model_findField_j147 (this : Nat) (Q : Int32 → Mem → Prop) (v1 : Int32) (v3 : Int32) (v5 : Int32) (v6 : Int32) (v7 : Int32) (v8 : Int32) (s0 : Int32) (M : Mem) : Prop :=
  w_Model_isOff this (5 : Int32) (fun r16 M15 => if r16 = 0 then (if (v7 &&& (4 : Int32)) = 0 then (w_Model_findField_j178 this Q v1 v3 v5 v6 v7 v8 s0 M15) else (if s0 = 0 then (w_Model_findField_j178 this Q v1 v3 v5 v6 v7 v8 s0 M15) else (w_Model_fails this (53 : Int32) (14 : Int32) (fun r43 M42 => Q r43 M42) M15))) else (w_Model_findField_j178 this Q v1 v3 v5 v6 v7 v8 s0 M15)) M
def w_Model_findField_j131 (this : Nat) (Q : Int32 → Mem → Prop) (v1 : Int32) (v3 : Int32) (v5 : Int32) (v6 : Int32) (v7 : Int32) (s0 : Int32) (M : Mem) : Prop :=
  ¬ (12 : Int32) = 0 ∧ if v6 = (v3 / (12 : Int32)) then (w_Model_findField_j147 this Q v1 v3 v5 v6 v7 s0 (0 : Int32) M) else (w_Model_findField_j147 this Q v1 v3 v5 v6 v7 s0 (1 : Int32) M)
def w_Model_findField_j126 (this : Nat) (Q : Int32 → Mem → Prop) (v1 : Int32) (v3 : Int32) (v5 : Int32) (v6 : Int32) (v7 : Int32) (M : Mem) : Prop :=
  w_Model_findField_j131 this Q v1 v3 v5 v6 v7 (1 : Int32) M
def w_Model_findField_j81 (this : Nat) (Q : Int32 → Mem → Prop) (v1 : Int32) (v3 : Int32) (v5 : Int32) (M : Mem) : Prop :=
  if 0 ≤ v5 then (¬ (8 : Int32) = 0 ∧ ∃ i10, (mR M 11 this 45) = some (12, i10) ∧ vp_in v5 (mL M 141 i10) ∧ if v1 = (48 : Int32) then (w_Model_findField_j126 this Q v1 v3 v5 (v5 / (8 : Int32)) (mI M 141 i10 v5.toNatClampNeg) M) else (if v1 = (49 : Int32) then (w_Model_findField_j126 this Q v1 v3 v5 (v5 / (8 : Int32)) (mI M 141 i10 v5.toNatClampNeg) M) else (w_Model_findField_j131 this Q v1 v3 v5 (v5 / (8 : Int32)) (mI M 141 i10 v5.toNatClampNeg) (0 : Int32) M))) else (w_Model_fails this (51 : Int32) (12 : Int32) (fun r46 M45 => Q r46 M45) M)
def w_Model_findField_L34 (this : Nat) (Q : Int32 → Mem → Prop) : Nat → Int32 → Int32 → Int32 → Int32 → Int32 → Mem → Prop
  | 0, _, _, _, _, _, _ => False
  | n + 1, v1, v2, v3, v5, v6, M => if v6 < 0 then (w_Model_findField_j81 this Q v1 v3 v5 M) else (if 0 ≤ v5 then (w_Model_findField_j81 this Q v1 v3 v5 M) else (∃ i48, (mR M 11 this 45) = some (12, i48) ∧ ∃ i49, (mR M 12 i48 32) = some (300, i49) ∧ vp_in v2 (mL M 300 i49) ∧ ∃ i51, (mR M 11 this 45) = some (12, i51) ∧ ∃ i52, (mR M 12 i51 33) = some (300, i52) ∧ vp_in v2 (mL M 300 i52) ∧ w_Model_fieldByFaces this v6 (mI M 300 i49 v2.toNatClampNeg) (mI M 300 i52 v2.toNatClampNeg) (fun r55 M54 => w_Model_parentOf this v6 (fun r57 M56 => (w_Model_findField_L34 this Q n) v1 v2 v3 r55 r57 M56) M54) M))
def w_Model_findField (this : Nat) (a1 : Int32) (a2 : Int32) (a3 : Int32) (Q : Int32 → Mem → Prop) (M : Mem) : Prop :=
  ∃ i1, (mR M 11 this 45) = some (12, i1) ∧ ∃ i2, (mR M 12 i1 31) = some (300, i2) ∧ vp_in a2 (mL M 300 i2) ∧ w_Model_findLinked this (mI M 300 i2 a2.toNatClampNeg) (fun r5 M4 => if 0 ≤ r5 then (∃ n58 : Nat, w_Model_findField_L34 this Q n58 a1 a2 a3 (-1 : Int32) r5 (sJ M4 11 this 82 (0 : Int64))) else (Q (-1 : Int32) M4)) M
set_option maxRecDepth 4096 in
theorem lk_Model_findField_j297 {γ : Gm} (hγ : Gk γ) (this : Nat) (Q : Int32 → Mem → Prop)  (M : Mem) (h : w_Model_findField_j297 this Q  M) : E γ k_Model_findField 130 297 [some (vr (some (11, this))), none, none, none, none, none, none, none, none, none, none] [] M (Qi Q) := by
  unfold w_Model_findField_j297 at h
  refine E_blk (lv' := [some (vr (some (11, this))), none, none, none, none, none, none, none, none, none, none]) (st' := [vi (14 : Int32), vi (54 : Int32), vr (some (11, this))]) (M1 := M) (pc' := 302) (tb_Model hγ) [.aload_n 0, .bipush 54, .bipush 14] (by decide +kernel) rfl rfl trivial ?_
  refine E_callV (κ' := k_Model_fails) (As := [vi (54 : Int32), vi (14 : Int32)]) (st := []) mv_Model_fails (Or.inl (tbk_mem (j := 16) (k := 87) rfl)) rfl (by decide +kernel) (Nat.le_of_ble_eq_true rfl) (Nat.le_of_ble_eq_true rfl) rfl (by decide) (lk_Model_fails hγ this (54 : Int32) (14 : Int32) _ M h) (fun _ _ => Qi_r) (fun v M36 hp => Qi_k (R := fun st => E γ k_Model_findField 130 305 [some (vr (some (11, this))), none, none, none, none, none, none, none, none, none, none] st M36 (Qi Q)) hp (fun r37 h => ?_))
  exact E_iret rfl (by decide +kernel) h
set_option maxRecDepth 4096 in
theorem lk_Model_findField_j294 {γ : Gm} (hγ : Gk γ) (this : Nat) (Q : Int32 → Mem → Prop) (v5 : Int32) (s0 : Int32) (s1 : Int32) (M : Mem) (h : w_Model_findField_j294 this Q v5 s0 s1 M) : E γ k_Model_findField 130 294 [some (vr (some (11, this))), none, none, none, none, some (vi v5), none, none, none, none, none] [vi s0, vi s1] M (Qi Q) := by
  unfold w_Model_findField_j294 at h
  refine E_icmp_eq (off := 12) (tgt := 306) (by decide +kernel) (by decide) (fun b35 => ?_) (fun b35 => ?_)
  · rw [if_pos b35] at h
    refine E_blk (lv' := [some (vr (some (11, this))), none, none, none, none, some (vi v5), none, none, none, none, none]) (st' := [vi v5]) (M1 := M) (pc' := 308) (tb_Model hγ) [.iload 5] (by decide +kernel) rfl rfl trivial ?_
    exact E_iret rfl (by decide +kernel) h
  · rw [if_neg b35] at h
    refine E_mask [true, false, false, false, false, false, false, false, false, false, false] rfl ?_
    exact lk_Model_findField_j297 hγ this Q  M h
set_option maxRecDepth 4096 in
theorem lk_Model_findField_j241 {γ : Gm} (hγ : Gk γ) (this : Nat) (Q : Int32 → Mem → Prop) (v3 : Int32) (v5 : Int32) (v7 : Int32) (v8 : Int32) (v9 : Int32) (s0 : Int32) (M : Mem) (h : w_Model_findField_j241 this Q v3 v5 v7 v8 v9 s0 M) : E γ k_Model_findField 130 241 [some (vr (some (11, this))), none, none, some (vi v3), none, some (vi v5), none, some (vi v7), some (vi v8), some (vi v9), none] [vi s0] M (Qi Q) := by
  unfold w_Model_findField_j241 at h
  refine E_blk (lv' := [some (vr (some (11, this))), none, none, some (vi v3), none, some (vi v5), none, some (vi v7), some (vi v8), some (vi v9), some (vi s0)]) (st' := [vi (6 : Int32), vr (some (11, this))]) (M1 := M) (pc' := 246) (tb_Model hγ) [.istore 10, .aload_n 0, .bipush 6] (by decide +kernel) rfl rfl trivial ?_
  refine E_callV (κ' := k_Model_isOff) (As := [vi (6 : Int32)]) (st := []) mv_Model_isOff (Or.inl (tbk_mem (j := 15) (k := 47) rfl)) rfl (by decide +kernel) (Nat.le_of_ble_eq_true rfl) (Nat.le_of_ble_eq_true rfl) rfl (by decide) (lk_Model_isOff hγ this (6 : Int32) _ M h) (fun _ _ => Qi_r) (fun v M26 hp => Qi_k (R := fun st => E γ k_Model_findField 130 249 [some (vr (some (11, this))), none, none, some (vi v3), none, some (vi v5), none, some (vi v7), some (vi v8), some (vi v9), some (vi s0)] st M26 (Qi Q)) hp (fun r27 h => ?_))
  refine E_if_ne (off := 57) (tgt := 306) (by decide +kernel) (by decide) (fun b28 => ?_) (fun b28 => ?_)
  · rw [if_pos b28] at h
    refine E_blk (lv' := [some (vr (some (11, this))), none, none, some (vi v3), none, some (vi v5), none, some (vi v7), some (vi v8), some (vi v9), some (vi s0)]) (st' := [vi s0]) (M1 := M26) (pc' := 254) (tb_Model hγ) [.iload 10] (by decide +kernel) rfl rfl trivial ?_
    refine E_if_eq (off := 52) (tgt := 306) (by decide +kernel) (by decide) (fun b29 => ?_) (fun b29 => ?_)
    · rw [if_pos b29] at h
      refine E_blk (lv' := [some (vr (some (11, this))), none, none, some (vi v3), none, some (vi v5), none, some (vi v7), some (vi v8), some (vi v9), some (vi s0)]) (st' := [vi v5]) (M1 := M26) (pc' := 308) (tb_Model hγ) [.iload 5] (by decide +kernel) rfl rfl trivial ?_
      exact E_iret rfl (by decide +kernel) h
    · rw [if_neg b29] at h
      refine E_blk (lv' := [some (vr (some (11, this))), none, none, some (vi v3), none, some (vi v5), none, some (vi v7), some (vi v8), some (vi v9), some (vi s0)]) (st' := [vi (v7 &&& (2 : Int32))]) (M1 := M26) (pc' := 261) (tb_Model hγ) [.iload 7, .iconst 2, .iand] (by decide +kernel) rfl rfl trivial ?_
      refine E_if_eq (off := 45) (tgt := 306) (by decide +kernel) (by decide) (fun b30 => ?_) (fun b30 => ?_)
      · rw [if_pos b30] at h
        refine E_blk (lv' := [some (vr (some (11, this))), none, none, some (vi v3), none, some (vi v5), none, some (vi v7), some (vi v8), some (vi v9), some (vi s0)]) (st' := [vi v5]) (M1 := M26) (pc' := 308) (tb_Model hγ) [.iload 5] (by decide +kernel) rfl rfl trivial ?_
        exact E_iret rfl (by decide +kernel) h
      · rw [if_neg b30] at h
        refine E_blk (lv' := [some (vr (some (11, this))), none, none, some (vi v3), none, some (vi v5), none, some (vi v7), some (vi v8), some (vi v9), some (vi s0)]) (st' := [vi v9]) (M1 := M26) (pc' := 266) (tb_Model hγ) [.iload 9] (by decide +kernel) rfl rfl trivial ?_
        refine E_if_ne (off := 31) (tgt := 297) (by decide +kernel) (by decide) (fun b31 => ?_) (fun b31 => ?_)
        · rw [if_pos b31] at h
          refine E_blk (lv' := [some (vr (some (11, this))), none, none, some (vi v3), none, some (vi v5), none, some (vi v7), some (vi v8), some (vi v9), some (vi s0)]) (st' := [vr (mR M26 11 this 45)]) (M1 := M26) (pc' := 273) (tb_Model hγ) [.aload_n 0, .getfield 522] (by decide +kernel) rfl rfl trivial ?_
          obtain ⟨i32, ei32, h⟩ := h
          rw [ei32]
          obtain ⟨c33, h⟩ := h
          refine E_blk (lv' := [some (vr (some (11, this))), none, none, some (vi v3), none, some (vi v5), none, some (vi v7), some (vi v8), some (vi v9), some (vi s0)]) (st' := [vi v8, vi (mI M26 144 i32 v3.toNatClampNeg)]) (M1 := M26) (pc' := 280) (tb_Model hγ) [.getfield 447, .iload_n 3, .iaload, .iload 8] (by decide +kernel) rfl rfl ⟨c33, trivial⟩ ?_
          refine E_if_eq (off := 10) (tgt := 290) (by decide +kernel) (by decide) (fun b34 => ?_) (fun b34 => ?_)
          · rw [if_pos b34] at h
            refine E_blk (lv' := [some (vr (some (11, this))), none, none, some (vi v3), none, some (vi v5), none, some (vi v7), some (vi v8), some (vi v9), some (vi s0)]) (st' := [vi (mI M26 11 this 6), vi (mI M26 144 i32 v3.toNatClampNeg)]) (M1 := M26) (pc' := 294) (tb_Model hγ) [.aload_n 0, .getfield 121] (by decide +kernel) rfl rfl trivial ?_
            refine E_mask [true, false, false, false, false, true, false, false, false, false, false] rfl ?_
            exact lk_Model_findField_j294 hγ this Q v5 (mI M26 11 this 6) (mI M26 144 i32 v3.toNatClampNeg) M26 h
          · rw [if_neg b34] at h
            refine E_blk (lv' := [some (vr (some (11, this))), none, none, some (vi v3), none, some (vi v5), none, some (vi v7), some (vi v8), some (vi v9), some (vi s0)]) (st' := [vi (mI M26 11 this 7), vi (mI M26 144 i32 v3.toNatClampNeg)]) (M1 := M26) (pc' := 287) (tb_Model hγ) [.aload_n 0, .getfield 127] (by decide +kernel) rfl rfl trivial ?_
            refine E_goto (off := 7) (tgt := 294) (by decide +kernel) (by decide) ?_
            refine E_mask [true, false, false, false, false, true, false, false, false, false, false] rfl ?_
            exact lk_Model_findField_j294 hγ this Q v5 (mI M26 11 this 7) (mI M26 144 i32 v3.toNatClampNeg) M26 h
        · rw [if_neg b31] at h
          refine E_mask [true, false, false, false, false, false, false, false, false, false, false] rfl ?_
          exact lk_Model_findField_j297 hγ this Q  M26 h
  · rw [if_neg b28] at h
    refine E_blk (lv' := [some (vr (some (11, this))), none, none, some (vi v3), none, some (vi v5), none, some (vi v7), some (vi v8), some (vi v9), some (vi s0)]) (st' := [vi v5]) (M1 := M26) (pc' := 308) (tb_Model hγ) [.iload 5] (by decide +kernel) rfl rfl trivial ?_
    exact E_iret rfl (by decide +kernel) h
set_option maxRecDepth 4096 in
theorem lk_Model_findField_j236 {γ : Gm} (hγ : Gk γ) (this : Nat) (Q : Int32 → Mem → Prop) (v3 : Int32) (v5 : Int32) (v7 : Int32) (v8 : Int32) (v9 : Int32) (M : Mem) (h : w_Model_findField_j236 this Q v3 v5 v7 v8 v9 M) : E γ k_Model_findField 130 236 [some (vr (some (11, this))), none, none, some (vi v3), none, some (vi v5), none, some (vi v7), some (vi v8), some (vi v9), none] [] M (Qi Q) := by
  unfold w_Model_findField_j236 at h
  refine E_blk (lv' := [some (vr (some (11, this))), none, none, some (vi v3), none, some (vi v5), none, some (vi v7), some (vi v8), some (vi v9), none]) (st' := [vi (1 : Int32)]) (M1 := M) (pc' := 237) (tb_Model hγ) [.iconst 1] (by decide +kernel) rfl rfl trivial ?_
  refine E_goto (off := 4) (tgt := 241) (by decide +kernel) (by decide) ?_
  refine E_mask [true, false, false, true, false, true, false, true, true, true, false] rfl ?_
  exact lk_Model_findField_j241 hγ this Q v3 v5 v7 v8 v9 (1 : Int32) M h
set_option maxRecDepth 4096 in
theorem lk_Model_findField_j224 {γ : Gm} (hγ : Gk γ) (this : Nat) (Q : Int32 → Mem → Prop) (v1 : Int32) (v3 : Int32) (v5 : Int32) (v7 : Int32) (v8 : Int32) (v9 : Int32) (M : Mem) (h : w_Model_findField_j224 this Q v1 v3 v5 v7 v8 v9 M) : E γ k_Model_findField 130 224 [some (vr (some (11, this))), some (vi v1), none, some (vi v3), none, some (vi v5), none, some (vi v7), some (vi v8), some (vi v9), none] [] M (Qi Q) := by
  unfold w_Model_findField_j224 at h
  refine E_blk (lv' := [some (vr (some (11, this))), some (vi v1), none, some (vi v3), none, some (vi v5), none, some (vi v7), some (vi v8), some (vi v9), none]) (st' := [vi (47 : Int32), vi v1]) (M1 := M) (pc' := 227) (tb_Model hγ) [.iload_n 1, .bipush 47] (by decide +kernel) rfl rfl trivial ?_
  refine E_icmp_eq (off := 9) (tgt := 236) (by decide +kernel) (by decide) (fun b25 => ?_) (fun b25 => ?_)
  · rw [if_pos b25] at h
    refine E_mask [true, false, false, true, false, true, false, true, true, true, false] rfl ?_
    exact lk_Model_findField_j236 hγ this Q v3 v5 v7 v8 v9 M h
  · rw [if_neg b25] at h
    refine E_blk (lv' := [some (vr (some (11, this))), some (vi v1), none, some (vi v3), none, some (vi v5), none, some (vi v7), some (vi v8), some (vi v9), none]) (st' := [vi (49 : Int32), vi v1]) (M1 := M) (pc' := 233) (tb_Model hγ) [.iload_n 1, .bipush 49] (by decide +kernel) rfl rfl trivial ?_
    refine E_icmp_ne (off := 7) (tgt := 240) (by decide +kernel) (by decide) (fun b38 => ?_) (fun b38 => ?_)
    · rw [if_pos b38] at h
      refine E_mask [true, false, false, true, false, true, false, true, true, true, false] rfl ?_
      exact lk_Model_findField_j236 hγ this Q v3 v5 v7 v8 v9 M h
    · rw [if_neg b38] at h
      refine E_blk (lv' := [some (vr (some (11, this))), some (vi v1), none, some (vi v3), none, some (vi v5), none, some (vi v7), some (vi v8), some (vi v9), none]) (st' := [vi (0 : Int32)]) (M1 := M) (pc' := 241) (tb_Model hγ) [.iconst 0] (by decide +kernel) rfl rfl trivial ?_
      refine E_mask [true, false, false, true, false, true, false, true, true, true, false] rfl ?_
      exact lk_Model_findField_j241 hγ this Q v3 v5 v7 v8 v9 (0 : Int32) M h
set_option maxRecDepth 4096 in
theorem lk_Model_findField_j215 {γ : Gm} (hγ : Gk γ) (this : Nat) (Q : Int32 → Mem → Prop)  (M : Mem) (h : w_Model_findField_j215 this Q  M) : E γ k_Model_findField 130 215 [some (vr (some (11, this))), none, none, none, none, none, none, none, none, none, none] [] M (Qi Q) := by
  unfold w_Model_findField_j215 at h
  refine E_blk (lv' := [some (vr (some (11, this))), none, none, none, none, none, none, none, none, none, none]) (st' := [vi (15 : Int32), vi (55 : Int32), vr (some (11, this))]) (M1 := M) (pc' := 220) (tb_Model hγ) [.aload_n 0, .bipush 55, .bipush 15] (by decide +kernel) rfl rfl trivial ?_
  refine E_callV (κ' := k_Model_fails) (As := [vi (55 : Int32), vi (15 : Int32)]) (st := []) mv_Model_fails (Or.inl (tbk_mem (j := 16) (k := 87) rfl)) rfl (by decide +kernel) (Nat.le_of_ble_eq_true rfl) (Nat.le_of_ble_eq_true rfl) rfl (by decide) (lk_Model_fails hγ this (55 : Int32) (15 : Int32) _ M h) (fun _ _ => Qi_r) (fun v M39 hp => Qi_k (R := fun st => E γ k_Model_findField 130 223 [some (vr (some (11, this))), none, none, none, none, none, none, none, none, none, none] st M39 (Qi Q)) hp (fun r40 h => ?_))
  exact E_iret rfl (by decide +kernel) h
set_option maxRecDepth 4096 in
theorem lk_Model_findField_j190 {γ : Gm} (hγ : Gk γ) (this : Nat) (Q : Int32 → Mem → Prop) (v1 : Int32) (v3 : Int32) (v5 : Int32) (v6 : Int32) (v7 : Int32) (v8 : Int32) (v9 : Int32) (s0 : Int32) (M : Mem) (h : w_Model_findField_j190 this Q v1 v3 v5 v6 v7 v8 v9 s0 M) : E γ k_Model_findField 130 190 [some (vr (some (11, this))), some (vi v1), none, some (vi v3), none, some (vi v5), some (vi v6), some (vi v7), some (vi v8), some (vi v9), none] [vi s0] M (Qi Q) := by
  unfold w_Model_findField_j190 at h
  refine E_blk (lv' := [some (vr (some (11, this))), some (vi v1), none, some (vi v3), none, some (vi v5), some (vi v6), some (vi v7), some (vi v8), some (vi v9), none]) (st' := [vi v8, vi s0]) (M1 := M) (pc' := 192) (tb_Model hγ) [.iload 8] (by decide +kernel) rfl rfl trivial ?_
  refine E_icmp_ne (off := 23) (tgt := 215) (by decide +kernel) (by decide) (fun b20 => ?_) (fun b20 => ?_)
  · rw [if_pos b20] at h
    refine E_blk (lv' := [some (vr (some (11, this))), some (vi v1), none, some (vi v3), none, some (vi v5), some (vi v6), some (vi v7), some (vi v8), some (vi v9), none]) (st' := [vi v8]) (M1 := M) (pc' := 197) (tb_Model hγ) [.iload 8] (by decide +kernel) rfl rfl trivial ?_
    refine E_if_ne (off := 27) (tgt := 224) (by decide +kernel) (by decide) (fun b21 => ?_) (fun b21 => ?_)
    · rw [if_pos b21] at h
      refine E_blk (lv' := [some (vr (some (11, this))), some (vi v1), none, some (vi v3), none, some (vi v5), some (vi v6), some (vi v7), some (vi v8), some (vi v9), none]) (st' := [vr (mR M 11 this 45)]) (M1 := M) (pc' := 204) (tb_Model hγ) [.aload_n 0, .getfield 522] (by decide +kernel) rfl rfl trivial ?_
      obtain ⟨i22, ei22, h⟩ := h
      rw [ei22]
      obtain ⟨c23, h⟩ := h
      refine E_blk (lv' := [some (vr (some (11, this))), some (vi v1), none, some (vi v3), none, some (vi v5), some (vi v6), some (vi v7), some (vi v8), some (vi v9), none]) (st' := [vi ((mI M 132 i22 v6.toNatClampNeg) &&& (4 : Int32))]) (M1 := M) (pc' := 212) (tb_Model hγ) [.getfield 429, .iload 6, .iaload, .iconst 4, .iand] (by decide +kernel) rfl rfl ⟨c23, trivial⟩ ?_
      refine E_if_eq (off := 12) (tgt := 224) (by decide +kernel) (by decide) (fun b24 => ?_) (fun b24 => ?_)
      · rw [if_pos b24] at h
        refine E_mask [true, true, false, true, false, true, false, true, true, true, false] rfl ?_
        exact lk_Model_findField_j224 hγ this Q v1 v3 v5 v7 v8 v9 M h
      · rw [if_neg b24] at h
        refine E_mask [true, false, false, false, false, false, false, false, false, false, false] rfl ?_
        exact lk_Model_findField_j215 hγ this Q  M h
    · rw [if_neg b21] at h
      refine E_mask [true, true, false, true, false, true, false, true, true, true, false] rfl ?_
      exact lk_Model_findField_j224 hγ this Q v1 v3 v5 v7 v8 v9 M h
  · rw [if_neg b20] at h
    refine E_mask [true, false, false, false, false, false, false, false, false, false, false] rfl ?_
    exact lk_Model_findField_j215 hγ this Q  M h
set_option maxRecDepth 4096 in
theorem lk_Model_findField_j178 {γ : Gm} (hγ : Gk γ) (this : Nat) (Q : Int32 → Mem → Prop) (v1 : Int32) (v3 : Int32) (v5 : Int32) (v6 : Int32) (v7 : Int32) (v8 : Int32) (v9 : Int32) (M : Mem) (h : w_Model_findField_j178 this Q v1 v3 v5 v6 v7 v8 v9 M) : E γ k_Model_findField 130 178 [some (vr (some (11, this))), some (vi v1), none, some (vi v3), none, some (vi v5), some (vi v6), some (vi v7), some (vi v8), some (vi v9), none] [] M (Qi Q) := by
  unfold w_Model_findField_j178 at h
  refine E_blk (lv' := [some (vr (some (11, this))), some (vi v1), none, some (vi v3), none, some (vi v5), some (vi v6), some (vi v7), some (vi v8), some (vi v9), none]) (st' := [vi (v7 &&& (1 : Int32))]) (M1 := M) (pc' := 182) (tb_Model hγ) [.iload 7, .iconst 1, .iand] (by decide +kernel) rfl rfl trivial ?_
  refine E_if_eq (off := 7) (tgt := 189) (by decide +kernel) (by decide) (fun b19 => ?_) (fun b19 => ?_)
  · rw [if_pos b19] at h
    refine E_blk (lv' := [some (vr (some (11, this))), some (vi v1), none, some (vi v3), none, some (vi v5), some (vi v6), some (vi v7), some (vi v8), some (vi v9), none]) (st' := [vi (0 : Int32)]) (M1 := M) (pc' := 190) (tb_Model hγ) [.iconst 0] (by decide +kernel) rfl rfl trivial ?_
    refine E_mask [true, true, false, true, false, true, true, true, true, true, false] rfl ?_
    exact lk_Model_findField_j190 hγ this Q v1 v3 v5 v6 v7 v8 v9 (0 : Int32) M h
  · rw [if_neg b19] at h
    refine E_blk (lv' := [some (vr (some (11, this))), some (vi v1), none, some (vi v3), none, some (vi v5), some (vi v6), some (vi v7), some (vi v8), some (vi v9), none]) (st' := [vi (1 : Int32)]) (M1 := M) (pc' := 186) (tb_Model hγ) [.iconst 1] (by decide +kernel) rfl rfl trivial ?_
    refine E_goto (off := 4) (tgt := 190) (by decide +kernel) (by decide) ?_
    refine E_mask [true, true, false, true, false, true, true, true, true, true, false] rfl ?_
    exact lk_Model_findField_j190 hγ this Q v1 v3 v5 v6 v7 v8 v9 (1 : Int32) M h
set_option maxRecDepth 4096 in
theorem lk_Model_findField_j147 {γ : Gm} (hγ : Gk γ) (this : Nat) (Q : Int32 → Mem → Prop) (v1 : Int32) (v3 : Int32) (v5 : Int32) (v6 : Int32) (v7 : Int32) (v8 : Int32) (s0 : Int32) (M : Mem) (h : w_Model_findField_j147 this Q v1 v3 v5 v6 v7 v8 s0 M) : E γ k_Model_findField 130 147 [some (vr (some (11, this))), some (vi v1), none, some (vi v3), none, some (vi v5), some (vi v6), some (vi v7), some (vi v8), none, none] [vi s0] M (Qi Q) := by
  unfold w_Model_findField_j147 at h
  refine E_blk (lv' := [some (vr (some (11, this))), some (vi v1), none, some (vi v3), none, some (vi v5), some (vi v6), some (vi v7), some (vi v8), some (vi s0), none]) (st' := [vi (5 : Int32), vr (some (11, this))]) (M1 := M) (pc' := 151) (tb_Model hγ) [.istore 9, .aload_n 0, .iconst 5] (by decide +kernel) rfl rfl trivial ?_
  refine E_callV (κ' := k_Model_isOff) (As := [vi (5 : Int32)]) (st := []) mv_Model_isOff (Or.inl (tbk_mem (j := 15) (k := 47) rfl)) rfl (by decide +kernel) (Nat.le_of_ble_eq_true rfl) (Nat.le_of_ble_eq_true rfl) rfl (by decide) (lk_Model_isOff hγ this (5 : Int32) _ M h) (fun _ _ => Qi_r) (fun v M15 hp => Qi_k (R := fun st => E γ k_Model_findField 130 154 [some (vr (some (11, this))), some (vi v1), none, some (vi v3), none, some (vi v5), some (vi v6), some (vi v7), some (vi v8), some (vi s0), none] st M15 (Qi Q)) hp (fun r16 h => ?_))
  refine E_if_ne (off := 24) (tgt := 178) (by decide +kernel) (by decide) (fun b17 => ?_) (fun b17 => ?_)
  · rw [if_pos b17] at h
    refine E_blk (lv' := [some (vr (some (11, this))), some (vi v1), none, some (vi v3), none, some (vi v5), some (vi v6), some (vi v7), some (vi v8), some (vi s0), none]) (st' := [vi (v7 &&& (4 : Int32))]) (M1 := M15) (pc' := 161) (tb_Model hγ) [.iload 7, .iconst 4, .iand] (by decide +kernel) rfl rfl trivial ?_
    refine E_if_eq (off := 17) (tgt := 178) (by decide +kernel) (by decide) (fun b18 => ?_) (fun b18 => ?_)
    · rw [if_pos b18] at h
      refine E_mask [true, true, false, true, false, true, true, true, true, true, false] rfl ?_
      exact lk_Model_findField_j178 hγ this Q v1 v3 v5 v6 v7 v8 s0 M15 h
    · rw [if_neg b18] at h
      refine E_blk (lv' := [some (vr (some (11, this))), some (vi v1), none, some (vi v3), none, some (vi v5), some (vi v6), some (vi v7), some (vi v8), some (vi s0), none]) (st' := [vi s0]) (M1 := M15) (pc' := 166) (tb_Model hγ) [.iload 9] (by decide +kernel) rfl rfl trivial ?_
      refine E_if_eq (off := 12) (tgt := 178) (by decide +kernel) (by decide) (fun b41 => ?_) (fun b41 => ?_)
      · rw [if_pos b41] at h
        refine E_mask [true, true, false, true, false, true, true, true, true, true, false] rfl ?_
        exact lk_Model_findField_j178 hγ this Q v1 v3 v5 v6 v7 v8 s0 M15 h
      · rw [if_neg b41] at h
        refine E_blk (lv' := [some (vr (some (11, this))), some (vi v1), none, some (vi v3), none, some (vi v5), some (vi v6), some (vi v7), some (vi v8), some (vi s0), none]) (st' := [vi (14 : Int32), vi (53 : Int32), vr (some (11, this))]) (M1 := M15) (pc' := 174) (tb_Model hγ) [.aload_n 0, .bipush 53, .bipush 14] (by decide +kernel) rfl rfl trivial ?_
        refine E_callV (κ' := k_Model_fails) (As := [vi (53 : Int32), vi (14 : Int32)]) (st := []) mv_Model_fails (Or.inl (tbk_mem (j := 16) (k := 87) rfl)) rfl (by decide +kernel) (Nat.le_of_ble_eq_true rfl) (Nat.le_of_ble_eq_true rfl) rfl (by decide) (lk_Model_fails hγ this (53 : Int32) (14 : Int32) _ M15 h) (fun _ _ => Qi_r) (fun v M42 hp => Qi_k (R := fun st => E γ k_Model_findField 130 177 [some (vr (some (11, this))), some (vi v1), none, some (vi v3), none, some (vi v5), some (vi v6), some (vi v7), some (vi v8), some (vi s0), none] st M42 (Qi Q)) hp (fun r43 h => ?_))
        exact E_iret rfl (by decide +kernel) h
  · rw [if_neg b17] at h
    refine E_mask [true, true, false, true, false, true, true, true, true, true, false] rfl ?_
    exact lk_Model_findField_j178 hγ this Q v1 v3 v5 v6 v7 v8 s0 M15 h
set_option maxRecDepth 4096 in
theorem lk_Model_findField_j131 {γ : Gm} (hγ : Gk γ) (this : Nat) (Q : Int32 → Mem → Prop) (v1 : Int32) (v3 : Int32) (v5 : Int32) (v6 : Int32) (v7 : Int32) (s0 : Int32) (M : Mem) (h : w_Model_findField_j131 this Q v1 v3 v5 v6 v7 s0 M) : E γ k_Model_findField 130 131 [some (vr (some (11, this))), some (vi v1), none, some (vi v3), none, some (vi v5), some (vi v6), some (vi v7), none, none, none] [vi s0] M (Qi Q) := by
  unfold w_Model_findField_j131 at h
  obtain ⟨c13, h⟩ := h
  refine E_blk (lv' := [some (vr (some (11, this))), some (vi v1), none, some (vi v3), none, some (vi v5), some (vi v6), some (vi v7), some (vi s0), none, none]) (st' := [vi (v3 / (12 : Int32)), vi v6]) (M1 := M) (pc' := 139) (tb_Model hγ) [.istore 8, .iload 6, .iload_n 3, .bipush 12, .idiv] (by decide +kernel) rfl rfl ⟨c13, trivial⟩ ?_
  refine E_icmp_eq (off := 7) (tgt := 146) (by decide +kernel) (by decide) (fun b14 => ?_) (fun b14 => ?_)
  · rw [if_pos b14] at h
    refine E_blk (lv' := [some (vr (some (11, this))), some (vi v1), none, some (vi v3), none, some (vi v5), some (vi v6), some (vi v7), some (vi s0), none, none]) (st' := [vi (0 : Int32)]) (M1 := M) (pc' := 147) (tb_Model hγ) [.iconst 0] (by decide +kernel) rfl rfl trivial ?_
    refine E_mask [true, true, false, true, false, true, true, true, true, false, false] rfl ?_
    exact lk_Model_findField_j147 hγ this Q v1 v3 v5 v6 v7 s0 (0 : Int32) M h
  · rw [if_neg b14] at h
    refine E_blk (lv' := [some (vr (some (11, this))), some (vi v1), none, some (vi v3), none, some (vi v5), some (vi v6), some (vi v7), some (vi s0), none, none]) (st' := [vi (1 : Int32)]) (M1 := M) (pc' := 143) (tb_Model hγ) [.iconst 1] (by decide +kernel) rfl rfl trivial ?_
    refine E_goto (off := 4) (tgt := 147) (by decide +kernel) (by decide) ?_
    refine E_mask [true, true, false, true, false, true, true, true, true, false, false] rfl ?_
    exact lk_Model_findField_j147 hγ this Q v1 v3 v5 v6 v7 s0 (1 : Int32) M h
set_option maxRecDepth 4096 in
theorem lk_Model_findField_j126 {γ : Gm} (hγ : Gk γ) (this : Nat) (Q : Int32 → Mem → Prop) (v1 : Int32) (v3 : Int32) (v5 : Int32) (v6 : Int32) (v7 : Int32) (M : Mem) (h : w_Model_findField_j126 this Q v1 v3 v5 v6 v7 M) : E γ k_Model_findField 130 126 [some (vr (some (11, this))), some (vi v1), none, some (vi v3), none, some (vi v5), some (vi v6), some (vi v7), none, none, none] [] M (Qi Q) := by
  unfold w_Model_findField_j126 at h
  refine E_blk (lv' := [some (vr (some (11, this))), some (vi v1), none, some (vi v3), none, some (vi v5), some (vi v6), some (vi v7), none, none, none]) (st' := [vi (1 : Int32)]) (M1 := M) (pc' := 127) (tb_Model hγ) [.iconst 1] (by decide +kernel) rfl rfl trivial ?_
  refine E_goto (off := 4) (tgt := 131) (by decide +kernel) (by decide) ?_
  refine E_mask [true, true, false, true, false, true, true, true, false, false, false] rfl ?_
  exact lk_Model_findField_j131 hγ this Q v1 v3 v5 v6 v7 (1 : Int32) M h
set_option maxRecDepth 4096 in
theorem lk_Model_findField_j81 {γ : Gm} (hγ : Gk γ) (this : Nat) (Q : Int32 → Mem → Prop) (v1 : Int32) (v3 : Int32) (v5 : Int32) (M : Mem) (h : w_Model_findField_j81 this Q v1 v3 v5 M) : E γ k_Model_findField 130 81 [some (vr (some (11, this))), some (vi v1), none, some (vi v3), none, some (vi v5), none, none, none, none, none] [] M (Qi Q) := by
  unfold w_Model_findField_j81 at h
  refine E_blk (lv' := [some (vr (some (11, this))), some (vi v1), none, some (vi v3), none, some (vi v5), none, none, none, none, none]) (st' := [vi v5]) (M1 := M) (pc' := 83) (tb_Model hγ) [.iload 5] (by decide +kernel) rfl rfl trivial ?_
  refine E_if_ge (off := 12) (tgt := 95) (by decide +kernel) (by decide) (fun b8 => ?_) (fun b8 => ?_)
  · rw [if_pos b8] at h
    obtain ⟨c9, h⟩ := h
    refine E_blk (lv' := [some (vr (some (11, this))), some (vi v1), none, some (vi v3), none, some (vi v5), some (vi (v5 / (8 : Int32))), none, none, none, none]) (st' := [vr (mR M 11 this 45)]) (M1 := M) (pc' := 106) (tb_Model hγ) [.iload 5, .bipush 8, .idiv, .istore 6, .aload_n 0, .getfield 522] (by decide +kernel) rfl rfl ⟨c9, trivial⟩ ?_
    obtain ⟨i10, ei10, h⟩ := h
    rw [ei10]
    obtain ⟨c11, h⟩ := h
    refine E_blk (lv' := [some (vr (some (11, this))), some (vi v1), none, some (vi v3), none, some (vi v5), some (vi (v5 / (8 : Int32))), some (vi (mI M 141 i10 v5.toNatClampNeg)), none, none, none]) (st' := [vi (48 : Int32), vi v1]) (M1 := M) (pc' := 117) (tb_Model hγ) [.getfield 627, .iload 5, .iaload, .istore 7, .iload_n 1, .bipush 48] (by decide +kernel) rfl rfl ⟨c11, trivial⟩ ?_
    refine E_icmp_eq (off := 9) (tgt := 126) (by decide +kernel) (by decide) (fun b12 => ?_) (fun b12 => ?_)
    · rw [if_pos b12] at h
      refine E_mask [true, true, false, true, false, true, true, true, false, false, false] rfl ?_
      exact lk_Model_findField_j126 hγ this Q v1 v3 v5 (v5 / (8 : Int32)) (mI M 141 i10 v5.toNatClampNeg) M h
    · rw [if_neg b12] at h
      refine E_blk (lv' := [some (vr (some (11, this))), some (vi v1), none, some (vi v3), none, some (vi v5), some (vi (v5 / (8 : Int32))), some (vi (mI M 141 i10 v5.toNatClampNeg)), none, none, none]) (st' := [vi (49 : Int32), vi v1]) (M1 := M) (pc' := 123) (tb_Model hγ) [.iload_n 1, .bipush 49] (by decide +kernel) rfl rfl trivial ?_
      refine E_icmp_ne (off := 7) (tgt := 130) (by decide +kernel) (by decide) (fun b44 => ?_) (fun b44 => ?_)
      · rw [if_pos b44] at h
        refine E_mask [true, true, false, true, false, true, true, true, false, false, false] rfl ?_
        exact lk_Model_findField_j126 hγ this Q v1 v3 v5 (v5 / (8 : Int32)) (mI M 141 i10 v5.toNatClampNeg) M h
      · rw [if_neg b44] at h
        refine E_blk (lv' := [some (vr (some (11, this))), some (vi v1), none, some (vi v3), none, some (vi v5), some (vi (v5 / (8 : Int32))), some (vi (mI M 141 i10 v5.toNatClampNeg)), none, none, none]) (st' := [vi (0 : Int32)]) (M1 := M) (pc' := 131) (tb_Model hγ) [.iconst 0] (by decide +kernel) rfl rfl trivial ?_
        refine E_mask [true, true, false, true, false, true, true, true, false, false, false] rfl ?_
        exact lk_Model_findField_j131 hγ this Q v1 v3 v5 (v5 / (8 : Int32)) (mI M 141 i10 v5.toNatClampNeg) (0 : Int32) M h
  · rw [if_neg b8] at h
    refine E_blk (lv' := [some (vr (some (11, this))), some (vi v1), none, some (vi v3), none, some (vi v5), none, none, none, none, none]) (st' := [vi (12 : Int32), vi (51 : Int32), vr (some (11, this))]) (M1 := M) (pc' := 91) (tb_Model hγ) [.aload_n 0, .bipush 51, .bipush 12] (by decide +kernel) rfl rfl trivial ?_
    refine E_callV (κ' := k_Model_fails) (As := [vi (51 : Int32), vi (12 : Int32)]) (st := []) mv_Model_fails (Or.inl (tbk_mem (j := 16) (k := 87) rfl)) rfl (by decide +kernel) (Nat.le_of_ble_eq_true rfl) (Nat.le_of_ble_eq_true rfl) rfl (by decide) (lk_Model_fails hγ this (51 : Int32) (12 : Int32) _ M h) (fun _ _ => Qi_r) (fun v M45 hp => Qi_k (R := fun st => E γ k_Model_findField 130 94 [some (vr (some (11, this))), some (vi v1), none, some (vi v3), none, some (vi v5), none, none, none, none, none] st M45 (Qi Q)) hp (fun r46 h => ?_))
    exact E_iret rfl (by decide +kernel) h
set_option maxRecDepth 4096 in
theorem lk_Model_findField_L34 {γ : Gm} (hγ : Gk γ) (this : Nat) (Q : Int32 → Mem → Prop) : ∀ (n : Nat) (v1 : Int32) (v2 : Int32) (v3 : Int32) (v5 : Int32) (v6 : Int32) (M : Mem), w_Model_findField_L34 this Q n v1 v2 v3 v5 v6 M → E γ k_Model_findField 130 34 [some (vr (some (11, this))), some (vi v1), some (vi v2), some (vi v3), none, some (vi v5), some (vi v6), none, none, none, none] [] M (Qi Q) := by
  intro n
  induction n with
  | zero => intro v1 v2 v3 v5 v6 M h; exact h.elim
  | succ n ih =>
    intro v1 v2 v3 v5 v6 M h
    unfold w_Model_findField_L34 at h
    refine E_blk (lv' := [some (vr (some (11, this))), some (vi v1), some (vi v2), some (vi v3), none, some (vi v5), some (vi v6), none, none, none, none]) (st' := [vi v6]) (M1 := M) (pc' := 36) (tb_Model hγ) [.iload 6] (by decide +kernel) rfl rfl trivial ?_
    refine E_if_lt (off := 45) (tgt := 81) (by decide +kernel) (by decide) (fun b7 => ?_) (fun b7 => ?_)
    · rw [if_pos b7] at h
      refine E_mask [true, true, false, true, false, true, false, false, false, false, false] rfl ?_
      exact lk_Model_findField_j81 hγ this Q v1 v3 v5 M h
    · rw [if_neg b7] at h
      refine E_blk (lv' := [some (vr (some (11, this))), some (vi v1), some (vi v2), some (vi v3), none, some (vi v5), some (vi v6), none, none, none, none]) (st' := [vi v5]) (M1 := M) (pc' := 41) (tb_Model hγ) [.iload 5] (by decide +kernel) rfl rfl trivial ?_
      refine E_if_ge (off := 40) (tgt := 81) (by decide +kernel) (by decide) (fun b47 => ?_) (fun b47 => ?_)
      · rw [if_pos b47] at h
        refine E_mask [true, true, false, true, false, true, false, false, false, false, false] rfl ?_
        exact lk_Model_findField_j81 hγ this Q v1 v3 v5 M h
      · rw [if_neg b47] at h
        refine E_blk (lv' := [some (vr (some (11, this))), some (vi v1), some (vi v2), some (vi v3), none, some (vi v5), some (vi v6), none, none, none, none]) (st' := [vr (mR M 11 this 45), vi v6, vr (some (11, this))]) (M1 := M) (pc' := 51) (tb_Model hγ) [.aload_n 0, .iload 6, .aload_n 0, .getfield 522] (by decide +kernel) rfl rfl trivial ?_
        obtain ⟨i48, ei48, h⟩ := h
        rw [ei48]
        refine E_blk (lv' := [some (vr (some (11, this))), some (vi v1), some (vi v2), some (vi v3), none, some (vi v5), some (vi v6), none, none, none, none]) (st' := [vr (mR M 12 i48 32), vi v6, vr (some (11, this))]) (M1 := M) (pc' := 54) (tb_Model hγ) [.getfield 680] (by decide +kernel) rfl rfl trivial ?_
        obtain ⟨i49, ei49, h⟩ := h
        rw [ei49]
        obtain ⟨c50, h⟩ := h
        refine E_blk (lv' := [some (vr (some (11, this))), some (vi v1), some (vi v2), some (vi v3), none, some (vi v5), some (vi v6), none, none, none, none]) (st' := [vr (mR M 11 this 45), vi (mI M 300 i49 v2.toNatClampNeg), vi v6, vr (some (11, this))]) (M1 := M) (pc' := 60) (tb_Model hγ) [.iload_n 2, .iaload, .aload_n 0, .getfield 522] (by decide +kernel) rfl rfl ⟨c50, trivial⟩ ?_
        obtain ⟨i51, ei51, h⟩ := h
        rw [ei51]
        refine E_blk (lv' := [some (vr (some (11, this))), some (vi v1), some (vi v2), some (vi v3), none, some (vi v5), some (vi v6), none, none, none, none]) (st' := [vr (mR M 12 i51 33), vi (mI M 300 i49 v2.toNatClampNeg), vi v6, vr (some (11, this))]) (M1 := M) (pc' := 63) (tb_Model hγ) [.getfield 683] (by decide +kernel) rfl rfl trivial ?_
        obtain ⟨i52, ei52, h⟩ := h
        rw [ei52]
        obtain ⟨c53, h⟩ := h
        refine E_blk (lv' := [some (vr (some (11, this))), some (vi v1), some (vi v2), some (vi v3), none, some (vi v5), some (vi v6), none, none, none, none]) (st' := [vi (mI M 300 i52 v2.toNatClampNeg), vi (mI M 300 i49 v2.toNatClampNeg), vi v6, vr (some (11, this))]) (M1 := M) (pc' := 65) (tb_Model hγ) [.iload_n 2, .iaload] (by decide +kernel) rfl rfl ⟨c53, trivial⟩ ?_
        refine E_callV (κ' := k_Model_fieldByFaces) (As := [vi v6, vi (mI M 300 i49 v2.toNatClampNeg), vi (mI M 300 i52 v2.toNatClampNeg)]) (st := []) mv_Model_fieldByFaces (Or.inl (tbk_mem (j := 16) (k := 163) rfl)) rfl (by decide +kernel) (Nat.le_of_ble_eq_true rfl) (Nat.le_of_ble_eq_true rfl) rfl (by decide) (lk_Model_fieldByFaces hγ this v6 (mI M 300 i49 v2.toNatClampNeg) (mI M 300 i52 v2.toNatClampNeg) _ M h) (fun _ _ => Qi_r) (fun v M54 hp => Qi_k (R := fun st => E γ k_Model_findField 130 68 [some (vr (some (11, this))), some (vi v1), some (vi v2), some (vi v3), none, some (vi v5), some (vi v6), none, none, none, none] st M54 (Qi Q)) hp (fun r55 h => ?_))
        refine E_blk (lv' := [some (vr (some (11, this))), some (vi v1), some (vi v2), some (vi v3), none, some (vi r55), some (vi v6), none, none, none, none]) (st' := [vi v6, vr (some (11, this))]) (M1 := M54) (pc' := 73) (tb_Model hγ) [.istore 5, .aload_n 0, .iload 6] (by decide +kernel) rfl rfl trivial ?_
        refine E_callV (κ' := k_Model_parentOf) (As := [vi v6]) (st := []) mv_Model_parentOf (Or.inl (tbk_mem (j := 15) (k := 157) rfl)) rfl (by decide +kernel) (Nat.le_of_ble_eq_true rfl) (Nat.le_of_ble_eq_true rfl) rfl (by decide) (lk_Model_parentOf hγ this v6 _ M54 h) (fun _ _ => Qi_r) (fun v M56 hp => Qi_k (R := fun st => E γ k_Model_findField 130 76 [some (vr (some (11, this))), some (vi v1), some (vi v2), some (vi v3), none, some (vi r55), some (vi v6), none, none, none, none] st M56 (Qi Q)) hp (fun r57 h => ?_))
        refine E_blk (lv' := [some (vr (some (11, this))), some (vi v1), some (vi v2), some (vi v3), none, some (vi r55), some (vi r57), none, none, none, none]) (st' := []) (M1 := M56) (pc' := 78) (tb_Model hγ) [.istore 6] (by decide +kernel) rfl rfl trivial ?_
        refine E_goto (off := -44) (tgt := 34) (by decide +kernel) (by decide) ?_
        refine E_mask [true, true, true, true, false, true, true, false, false, false, false] rfl ?_
        exact ih v1 v2 v3 r55 r57 M56 h
set_option maxRecDepth 4096 in
theorem lk_Model_findField {γ : Gm} (hγ : Gk γ) (this : Nat) (a1 : Int32) (a2 : Int32) (a3 : Int32) (Q : Int32 → Mem → Prop) (M : Mem) (h : w_Model_findField this a1 a2 a3 Q M) : E γ k_Model_findField 130 0 [some (vr (some (11, this))), some (vi a1), some (vi a2), some (vi a3), none, none, none, none, none, none, none] [] M (Qi Q) := by
  unfold w_Model_findField at h
  refine E_blk (lv' := [some (vr (some (11, this))), some (vi a1), some (vi a2), some (vi a3), none, none, none, none, none, none, none]) (st' := [vr (mR M 11 this 45), vr (some (11, this))]) (M1 := M) (pc' := 5) (tb_Model hγ) [.aload_n 0, .aload_n 0, .getfield 522] (by decide +kernel) rfl rfl trivial ?_
  obtain ⟨i1, ei1, h⟩ := h
  rw [ei1]
  refine E_blk (lv' := [some (vr (some (11, this))), some (vi a1), some (vi a2), some (vi a3), none, none, none, none, none, none, none]) (st' := [vr (mR M 12 i1 31), vr (some (11, this))]) (M1 := M) (pc' := 8) (tb_Model hγ) [.getfield 677] (by decide +kernel) rfl rfl trivial ?_
  obtain ⟨i2, ei2, h⟩ := h
  rw [ei2]
  obtain ⟨c3, h⟩ := h
  refine E_blk (lv' := [some (vr (some (11, this))), some (vi a1), some (vi a2), some (vi a3), none, none, none, none, none, none, none]) (st' := [vi (mI M 300 i2 a2.toNatClampNeg), vr (some (11, this))]) (M1 := M) (pc' := 10) (tb_Model hγ) [.iload_n 2, .iaload] (by decide +kernel) rfl rfl ⟨c3, trivial⟩ ?_
  refine E_callV (κ' := k_Model_findLinked) (As := [vi (mI M 300 i2 a2.toNatClampNeg)]) (st := []) mv_Model_findLinked (Or.inl (tbk_mem (j := 16) (k := 83) rfl)) rfl (by decide +kernel) (Nat.le_of_ble_eq_true rfl) (Nat.le_of_ble_eq_true rfl) rfl (by decide) (lk_Model_findLinked hγ this (mI M 300 i2 a2.toNatClampNeg) _ M h) (fun _ _ => Qi_r) (fun v M4 hp => Qi_k (R := fun st => E γ k_Model_findField 130 13 [some (vr (some (11, this))), some (vi a1), some (vi a2), some (vi a3), none, none, none, none, none, none, none] st M4 (Qi Q)) hp (fun r5 h => ?_))
  refine E_blk (lv' := [some (vr (some (11, this))), some (vi a1), some (vi a2), some (vi a3), some (vi r5), none, none, none, none, none, none]) (st' := [vi r5]) (M1 := M4) (pc' := 17) (tb_Model hγ) [.istore 4, .iload 4] (by decide +kernel) rfl rfl trivial ?_
  refine E_if_ge (off := 5) (tgt := 22) (by decide +kernel) (by decide) (fun b6 => ?_) (fun b6 => ?_)
  · rw [if_pos b6] at h
    refine E_blk (lv' := [some (vr (some (11, this))), some (vi a1), some (vi a2), some (vi a3), some (vi r5), some (vi (-1 : Int32)), some (vi r5), none, none, none, none]) (st' := []) (M1 := (sJ M4 11 this 82 (0 : Int64))) (pc' := 34) (tb_Model hγ) [.iconst (.negSucc 0), .istore 5, .aload_n 0, .lconst 0, .putfield 853, .iload 4, .istore 6] (by decide +kernel) rfl rfl trivial ?_
    obtain ⟨n58, h⟩ := h
    refine E_mask [true, true, true, true, false, true, true, false, false, false, false] rfl ?_
    exact lk_Model_findField_L34 hγ this Q n58 a1 a2 a3 (-1 : Int32) r5 (sJ M4 11 this 82 (0 : Int64)) h
  · rw [if_neg b6] at h
    refine E_blk (lv' := [some (vr (some (11, this))), some (vi a1), some (vi a2), some (vi a3), some (vi r5), none, none, none, none, none, none]) (st' := [vi (-1 : Int32)]) (M1 := M4) (pc' := 21) (tb_Model hγ) [.iconst (.negSucc 0)] (by decide +kernel) rfl rfl trivial ?_
    exact E_iret rfl (by decide +kernel) h
