def k_Checker_handlers : Kp := (⟨"ClassWorks$Checker", "handlers", "()Z"⟩, prog_2_method_28_code, 5, some (.boolean), [])
theorem mv_Checker_handlers : MV k_Checker_handlers 4 0 := ⟨⟨_, rfl, rfl⟩, by decide, (tbk_mem (j := 7) (k := 178) rfl), Or.inr ⟨(tbk_mem (j := 7) (k := 177) rfl), 19, (tbk_mem (j := 2) (k := 124) rfl)⟩, Or.inl ⟨rfl, (tbk_mem (j := 7) (k := 179) rfl)⟩, ⟨by decide, by decide⟩, by decide +kernel, by decide +kernel, by decide⟩
def k_Checker_needs : Kp := (⟨"ClassWorks$Checker", "needs", "(I)Z"⟩, prog_2_method_30_code, 2, some (.boolean), [])
theorem mv_Checker_needs : MV k_Checker_needs 4 1 := ⟨⟨_, rfl, rfl⟩, by decide, (tbk_mem (j := 7) (k := 214) rfl), Or.inr ⟨(tbk_mem (j := 7) (k := 213) rfl), 19, (tbk_mem (j := 2) (k := 124) rfl)⟩, Or.inl ⟨rfl, (tbk_mem (j := 7) (k := 215) rfl)⟩, ⟨by decide, by decide⟩, by decide +kernel, by decide +kernel, by decide⟩
def k_Checker_isUnmade : Kp := (⟨"ClassWorks$Checker", "isUnmade", "(I)Z"⟩, prog_2_method_31_code, 2, some (.boolean), [])
theorem mv_Checker_isUnmade : MV k_Checker_isUnmade 4 1 := ⟨⟨_, rfl, rfl⟩, by decide, (tbk_mem (j := 7) (k := 222) rfl), Or.inr ⟨(tbk_mem (j := 7) (k := 221) rfl), 19, (tbk_mem (j := 2) (k := 124) rfl)⟩, Or.inl ⟨rfl, (tbk_mem (j := 7) (k := 223) rfl)⟩, ⟨by decide, by decide⟩, by decide +kernel, by decide +kernel, by decide⟩
def k_Checker_is : Kp := (⟨"ClassWorks$Checker", "is", "(II)Z"⟩, prog_2_method_32_code, 5, some (.boolean), [])
theorem mv_Checker_is : MV k_Checker_is 4 2 := ⟨⟨_, rfl, rfl⟩, by decide, (tbk_mem (j := 7) (k := 218) rfl), Or.inr ⟨(tbk_mem (j := 7) (k := 217) rfl), 19, (tbk_mem (j := 2) (k := 124) rfl)⟩, Or.inl ⟨rfl, (tbk_mem (j := 7) (k := 219) rfl)⟩, ⟨by decide, by decide⟩, by decide +kernel, by decide +kernel, by decide⟩
def k_Checker_isMade : Kp := (⟨"ClassWorks$Checker", "isMade", "(II)Z"⟩, prog_2_method_33_code, 3, some (.boolean), [])
theorem mv_Checker_isMade : MV k_Checker_isMade 4 2 := ⟨⟨_, rfl, rfl⟩, by decide, (tbk_mem (j := 7) (k := 226) rfl), Or.inr ⟨(tbk_mem (j := 7) (k := 225) rfl), 19, (tbk_mem (j := 2) (k := 124) rfl)⟩, Or.inl ⟨rfl, (tbk_mem (j := 7) (k := 227) rfl)⟩, ⟨by decide, by decide⟩, by decide +kernel, by decide +kernel, by decide⟩
def k_Checker_wants2 : Kp := (⟨"ClassWorks$Checker", "wants", "(II)Z"⟩, prog_2_method_35_code, 3, some (.boolean), [])
theorem mv_Checker_wants2 : MV k_Checker_wants2 4 2 := ⟨⟨_, rfl, rfl⟩, by decide, (tbk_mem (j := 7) (k := 210) rfl), Or.inr ⟨(tbk_mem (j := 7) (k := 209) rfl), 19, (tbk_mem (j := 2) (k := 124) rfl)⟩, Or.inl ⟨rfl, (tbk_mem (j := 7) (k := 211) rfl)⟩, ⟨by decide, by decide⟩, by decide +kernel, by decide +kernel, by decide⟩
def k_Checker_push : Kp := (⟨"ClassWorks$Checker", "push", "(I)Z"⟩, prog_2_method_37_code, 2, some (.boolean), [])
theorem mv_Checker_push : MV k_Checker_push 4 1 := ⟨⟨_, rfl, rfl⟩, by decide, (tbk_mem (j := 7) (k := 234) rfl), Or.inr ⟨(tbk_mem (j := 7) (k := 233) rfl), 19, (tbk_mem (j := 2) (k := 124) rfl)⟩, Or.inl ⟨rfl, (tbk_mem (j := 7) (k := 235) rfl)⟩, ⟨by decide, by decide⟩, by decide +kernel, by decide +kernel, by decide⟩
def k_Checker_comes : Kp := (⟨"ClassWorks$Checker", "comes", "(II)Z"⟩, prog_2_method_38_code, 3, some (.boolean), [])
theorem mv_Checker_comes : MV k_Checker_comes 4 2 := ⟨⟨_, rfl, rfl⟩, by decide, (tbk_mem (j := 7) (k := 230) rfl), Or.inr ⟨(tbk_mem (j := 7) (k := 229) rfl), 19, (tbk_mem (j := 2) (k := 124) rfl)⟩, Or.inl ⟨rfl, (tbk_mem (j := 7) (k := 231) rfl)⟩, ⟨by decide, by decide⟩, by decide +kernel, by decide +kernel, by decide⟩
def k_Checker_wants1 : Kp := (⟨"ClassWorks$Checker", "wants", "(I)Z"⟩, prog_2_method_34_code, 2, some (.boolean), [])
theorem mv_Checker_wants1 : MV k_Checker_wants1 4 1 := ⟨⟨_, rfl, rfl⟩, by decide, (tbk_mem (j := 7) (k := 238) rfl), Or.inr ⟨(tbk_mem (j := 7) (k := 237) rfl), 19, (tbk_mem (j := 2) (k := 124) rfl)⟩, Or.inl ⟨rfl, (tbk_mem (j := 7) (k := 239) rfl)⟩, ⟨by decide, by decide⟩, by decide +kernel, by decide +kernel, by decide⟩
def k_World_refType : Kp := (⟨"ClassWorks$World", "refType", "(I)I"⟩, prog_10_method_22_code, 2, some (.int), [])
theorem mv_World_refType : MV k_World_refType 5 1 := ⟨⟨_, rfl, rfl⟩, by decide, (tbk_mem (j := 8) (k := 5) rfl), Or.inl (tbk_mem (j := 8) (k := 6) rfl), Or.inl ⟨rfl, (tbk_mem (j := 8) (k := 7) rfl)⟩, ⟨by decide, by decide⟩, by decide +kernel, by decide +kernel, by decide⟩
def k_Checker_field : Kp := (⟨"ClassWorks$Checker", "field", "(II)Z"⟩, prog_2_method_44_code, 5, some (.boolean), [])
theorem mv_Checker_field : MV k_Checker_field 4 2 := ⟨⟨_, rfl, rfl⟩, by decide, (tbk_mem (j := 8) (k := 2) rfl), Or.inr ⟨(tbk_mem (j := 8) (k := 1) rfl), 19, (tbk_mem (j := 2) (k := 124) rfl)⟩, Or.inl ⟨rfl, (tbk_mem (j := 8) (k := 3) rfl)⟩, ⟨by decide, by decide⟩, by decide +kernel, by decide +kernel, by decide⟩
def k_World_refArguments : Kp := (⟨"ClassWorks$World", "refArguments", "(I)I"⟩, prog_10_method_23_code, 2, some (.int), [])
theorem mv_World_refArguments : MV k_World_refArguments 5 1 := ⟨⟨_, rfl, rfl⟩, by decide, (tbk_mem (j := 8) (k := 17) rfl), Or.inl (tbk_mem (j := 8) (k := 18) rfl), Or.inl ⟨rfl, (tbk_mem (j := 8) (k := 19) rfl)⟩, ⟨by decide, by decide⟩, by decide +kernel, by decide +kernel, by decide⟩
def k_World_refName : Kp := (⟨"ClassWorks$World", "refName", "(I)I"⟩, prog_10_method_21_code, 2, some (.int), [])
theorem mv_World_refName : MV k_World_refName 5 1 := ⟨⟨_, rfl, rfl⟩, by decide, (tbk_mem (j := 8) (k := 21) rfl), Or.inl (tbk_mem (j := 8) (k := 22) rfl), Or.inl ⟨rfl, (tbk_mem (j := 8) (k := 23) rfl)⟩, ⟨by decide, by decide⟩, by decide +kernel, by decide +kernel, by decide⟩
def k_Checker_makesRight : Kp := (⟨"ClassWorks$Checker", "makesRight", "(II)Z"⟩, prog_2_method_48_code, 3, some (.boolean), [])
theorem mv_Checker_makesRight : MV k_Checker_makesRight 4 2 := ⟨⟨_, rfl, rfl⟩, by decide, (tbk_mem (j := 8) (k := 26) rfl), Or.inr ⟨(tbk_mem (j := 8) (k := 25) rfl), 19, (tbk_mem (j := 2) (k := 124) rfl)⟩, Or.inl ⟨rfl, (tbk_mem (j := 8) (k := 27) rfl)⟩, ⟨by decide, by decide⟩, by decide +kernel, by decide +kernel, by decide⟩
def k_Checker_isNear : Kp := (⟨"ClassWorks$Checker", "isNear", "(I)Z"⟩, prog_2_method_49_code, 4, some (.boolean), [])
theorem mv_Checker_isNear : MV k_Checker_isNear 4 1 := ⟨⟨_, rfl, rfl⟩, by decide, (tbk_mem (j := 8) (k := 30) rfl), Or.inr ⟨(tbk_mem (j := 8) (k := 29) rfl), 19, (tbk_mem (j := 2) (k := 124) rfl)⟩, Or.inl ⟨rfl, (tbk_mem (j := 8) (k := 31) rfl)⟩, ⟨by decide, by decide⟩, by decide +kernel, by decide +kernel, by decide⟩
def k_Checker_change : Kp := (⟨"ClassWorks$Checker", "change", "(II)V"⟩, prog_2_method_50_code, 4, none, [])
theorem mv_Checker_change : MV k_Checker_change 4 2 := ⟨⟨_, rfl, rfl⟩, by decide, (tbk_mem (j := 8) (k := 34) rfl), Or.inr ⟨(tbk_mem (j := 8) (k := 33) rfl), 19, (tbk_mem (j := 2) (k := 124) rfl)⟩, Or.inl ⟨rfl, (tbk_mem (j := 8) (k := 35) rfl)⟩, ⟨by decide, by decide⟩, by decide +kernel, by decide +kernel, by decide⟩
def k_Checker_call : Kp := (⟨"ClassWorks$Checker", "call", "(II)Z"⟩, prog_2_method_47_code, 10, some (.boolean), [])
theorem mv_Checker_call : MV k_Checker_call 4 2 := ⟨⟨_, rfl, rfl⟩, by decide, (tbk_mem (j := 8) (k := 14) rfl), Or.inr ⟨(tbk_mem (j := 8) (k := 13) rfl), 19, (tbk_mem (j := 2) (k := 124) rfl)⟩, Or.inl ⟨rfl, (tbk_mem (j := 8) (k := 15) rfl)⟩, ⟨by decide, by decide⟩, by decide +kernel, by decide +kernel, by decide⟩
def k_Checker_isThere : Kp := (⟨"ClassWorks$Checker", "isThere", "(I)Z"⟩, prog_2_method_39_code, 2, some (.boolean), [])
theorem mv_Checker_isThere : MV k_Checker_isThere 4 1 := ⟨⟨_, rfl, rfl⟩, by decide, (tbk_mem (j := 8) (k := 38) rfl), Or.inr ⟨(tbk_mem (j := 8) (k := 37) rfl), 19, (tbk_mem (j := 2) (k := 124) rfl)⟩, Or.inl ⟨rfl, (tbk_mem (j := 8) (k := 39) rfl)⟩, ⟨by decide, by decide⟩, by decide +kernel, by decide +kernel, by decide⟩
def k_Checker_store : Kp := (⟨"ClassWorks$Checker", "store", "(I)Z"⟩, prog_2_method_41_code, 2, some (.boolean), [])
theorem mv_Checker_store : MV k_Checker_store 4 1 := ⟨⟨_, rfl, rfl⟩, by decide, (tbk_mem (j := 8) (k := 42) rfl), Or.inr ⟨(tbk_mem (j := 8) (k := 41) rfl), 19, (tbk_mem (j := 2) (k := 124) rfl)⟩, Or.inl ⟨rfl, (tbk_mem (j := 8) (k := 43) rfl)⟩, ⟨by decide, by decide⟩, by decide +kernel, by decide +kernel, by decide⟩
def k_Checker_under : Kp := (⟨"ClassWorks$Checker", "under", "()Z"⟩, prog_2_method_42_code, 2, some (.boolean), [])
theorem mv_Checker_under : MV k_Checker_under 4 0 := ⟨⟨_, rfl, rfl⟩, by decide, (tbk_mem (j := 8) (k := 46) rfl), Or.inr ⟨(tbk_mem (j := 8) (k := 45) rfl), 19, (tbk_mem (j := 2) (k := 124) rfl)⟩, Or.inl ⟨rfl, (tbk_mem (j := 8) (k := 47) rfl)⟩, ⟨by decide, by decide⟩, by decide +kernel, by decide +kernel, by decide⟩
def k_Checker_swap : Kp := (⟨"ClassWorks$Checker", "swap", "()Z"⟩, prog_2_method_43_code, 2, some (.boolean), [])
theorem mv_Checker_swap : MV k_Checker_swap 4 0 := ⟨⟨_, rfl, rfl⟩, by decide, (tbk_mem (j := 8) (k := 50) rfl), Or.inr ⟨(tbk_mem (j := 8) (k := 49) rfl), 19, (tbk_mem (j := 2) (k := 124) rfl)⟩, Or.inl ⟨rfl, (tbk_mem (j := 8) (k := 51) rfl)⟩, ⟨by decide, by decide⟩, by decide +kernel, by decide +kernel, by decide⟩
def k_Checker_wants3 : Kp := (⟨"ClassWorks$Checker", "wants", "(III)Z"⟩, prog_2_method_36_code, 4, some (.boolean), [])
theorem mv_Checker_wants3 : MV k_Checker_wants3 4 3 := ⟨⟨_, rfl, rfl⟩, by decide, (tbk_mem (j := 8) (k := 54) rfl), Or.inr ⟨(tbk_mem (j := 8) (k := 53) rfl), 19, (tbk_mem (j := 2) (k := 124) rfl)⟩, Or.inl ⟨rfl, (tbk_mem (j := 8) (k := 55) rfl)⟩, ⟨by decide, by decide⟩, by decide +kernel, by decide +kernel, by decide⟩
def k_Checker_hasUnmade : Kp := (⟨"ClassWorks$Checker", "hasUnmade", "()Z"⟩, prog_2_method_46_code, 3, some (.boolean), [])
theorem mv_Checker_hasUnmade : MV k_Checker_hasUnmade 4 0 := ⟨⟨_, rfl, rfl⟩, by decide, (tbk_mem (j := 8) (k := 62) rfl), Or.inr ⟨(tbk_mem (j := 8) (k := 61) rfl), 19, (tbk_mem (j := 2) (k := 124) rfl)⟩, Or.inl ⟨rfl, (tbk_mem (j := 8) (k := 63) rfl)⟩, ⟨by decide, by decide⟩, by decide +kernel, by decide +kernel, by decide⟩
def k_Checker_leaves : Kp := (⟨"ClassWorks$Checker", "leaves", "(I)Z"⟩, prog_2_method_45_code, 4, some (.boolean), [])
theorem mv_Checker_leaves : MV k_Checker_leaves 4 1 := ⟨⟨_, rfl, rfl⟩, by decide, (tbk_mem (j := 8) (k := 58) rfl), Or.inr ⟨(tbk_mem (j := 8) (k := 57) rfl), 19, (tbk_mem (j := 2) (k := 124) rfl)⟩, Or.inl ⟨rfl, (tbk_mem (j := 8) (k := 59) rfl)⟩, ⟨by decide, by decide⟩, by decide +kernel, by decide +kernel, by decide⟩
def k_Checker_act : Kp := (⟨"ClassWorks$Checker", "act", "(I)Z"⟩, prog_2_method_40_code, 4, some (.boolean), [])
theorem mv_Checker_act : MV k_Checker_act 4 1 := ⟨⟨_, rfl, rfl⟩, by decide, (tbk_mem (j := 7) (k := 205) rfl), Or.inr ⟨(tbk_mem (j := 7) (k := 204) rfl), 19, (tbk_mem (j := 2) (k := 124) rfl)⟩, Or.inl ⟨rfl, (tbk_mem (j := 7) (k := 206) rfl)⟩, ⟨by decide, by decide⟩, by decide +kernel, by decide +kernel, by decide⟩
def w_Checker_handlers_j234 (this : Nat) (Q : Int32 → Mem → Prop) (k2 : Int32 → Mem → Prop) (v1 : Int32) (M : Mem) : Prop :=
  k2 (v1 + (1 : Int32)) M
def w_Checker_handlers_j186 (this : Nat) (Q : Int32 → Mem → Prop) (k2 : Int32 → Mem → Prop) (v1 : Int32) (v3 : Int32) (s0 : Int32) (M : Mem) : Prop :=
  w_Works_kindOf s0 (fun r32 M31 => ∃ i33, (mR M31 4 this 4) = some (5, i33) ∧ ∃ i34, (mR M31 4 this 4) = some (5, i34) ∧ vp_in v3 (mL M31 70 i34) ∧ ∃ i36, (mR M31 4 this 4) = some (5, i36) ∧ vp_in v3 (mL M31 71 i36) ∧ vp_in ((mI M31 70 i34 v3.toNatClampNeg) + (mI M31 71 i36 v3.toNatClampNeg)) (mL M31 73 i33) ∧ w_Checker_fits this r32 (mI M31 73 i33 ((mI M31 70 i34 v3.toNatClampNeg) + (mI M31 71 i36 v3.toNatClampNeg)).toNatClampNeg) (fun r40 M39 => if r40 = 0 then (w_Checker_breaks this (37 : Int32) (fun r43 M42 => (r43 = 0 ∨ r43 = 1) ∧ Q r43 M42) M39) else (w_Checker_handlers_j234 this Q k2 v1 M39)) M31) M
def w_Checker_handlers_L2 (this : Nat) (Q : Int32 → Mem → Prop) : Nat → Int32 → Mem → Prop
  | 0, _, _ => False
  | n + 1, v1, M => ∃ i1, (mR M 4 this 4) = some (5, i1) ∧ vp_in (mI M 4 this 6) (mL M 65 i1) ∧ if (mI M 65 i1 (mI M 4 this 6).toNatClampNeg) ≤ v1 then (Q (1 : Int32) M) else (∃ i4, (mR M 4 this 4) = some (5, i4) ∧ vp_in (mI M 4 this 6) (mL M 64 i4) ∧ ∃ x6 : Int32, x6 = ((4 : Int32) * ((mI M 64 i4 (mI M 4 this 6).toNatClampNeg) + v1)) ∧ ∃ i7, (mR M 4 this 4) = some (5, i7) ∧ vp_in x6 (mL M 75 i7) ∧ if (mI M 4 this 7) < (mI M 75 i7 x6.toNatClampNeg) then (w_Checker_handlers_j234 this Q (w_Checker_handlers_L2 this Q n) v1 M) else (∃ i10, (mR M 4 this 4) = some (5, i10) ∧ vp_in (x6 + (1 : Int32)) (mL M 75 i10) ∧ if (mI M 4 this 7) < (mI M 75 i10 (x6 + (1 : Int32)).toNatClampNeg) then (if (mI M 4 this 10) = 0 then (∃ i14, (mR M 4 this 4) = some (5, i14) ∧ vp_in (mI M 4 this 6) (mL M 62 i14) ∧ ∃ i16, (mR M 4 this 4) = some (5, i16) ∧ vp_in (x6 + (2 : Int32)) (mL M 75 i16) ∧ ∃ x18 : Int32, x18 = ((mI M 62 i14 (mI M 4 this 6).toNatClampNeg) + (mI M 75 i16 (x6 + (2 : Int32)).toNatClampNeg)) ∧ w_Checker_isRight this x18 (fun r20 M19 => if r20 = 0 then (Q (0 : Int32) M19) else (∃ i22, (mR M19 4 this 4) = some (5, i22) ∧ vp_in x18 (mL M19 72 i22) ∧ if (mI M19 72 i22 x18.toNatClampNeg) = (1 : Int32) then (w_Checker_localsFit this x18 (fun r26 M25 => if r26 = 0 then (Q (0 : Int32) M25) else (∃ i28, (mR M25 4 this 4) = some (5, i28) ∧ vp_in (x6 + (3 : Int32)) (mL M25 75 i28) ∧ if (mI M25 75 i28 (x6 + (3 : Int32)).toNatClampNeg) = (77 : Int32) then (w_Checker_handlers_j186 this Q (w_Checker_handlers_L2 this Q n) v1 x18 (82 : Int32) M25) else (∃ i44, (mR M25 4 this 4) = some (5, i44) ∧ vp_in (x6 + (3 : Int32)) (mL M25 75 i44) ∧ w_Checker_handlers_j186 this Q (w_Checker_handlers_L2 this Q n) v1 x18 (mI M25 75 i44 (x6 + (3 : Int32)).toNatClampNeg) M25))) M19) else (w_Checker_breaks this (37 : Int32) (fun r47 M46 => (r47 = 0 ∨ r47 = 1) ∧ Q r47 M46) M19))) M) else (w_Checker_handles this x6 (fun r49 M48 => if r49 = 0 then (Q (0 : Int32) M48) else (w_Checker_handlers_j234 this Q (w_Checker_handlers_L2 this Q n) v1 M48)) M)) else (w_Checker_handlers_j234 this Q (w_Checker_handlers_L2 this Q n) v1 M)))
def w_Checker_handlers (this : Nat) (Q : Int32 → Mem → Prop) (M : Mem) : Prop :=
  ∃ n51 : Nat, w_Checker_handlers_L2 this Q n51 (0 : Int32) M
set_option maxRecDepth 4096 in
theorem lk_Checker_handlers_j234 {γ : Gm} (hγ : Gk γ) (this : Nat) (Q : Int32 → Mem → Prop) (k2 : Int32 → Mem → Prop) (hk2 : ∀ (v1 : Int32) (M : Mem), k2 v1 M → E γ k_Checker_handlers 6 2 [some (vr (some (4, this))), some (vi v1), none, none, none] [] M (Qi Q)) (v1 : Int32) (M : Mem) (h : w_Checker_handlers_j234 this Q k2 v1 M) : E γ k_Checker_handlers 6 234 [some (vr (some (4, this))), some (vi v1), none, none, none] [] M (Qi Q) := by
  unfold w_Checker_handlers_j234 at h
  refine E_blk (lv' := [some (vr (some (4, this))), some (vi (v1 + (1 : Int32))), none, none, none]) (st' := []) (M1 := M) (pc' := 237) (tb_Checker hγ) [.iinc 1 1] (by decide +kernel) rfl rfl trivial ?_
  refine E_goto (off := -235) (tgt := 2) (by decide +kernel) (by decide) ?_
  refine E_mask [true, true, false, false, false] rfl ?_
  exact hk2 (v1 + (1 : Int32)) M h
set_option maxRecDepth 4096 in
theorem lk_Checker_handlers_j186 {γ : Gm} (hγ : Gk γ) (this : Nat) (Q : Int32 → Mem → Prop) (k2 : Int32 → Mem → Prop) (hk2 : ∀ (v1 : Int32) (M : Mem), k2 v1 M → E γ k_Checker_handlers 6 2 [some (vr (some (4, this))), some (vi v1), none, none, none] [] M (Qi Q)) (v1 : Int32) (v3 : Int32) (s0 : Int32) (M : Mem) (h : w_Checker_handlers_j186 this Q k2 v1 v3 s0 M) : E γ k_Checker_handlers 6 186 [some (vr (some (4, this))), some (vi v1), none, some (vi v3), none] [vi s0] M (Qi Q) := by
  unfold w_Checker_handlers_j186 at h
  refine E_blk (lv' := [some (vr (some (4, this))), some (vi v1), none, some (vi v3), some (vi s0)]) (st' := [vi s0, vr (some (4, this))]) (M1 := M) (pc' := 191) (tb_Checker hγ) [.istore 4, .aload_n 0, .iload 4] (by decide +kernel) rfl rfl trivial ?_
  refine E_callS (κ' := k_Works_kindOf) (As := [vi s0]) (st := [vr (some (4, this))]) ms_Works_kindOf (Or.inr ⟨"ClassWorks", (tbk_mem (j := 7) (k := 130) rfl)⟩) rfl (by decide +kernel) (Nat.le_of_ble_eq_true rfl) (Nat.le_of_ble_eq_true rfl) rfl (by decide) (lk_Works_kindOf hγ s0 _ M h) (fun _ _ => Qi_r) (fun v M31 hp => Qi_k (R := fun st => E γ k_Checker_handlers 6 194 [some (vr (some (4, this))), some (vi v1), none, some (vi v3), some (vi s0)] st M31 (Qi Q)) hp (fun r32 h => ?_))
  refine E_blk (lv' := [some (vr (some (4, this))), some (vi v1), none, some (vi v3), some (vi s0)]) (st' := [vr (mR M31 4 this 4), vi r32, vr (some (4, this))]) (M1 := M31) (pc' := 198) (tb_Checker hγ) [.aload_n 0, .getfield 35] (by decide +kernel) rfl rfl trivial ?_
  obtain ⟨i33, ei33, h⟩ := h
  rw [ei33]
  refine E_blk (lv' := [some (vr (some (4, this))), some (vi v1), none, some (vi v3), some (vi s0)]) (st' := [vr (mR M31 4 this 4), vr (some (73, i33)), vi r32, vr (some (4, this))]) (M1 := M31) (pc' := 205) (tb_Checker hγ) [.getfield 134, .aload_n 0, .getfield 35] (by decide +kernel) rfl rfl trivial ?_
  obtain ⟨i34, ei34, h⟩ := h
  rw [ei34]
  obtain ⟨c35, h⟩ := h
  refine E_blk (lv' := [some (vr (some (4, this))), some (vi v1), none, some (vi v3), some (vi s0)]) (st' := [vr (mR M31 4 this 4), vi (mI M31 70 i34 v3.toNatClampNeg), vr (some (73, i33)), vi r32, vr (some (4, this))]) (M1 := M31) (pc' := 214) (tb_Checker hγ) [.getfield 124, .iload_n 3, .iaload, .aload_n 0, .getfield 35] (by decide +kernel) rfl rfl ⟨c35, trivial⟩ ?_
  obtain ⟨i36, ei36, h⟩ := h
  rw [ei36]
  obtain ⟨c37, c38, h⟩ := h
  refine E_blk (lv' := [some (vr (some (4, this))), some (vi v1), none, some (vi v3), some (vi s0)]) (st' := [vi (mI M31 73 i33 ((mI M31 70 i34 v3.toNatClampNeg) + (mI M31 71 i36 v3.toNatClampNeg)).toNatClampNeg), vi r32, vr (some (4, this))]) (M1 := M31) (pc' := 221) (tb_Checker hγ) [.getfield 131, .iload_n 3, .iaload, .iadd, .iaload] (by decide +kernel) rfl rfl ⟨c37, c38, trivial⟩ ?_
  refine E_callV (κ' := k_Checker_fits) (As := [vi r32, vi (mI M31 73 i33 ((mI M31 70 i34 v3.toNatClampNeg) + (mI M31 71 i36 v3.toNatClampNeg)).toNatClampNeg)]) (st := []) mv_Checker_fits (Or.inl (tbk_mem (j := 7) (k := 155) rfl)) rfl (by decide +kernel) (Nat.le_of_ble_eq_true rfl) (Nat.le_of_ble_eq_true rfl) rfl (by decide) (lk_Checker_fits hγ this r32 (mI M31 73 i33 ((mI M31 70 i34 v3.toNatClampNeg) + (mI M31 71 i36 v3.toNatClampNeg)).toNatClampNeg) _ M31 h) (fun _ _ => Qi_r) (fun v M39 hp => Qi_k (R := fun st => E γ k_Checker_handlers 6 224 [some (vr (some (4, this))), some (vi v1), none, some (vi v3), some (vi s0)] st M39 (Qi Q)) hp (fun r40 h => ?_))
  refine E_if_ne (off := 10) (tgt := 234) (by decide +kernel) (by decide) (fun b41 => ?_) (fun b41 => ?_)
  · rw [if_pos b41] at h
    refine E_blk (lv' := [some (vr (some (4, this))), some (vi v1), none, some (vi v3), some (vi s0)]) (st' := [vi (37 : Int32), vr (some (4, this))]) (M1 := M39) (pc' := 230) (tb_Checker hγ) [.aload_n 0, .bipush 37] (by decide +kernel) rfl rfl trivial ?_
    refine E_callV (κ' := k_Checker_breaks) (As := [vi (37 : Int32)]) (st := []) mv_Checker_breaks (Or.inl (tbk_mem (j := 7) (k := 147) rfl)) rfl (by decide +kernel) (Nat.le_of_ble_eq_true rfl) (Nat.le_of_ble_eq_true rfl) rfl (by decide) (lk_Checker_breaks hγ this (37 : Int32) _ M39 h) (fun _ _ => Qi_r) (fun v M42 hp => Qi_k (R := fun st => E γ k_Checker_handlers 6 233 [some (vr (some (4, this))), some (vi v1), none, some (vi v3), some (vi s0)] st M42 (Qi Q)) hp (fun r43 h => ?_))
    exact E_zret rfl h.1 (by decide +kernel) h.2
  · rw [if_neg b41] at h
    refine E_mask [true, true, false, false, false] rfl ?_
    exact lk_Checker_handlers_j234 hγ this Q k2 hk2 v1 M39 h
set_option maxRecDepth 4096 in
theorem lk_Checker_handlers_L2 {γ : Gm} (hγ : Gk γ) (this : Nat) (Q : Int32 → Mem → Prop) : ∀ (n : Nat) (v1 : Int32) (M : Mem), w_Checker_handlers_L2 this Q n v1 M → E γ k_Checker_handlers 6 2 [some (vr (some (4, this))), some (vi v1), none, none, none] [] M (Qi Q) := by
  intro n
  induction n with
  | zero => intro v1 M h; exact h.elim
  | succ n ih =>
    intro v1 M h
    unfold w_Checker_handlers_L2 at h
    refine E_blk (lv' := [some (vr (some (4, this))), some (vi v1), none, none, none]) (st' := [vr (mR M 4 this 4), vi v1]) (M1 := M) (pc' := 7) (tb_Checker hγ) [.iload_n 1, .aload_n 0, .getfield 35] (by decide +kernel) rfl rfl trivial ?_
    obtain ⟨i1, ei1, h⟩ := h
    rw [ei1]
    obtain ⟨c2, h⟩ := h
    refine E_blk (lv' := [some (vr (some (4, this))), some (vi v1), none, none, none]) (st' := [vi (mI M 65 i1 (mI M 4 this 6).toNatClampNeg), vi v1]) (M1 := M) (pc' := 15) (tb_Checker hγ) [.getfield 259, .aload_n 0, .getfield 54, .iaload] (by decide +kernel) rfl rfl ⟨c2, trivial⟩ ?_
    refine E_icmp_ge (off := 225) (tgt := 240) (by decide +kernel) (by decide) (fun b3 => ?_) (fun b3 => ?_)
    · rw [if_pos b3] at h
      refine E_blk (lv' := [some (vr (some (4, this))), some (vi v1), none, none, none]) (st' := [vi (1 : Int32)]) (M1 := M) (pc' := 241) (tb_Checker hγ) [.iconst 1] (by decide +kernel) rfl rfl trivial ?_
      exact E_zret rfl (Or.inr rfl) (by decide +kernel) h
    · rw [if_neg b3] at h
      refine E_blk (lv' := [some (vr (some (4, this))), some (vi v1), none, none, none]) (st' := [vr (mR M 4 this 4), vi (4 : Int32)]) (M1 := M) (pc' := 23) (tb_Checker hγ) [.iconst 4, .aload_n 0, .getfield 35] (by decide +kernel) rfl rfl trivial ?_
      obtain ⟨i4, ei4, h⟩ := h
      rw [ei4]
      obtain ⟨c5, h⟩ := h
      refine E_blk (lv' := [some (vr (some (4, this))), some (vi v1), some (vi ((4 : Int32) * ((mI M 64 i4 (mI M 4 this 6).toNatClampNeg) + v1))), none, none]) (st' := []) (M1 := M) (pc' := 35) (tb_Checker hγ) [.getfield 262, .aload_n 0, .getfield 54, .iaload, .iload_n 1, .iadd, .imul, .istore_n 2] (by decide +kernel) rfl rfl ⟨c5, trivial⟩ ?_
      obtain ⟨x6, ex6, h⟩ := h
      rw [← ex6]
      refine E_blk (lv' := [some (vr (some (4, this))), some (vi v1), some (vi x6), none, none]) (st' := [vr (mR M 4 this 4), vi (mI M 4 this 7)]) (M1 := M) (pc' := 43) (tb_Checker hγ) [.aload_n 0, .getfield 69, .aload_n 0, .getfield 35] (by decide +kernel) rfl rfl trivial ?_
      obtain ⟨i7, ei7, h⟩ := h
      rw [ei7]
      obtain ⟨c8, h⟩ := h
      refine E_blk (lv' := [some (vr (some (4, this))), some (vi v1), some (vi x6), none, none]) (st' := [vi (mI M 75 i7 x6.toNatClampNeg), vi (mI M 4 this 7)]) (M1 := M) (pc' := 48) (tb_Checker hγ) [.getfield 265, .iload_n 2, .iaload] (by decide +kernel) rfl rfl ⟨c8, trivial⟩ ?_
      refine E_icmp_lt (off := 186) (tgt := 234) (by decide +kernel) (by decide) (fun b9 => ?_) (fun b9 => ?_)
      · rw [if_pos b9] at h
        refine E_mask [true, true, false, false, false] rfl ?_
        exact lk_Checker_handlers_j234 hγ this Q (w_Checker_handlers_L2 this Q n) ih v1 M h
      · rw [if_neg b9] at h
        refine E_blk (lv' := [some (vr (some (4, this))), some (vi v1), some (vi x6), none, none]) (st' := [vr (mR M 4 this 4), vi (mI M 4 this 7)]) (M1 := M) (pc' := 59) (tb_Checker hγ) [.aload_n 0, .getfield 69, .aload_n 0, .getfield 35] (by decide +kernel) rfl rfl trivial ?_
        obtain ⟨i10, ei10, h⟩ := h
        rw [ei10]
        obtain ⟨c11, h⟩ := h
        refine E_blk (lv' := [some (vr (some (4, this))), some (vi v1), some (vi x6), none, none]) (st' := [vi (mI M 75 i10 (x6 + (1 : Int32)).toNatClampNeg), vi (mI M 4 this 7)]) (M1 := M) (pc' := 66) (tb_Checker hγ) [.getfield 265, .iload_n 2, .iconst 1, .iadd, .iaload] (by decide +kernel) rfl rfl ⟨c11, trivial⟩ ?_
        refine E_icmp_lt (off := 6) (tgt := 72) (by decide +kernel) (by decide) (fun b12 => ?_) (fun b12 => ?_)
        · rw [if_pos b12] at h
          refine E_blk (lv' := [some (vr (some (4, this))), some (vi v1), some (vi x6), none, none]) (st' := [vi (mI M 4 this 10)]) (M1 := M) (pc' := 76) (tb_Checker hγ) [.aload_n 0, .getfield 177] (by decide +kernel) rfl rfl trivial ?_
          refine E_if_eq (off := 13) (tgt := 89) (by decide +kernel) (by decide) (fun b13 => ?_) (fun b13 => ?_)
          · rw [if_pos b13] at h
            refine E_blk (lv' := [some (vr (some (4, this))), some (vi v1), some (vi x6), none, none]) (st' := [vr (mR M 4 this 4)]) (M1 := M) (pc' := 93) (tb_Checker hγ) [.aload_n 0, .getfield 35] (by decide +kernel) rfl rfl trivial ?_
            obtain ⟨i14, ei14, h⟩ := h
            rw [ei14]
            obtain ⟨c15, h⟩ := h
            refine E_blk (lv' := [some (vr (some (4, this))), some (vi v1), some (vi x6), none, none]) (st' := [vr (mR M 4 this 4), vi (mI M 62 i14 (mI M 4 this 6).toNatClampNeg)]) (M1 := M) (pc' := 105) (tb_Checker hγ) [.getfield 118, .aload_n 0, .getfield 54, .iaload, .aload_n 0, .getfield 35] (by decide +kernel) rfl rfl ⟨c15, trivial⟩ ?_
            obtain ⟨i16, ei16, h⟩ := h
            rw [ei16]
            obtain ⟨c17, h⟩ := h
            refine E_blk (lv' := [some (vr (some (4, this))), some (vi v1), some (vi x6), some (vi ((mI M 62 i14 (mI M 4 this 6).toNatClampNeg) + (mI M 75 i16 (x6 + (2 : Int32)).toNatClampNeg))), none]) (st' := []) (M1 := M) (pc' := 114) (tb_Checker hγ) [.getfield 265, .iload_n 2, .iconst 2, .iadd, .iaload, .iadd, .istore_n 3] (by decide +kernel) rfl rfl ⟨c17, trivial⟩ ?_
            obtain ⟨x18, ex18, h⟩ := h
            rw [← ex18]
            refine E_blk (lv' := [some (vr (some (4, this))), some (vi v1), some (vi x6), some (vi x18), none]) (st' := [vi x18, vr (some (4, this))]) (M1 := M) (pc' := 116) (tb_Checker hγ) [.aload_n 0, .iload_n 3] (by decide +kernel) rfl rfl trivial ?_
            refine E_callV (κ' := k_Checker_isRight) (As := [vi x18]) (st := []) mv_Checker_isRight (Or.inl (tbk_mem (j := 7) (k := 143) rfl)) rfl (by decide +kernel) (Nat.le_of_ble_eq_true rfl) (Nat.le_of_ble_eq_true rfl) rfl (by decide) (lk_Checker_isRight hγ this x18 _ M h) (fun _ _ => Qi_r) (fun v M19 hp => Qi_k (R := fun st => E γ k_Checker_handlers 6 119 [some (vr (some (4, this))), some (vi v1), some (vi x6), some (vi x18), none] st M19 (Qi Q)) hp (fun r20 h => ?_))
            refine E_if_ne (off := 5) (tgt := 124) (by decide +kernel) (by decide) (fun b21 => ?_) (fun b21 => ?_)
            · rw [if_pos b21] at h
              refine E_blk (lv' := [some (vr (some (4, this))), some (vi v1), some (vi x6), some (vi x18), none]) (st' := [vi (0 : Int32)]) (M1 := M19) (pc' := 123) (tb_Checker hγ) [.iconst 0] (by decide +kernel) rfl rfl trivial ?_
              exact E_zret rfl (Or.inl rfl) (by decide +kernel) h
            · rw [if_neg b21] at h
              refine E_blk (lv' := [some (vr (some (4, this))), some (vi v1), some (vi x6), some (vi x18), none]) (st' := [vr (mR M19 4 this 4)]) (M1 := M19) (pc' := 128) (tb_Checker hγ) [.aload_n 0, .getfield 35] (by decide +kernel) rfl rfl trivial ?_
              obtain ⟨i22, ei22, h⟩ := h
              rw [ei22]
              obtain ⟨c23, h⟩ := h
              refine E_blk (lv' := [some (vr (some (4, this))), some (vi v1), some (vi x6), some (vi x18), none]) (st' := [vi (1 : Int32), vi (mI M19 72 i22 x18.toNatClampNeg)]) (M1 := M19) (pc' := 134) (tb_Checker hγ) [.getfield 137, .iload_n 3, .iaload, .iconst 1] (by decide +kernel) rfl rfl ⟨c23, trivial⟩ ?_
              refine E_icmp_eq (off := 10) (tgt := 144) (by decide +kernel) (by decide) (fun b24 => ?_) (fun b24 => ?_)
              · rw [if_pos b24] at h
                refine E_blk (lv' := [some (vr (some (4, this))), some (vi v1), some (vi x6), some (vi x18), none]) (st' := [vi x18, vr (some (4, this))]) (M1 := M19) (pc' := 146) (tb_Checker hγ) [.aload_n 0, .iload_n 3] (by decide +kernel) rfl rfl trivial ?_
                refine E_callV (κ' := k_Checker_localsFit) (As := [vi x18]) (st := []) mv_Checker_localsFit (Or.inl (tbk_mem (j := 7) (k := 151) rfl)) rfl (by decide +kernel) (Nat.le_of_ble_eq_true rfl) (Nat.le_of_ble_eq_true rfl) rfl (by decide) (lk_Checker_localsFit hγ this x18 _ M19 h) (fun _ _ => Qi_r) (fun v M25 hp => Qi_k (R := fun st => E γ k_Checker_handlers 6 149 [some (vr (some (4, this))), some (vi v1), some (vi x6), some (vi x18), none] st M25 (Qi Q)) hp (fun r26 h => ?_))
                refine E_if_ne (off := 5) (tgt := 154) (by decide +kernel) (by decide) (fun b27 => ?_) (fun b27 => ?_)
                · rw [if_pos b27] at h
                  refine E_blk (lv' := [some (vr (some (4, this))), some (vi v1), some (vi x6), some (vi x18), none]) (st' := [vi (0 : Int32)]) (M1 := M25) (pc' := 153) (tb_Checker hγ) [.iconst 0] (by decide +kernel) rfl rfl trivial ?_
                  exact E_zret rfl (Or.inl rfl) (by decide +kernel) h
                · rw [if_neg b27] at h
                  refine E_blk (lv' := [some (vr (some (4, this))), some (vi v1), some (vi x6), some (vi x18), none]) (st' := [vr (mR M25 4 this 4)]) (M1 := M25) (pc' := 158) (tb_Checker hγ) [.aload_n 0, .getfield 35] (by decide +kernel) rfl rfl trivial ?_
                  obtain ⟨i28, ei28, h⟩ := h
                  rw [ei28]
                  obtain ⟨c29, h⟩ := h
                  refine E_blk (lv' := [some (vr (some (4, this))), some (vi v1), some (vi x6), some (vi x18), none]) (st' := [vi (77 : Int32), vi (mI M25 75 i28 (x6 + (3 : Int32)).toNatClampNeg)]) (M1 := M25) (pc' := 167) (tb_Checker hγ) [.getfield 265, .iload_n 2, .iconst 3, .iadd, .iaload, .bipush 77] (by decide +kernel) rfl rfl ⟨c29, trivial⟩ ?_
                  refine E_icmp_ne (off := 8) (tgt := 175) (by decide +kernel) (by decide) (fun b30 => ?_) (fun b30 => ?_)
                  · rw [if_pos b30] at h
                    refine E_blk (lv' := [some (vr (some (4, this))), some (vi v1), some (vi x6), some (vi x18), none]) (st' := [vi (82 : Int32)]) (M1 := M25) (pc' := 172) (tb_Checker hγ) [.bipush 82] (by decide +kernel) rfl rfl trivial ?_
                    refine E_goto (off := 14) (tgt := 186) (by decide +kernel) (by decide) ?_
                    refine E_mask [true, true, false, true, false] rfl ?_
                    exact lk_Checker_handlers_j186 hγ this Q (w_Checker_handlers_L2 this Q n) ih v1 x18 (82 : Int32) M25 h
                  · rw [if_neg b30] at h
                    refine E_blk (lv' := [some (vr (some (4, this))), some (vi v1), some (vi x6), some (vi x18), none]) (st' := [vr (mR M25 4 this 4)]) (M1 := M25) (pc' := 179) (tb_Checker hγ) [.aload_n 0, .getfield 35] (by decide +kernel) rfl rfl trivial ?_
                    obtain ⟨i44, ei44, h⟩ := h
                    rw [ei44]
                    obtain ⟨c45, h⟩ := h
                    refine E_blk (lv' := [some (vr (some (4, this))), some (vi v1), some (vi x6), some (vi x18), none]) (st' := [vi (mI M25 75 i44 (x6 + (3 : Int32)).toNatClampNeg)]) (M1 := M25) (pc' := 186) (tb_Checker hγ) [.getfield 265, .iload_n 2, .iconst 3, .iadd, .iaload] (by decide +kernel) rfl rfl ⟨c45, trivial⟩ ?_
                    refine E_mask [true, true, false, true, false] rfl ?_
                    exact lk_Checker_handlers_j186 hγ this Q (w_Checker_handlers_L2 this Q n) ih v1 x18 (mI M25 75 i44 (x6 + (3 : Int32)).toNatClampNeg) M25 h
              · rw [if_neg b24] at h
                refine E_blk (lv' := [some (vr (some (4, this))), some (vi v1), some (vi x6), some (vi x18), none]) (st' := [vi (37 : Int32), vr (some (4, this))]) (M1 := M19) (pc' := 140) (tb_Checker hγ) [.aload_n 0, .bipush 37] (by decide +kernel) rfl rfl trivial ?_
                refine E_callV (κ' := k_Checker_breaks) (As := [vi (37 : Int32)]) (st := []) mv_Checker_breaks (Or.inl (tbk_mem (j := 7) (k := 147) rfl)) rfl (by decide +kernel) (Nat.le_of_ble_eq_true rfl) (Nat.le_of_ble_eq_true rfl) rfl (by decide) (lk_Checker_breaks hγ this (37 : Int32) _ M19 h) (fun _ _ => Qi_r) (fun v M46 hp => Qi_k (R := fun st => E γ k_Checker_handlers 6 143 [some (vr (some (4, this))), some (vi v1), some (vi x6), some (vi x18), none] st M46 (Qi Q)) hp (fun r47 h => ?_))
                exact E_zret rfl h.1 (by decide +kernel) h.2
          · rw [if_neg b13] at h
            refine E_blk (lv' := [some (vr (some (4, this))), some (vi v1), some (vi x6), none, none]) (st' := [vi x6, vr (some (4, this))]) (M1 := M) (pc' := 81) (tb_Checker hγ) [.aload_n 0, .iload_n 2] (by decide +kernel) rfl rfl trivial ?_
            refine E_callV (κ' := k_Checker_handles) (As := [vi x6]) (st := []) mv_Checker_handles (Or.inl (tbk_mem (j := 7) (k := 180) rfl)) rfl (by decide +kernel) (Nat.le_of_ble_eq_true rfl) (Nat.le_of_ble_eq_true rfl) rfl (by decide) (lk_Checker_handles hγ this x6 _ M h) (fun _ _ => Qi_r) (fun v M48 hp => Qi_k (R := fun st => E γ k_Checker_handlers 6 84 [some (vr (some (4, this))), some (vi v1), some (vi x6), none, none] st M48 (Qi Q)) hp (fun r49 h => ?_))
            refine E_if_ne (off := 150) (tgt := 234) (by decide +kernel) (by decide) (fun b50 => ?_) (fun b50 => ?_)
            · rw [if_pos b50] at h
              refine E_blk (lv' := [some (vr (some (4, this))), some (vi v1), some (vi x6), none, none]) (st' := [vi (0 : Int32)]) (M1 := M48) (pc' := 88) (tb_Checker hγ) [.iconst 0] (by decide +kernel) rfl rfl trivial ?_
              exact E_zret rfl (Or.inl rfl) (by decide +kernel) h
            · rw [if_neg b50] at h
              refine E_mask [true, true, false, false, false] rfl ?_
              exact lk_Checker_handlers_j234 hγ this Q (w_Checker_handlers_L2 this Q n) ih v1 M48 h
        · rw [if_neg b12] at h
          refine E_goto (off := 165) (tgt := 234) (by decide +kernel) (by decide) ?_
          refine E_mask [true, true, false, false, false] rfl ?_
          exact lk_Checker_handlers_j234 hγ this Q (w_Checker_handlers_L2 this Q n) ih v1 M h
set_option maxRecDepth 4096 in
theorem lk_Checker_handlers {γ : Gm} (hγ : Gk γ) (this : Nat) (Q : Int32 → Mem → Prop) (M : Mem) (h : w_Checker_handlers this Q M) : E γ k_Checker_handlers 6 0 [some (vr (some (4, this))), none, none, none, none] [] M (Qi Q) := by
  unfold w_Checker_handlers at h
  refine E_blk (lv' := [some (vr (some (4, this))), some (vi (0 : Int32)), none, none, none]) (st' := []) (M1 := M) (pc' := 2) (tb_Checker hγ) [.iconst 0, .istore_n 1] (by decide +kernel) rfl rfl trivial ?_
  obtain ⟨n51, h⟩ := h
  refine E_mask [true, true, false, false, false] rfl ?_
  exact lk_Checker_handlers_L2 hγ this Q n51 (0 : Int32) M h
def w_Checker_needs (this : Nat) (a1 : Int32) (Q : Int32 → Mem → Prop) (M : Mem) : Prop :=
  if a1 ≤ (mI M 4 this 2) then (Q (1 : Int32) M) else (w_Checker_breaks this (31 : Int32) (fun r3 M2 => if r3 = 0 then (Q (0 : Int32) M2) else (Q (1 : Int32) M2)) M)
set_option maxRecDepth 4096 in
theorem lk_Checker_needs {γ : Gm} (hγ : Gk γ) (this : Nat) (a1 : Int32) (Q : Int32 → Mem → Prop) (M : Mem) (h : w_Checker_needs this a1 Q M) : E γ k_Checker_needs 1 0 [some (vr (some (4, this))), some (vi a1)] [] M (Qi Q) := by
  unfold w_Checker_needs at h
  refine E_blk (lv' := [some (vr (some (4, this))), some (vi a1)]) (st' := [vi a1, vi (mI M 4 this 2)]) (M1 := M) (pc' := 5) (tb_Checker hγ) [.aload_n 0, .getfield 102, .iload_n 1] (by decide +kernel) rfl rfl trivial ?_
  refine E_icmp_ge (off := 12) (tgt := 17) (by decide +kernel) (by decide) (fun b1 => ?_) (fun b1 => ?_)
  · rw [if_pos b1] at h
    refine E_blk (lv' := [some (vr (some (4, this))), some (vi a1)]) (st' := [vi (1 : Int32)]) (M1 := M) (pc' := 18) (tb_Checker hγ) [.iconst 1] (by decide +kernel) rfl rfl trivial ?_
    refine E_goto (off := 4) (tgt := 22) (by decide +kernel) (by decide) ?_
    exact E_zret rfl (Or.inr rfl) (by decide +kernel) h
  · rw [if_neg b1] at h
    refine E_blk (lv' := [some (vr (some (4, this))), some (vi a1)]) (st' := [vi (31 : Int32), vr (some (4, this))]) (M1 := M) (pc' := 11) (tb_Checker hγ) [.aload_n 0, .bipush 31] (by decide +kernel) rfl rfl trivial ?_
    refine E_callV (κ' := k_Checker_breaks) (As := [vi (31 : Int32)]) (st := []) mv_Checker_breaks (Or.inl (tbk_mem (j := 7) (k := 147) rfl)) rfl (by decide +kernel) (Nat.le_of_ble_eq_true rfl) (Nat.le_of_ble_eq_true rfl) rfl (by decide) (lk_Checker_breaks hγ this (31 : Int32) _ M h) (fun _ _ => Qi_r) (fun v M2 hp => Qi_k (R := fun st => E γ k_Checker_needs 1 14 [some (vr (some (4, this))), some (vi a1)] st M2 (Qi Q)) hp (fun r3 h => ?_))
    refine E_if_eq (off := 7) (tgt := 21) (by decide +kernel) (by decide) (fun b4 => ?_) (fun b4 => ?_)
    · rw [if_pos b4] at h
      refine E_blk (lv' := [some (vr (some (4, this))), some (vi a1)]) (st' := [vi (0 : Int32)]) (M1 := M2) (pc' := 22) (tb_Checker hγ) [.iconst 0] (by decide +kernel) rfl rfl trivial ?_
      exact E_zret rfl (Or.inl rfl) (by decide +kernel) h
    · rw [if_neg b4] at h
      refine E_blk (lv' := [some (vr (some (4, this))), some (vi a1)]) (st' := [vi (1 : Int32)]) (M1 := M2) (pc' := 18) (tb_Checker hγ) [.iconst 1] (by decide +kernel) rfl rfl trivial ?_
      refine E_goto (off := 4) (tgt := 22) (by decide +kernel) (by decide) ?_
      exact E_zret rfl (Or.inr rfl) (by decide +kernel) h
def w_Checker_isUnmade (this : Nat) (a1 : Int32) (Q : Int32 → Mem → Prop) (M : Mem) : Prop :=
  if a1 = (-3 : Int32) then (Q (1 : Int32) M) else (if (-10 : Int32) < a1 then (Q (0 : Int32) M) else (Q (1 : Int32) M))
set_option maxRecDepth 4096 in
theorem lk_Checker_isUnmade {γ : Gm} (hγ : Gk γ) (this : Nat) (a1 : Int32) (Q : Int32 → Mem → Prop) (M : Mem) (h : w_Checker_isUnmade this a1 Q M) : E γ k_Checker_isUnmade 0 0 [some (vr (some (4, this))), some (vi a1)] [] M (Qi Q) := by
  unfold w_Checker_isUnmade at h
  refine E_blk (lv' := [some (vr (some (4, this))), some (vi a1)]) (st' := [vi (-3 : Int32), vi a1]) (M1 := M) (pc' := 3) (tb_Checker hγ) [.iload_n 1, .bipush (.negSucc 2)] (by decide +kernel) rfl rfl trivial ?_
  refine E_icmp_eq (off := 9) (tgt := 12) (by decide +kernel) (by decide) (fun b1 => ?_) (fun b1 => ?_)
  · rw [if_pos b1] at h
    refine E_blk (lv' := [some (vr (some (4, this))), some (vi a1)]) (st' := [vi (1 : Int32)]) (M1 := M) (pc' := 13) (tb_Checker hγ) [.iconst 1] (by decide +kernel) rfl rfl trivial ?_
    refine E_goto (off := 4) (tgt := 17) (by decide +kernel) (by decide) ?_
    exact E_zret rfl (Or.inr rfl) (by decide +kernel) h
  · rw [if_neg b1] at h
    refine E_blk (lv' := [some (vr (some (4, this))), some (vi a1)]) (st' := [vi (-10 : Int32), vi a1]) (M1 := M) (pc' := 9) (tb_Checker hγ) [.iload_n 1, .bipush (.negSucc 9)] (by decide +kernel) rfl rfl trivial ?_
    refine E_icmp_gt (off := 7) (tgt := 16) (by decide +kernel) (by decide) (fun b2 => ?_) (fun b2 => ?_)
    · rw [if_pos b2] at h
      refine E_blk (lv' := [some (vr (some (4, this))), some (vi a1)]) (st' := [vi (0 : Int32)]) (M1 := M) (pc' := 17) (tb_Checker hγ) [.iconst 0] (by decide +kernel) rfl rfl trivial ?_
      exact E_zret rfl (Or.inl rfl) (by decide +kernel) h
    · rw [if_neg b2] at h
      refine E_blk (lv' := [some (vr (some (4, this))), some (vi a1)]) (st' := [vi (1 : Int32)]) (M1 := M) (pc' := 13) (tb_Checker hγ) [.iconst 1] (by decide +kernel) rfl rfl trivial ?_
      refine E_goto (off := 4) (tgt := 17) (by decide +kernel) (by decide) ?_
      exact E_zret rfl (Or.inr rfl) (by decide +kernel) h
def w_Checker_is_j55 (this : Nat) (Q : Int32 → Mem → Prop) (s0 : Int32) (M : Mem) : Prop :=
  if s0 = 0 then (w_Checker_breaks this (32 : Int32) (fun r10 M9 => if r10 = 0 then (Q (0 : Int32) M9) else (Q (1 : Int32) M9)) M) else (Q (1 : Int32) M)
def w_Checker_is_j36 (this : Nat) (Q : Int32 → Mem → Prop) (v2 : Int32) (v3 : Int32) (M : Mem) : Prop :=
  if v2 = (-5 : Int32) then (w_Works_isReference v3 (fun r7 M6 => w_Checker_is_j55 this Q r7 M6) M) else (w_Checker_fits this v3 v2 (fun r13 M12 => w_Checker_is_j55 this Q r13 M12) M)
def w_Checker_is (this : Nat) (a1 : Int32) (a2 : Int32) (Q : Int32 → Mem → Prop) (M : Mem) : Prop :=
  vp_in (((mI M 4 this 2) - (1 : Int32)) - a1) (mL M 32 this) ∧ ∃ x2 : Int32, x2 = (mI M 32 this (((mI M 4 this 2) - (1 : Int32)) - a1).toNatClampNeg) ∧ if a2 = (-6 : Int32) then (Q (1 : Int32) M) else (if a2 = 0 then (w_Checker_is_j36 this Q a2 x2 M) else (w_Checker_isUnmade this x2 (fun r15 M14 => if r15 = 0 then (w_Checker_is_j36 this Q a2 x2 M14) else (Q (1 : Int32) M14)) M))
set_option maxRecDepth 4096 in
theorem lk_Checker_is_j55 {γ : Gm} (hγ : Gk γ) (this : Nat) (Q : Int32 → Mem → Prop) (s0 : Int32) (M : Mem) (h : w_Checker_is_j55 this Q s0 M) : E γ k_Checker_is 3 55 [some (vr (some (4, this))), none, none, none, none] [vi s0] M (Qi Q) := by
  unfold w_Checker_is_j55 at h
  refine E_blk (lv' := [some (vr (some (4, this))), none, none, none, some (vi s0)]) (st' := [vi s0]) (M1 := M) (pc' := 59) (tb_Checker hγ) [.istore 4, .iload 4] (by decide +kernel) rfl rfl trivial ?_
  refine E_if_ne (off := 12) (tgt := 71) (by decide +kernel) (by decide) (fun b8 => ?_) (fun b8 => ?_)
  · rw [if_pos b8] at h
    refine E_blk (lv' := [some (vr (some (4, this))), none, none, none, some (vi s0)]) (st' := [vi (32 : Int32), vr (some (4, this))]) (M1 := M) (pc' := 65) (tb_Checker hγ) [.aload_n 0, .bipush 32] (by decide +kernel) rfl rfl trivial ?_
    refine E_callV (κ' := k_Checker_breaks) (As := [vi (32 : Int32)]) (st := []) mv_Checker_breaks (Or.inl (tbk_mem (j := 7) (k := 147) rfl)) rfl (by decide +kernel) (Nat.le_of_ble_eq_true rfl) (Nat.le_of_ble_eq_true rfl) rfl (by decide) (lk_Checker_breaks hγ this (32 : Int32) _ M h) (fun _ _ => Qi_r) (fun v M9 hp => Qi_k (R := fun st => E γ k_Checker_is 3 68 [some (vr (some (4, this))), none, none, none, some (vi s0)] st M9 (Qi Q)) hp (fun r10 h => ?_))
    refine E_if_eq (off := 7) (tgt := 75) (by decide +kernel) (by decide) (fun b11 => ?_) (fun b11 => ?_)
    · rw [if_pos b11] at h
      refine E_blk (lv' := [some (vr (some (4, this))), none, none, none, some (vi s0)]) (st' := [vi (0 : Int32)]) (M1 := M9) (pc' := 76) (tb_Checker hγ) [.iconst 0] (by decide +kernel) rfl rfl trivial ?_
      exact E_zret rfl (Or.inl rfl) (by decide +kernel) h
    · rw [if_neg b11] at h
      refine E_blk (lv' := [some (vr (some (4, this))), none, none, none, some (vi s0)]) (st' := [vi (1 : Int32)]) (M1 := M9) (pc' := 72) (tb_Checker hγ) [.iconst 1] (by decide +kernel) rfl rfl trivial ?_
      refine E_goto (off := 4) (tgt := 76) (by decide +kernel) (by decide) ?_
      exact E_zret rfl (Or.inr rfl) (by decide +kernel) h
  · rw [if_neg b8] at h
    refine E_blk (lv' := [some (vr (some (4, this))), none, none, none, some (vi s0)]) (st' := [vi (1 : Int32)]) (M1 := M) (pc' := 72) (tb_Checker hγ) [.iconst 1] (by decide +kernel) rfl rfl trivial ?_
    refine E_goto (off := 4) (tgt := 76) (by decide +kernel) (by decide) ?_
    exact E_zret rfl (Or.inr rfl) (by decide +kernel) h
set_option maxRecDepth 4096 in
theorem lk_Checker_is_j36 {γ : Gm} (hγ : Gk γ) (this : Nat) (Q : Int32 → Mem → Prop) (v2 : Int32) (v3 : Int32) (M : Mem) (h : w_Checker_is_j36 this Q v2 v3 M) : E γ k_Checker_is 3 36 [some (vr (some (4, this))), none, some (vi v2), some (vi v3), none] [] M (Qi Q) := by
  unfold w_Checker_is_j36 at h
  refine E_blk (lv' := [some (vr (some (4, this))), none, some (vi v2), some (vi v3), none]) (st' := [vi (-5 : Int32), vi v2]) (M1 := M) (pc' := 39) (tb_Checker hγ) [.iload_n 2, .bipush (.negSucc 4)] (by decide +kernel) rfl rfl trivial ?_
  refine E_icmp_ne (off := 10) (tgt := 49) (by decide +kernel) (by decide) (fun b5 => ?_) (fun b5 => ?_)
  · rw [if_pos b5] at h
    refine E_blk (lv' := [some (vr (some (4, this))), none, some (vi v2), some (vi v3), none]) (st' := [vi v3]) (M1 := M) (pc' := 43) (tb_Checker hγ) [.iload_n 3] (by decide +kernel) rfl rfl trivial ?_
    refine E_callS (κ' := k_Works_isReference) (As := [vi v3]) (st := []) ms_Works_isReference (Or.inr ⟨"ClassWorks", (tbk_mem (j := 7) (k := 192) rfl)⟩) rfl (by decide +kernel) (Nat.le_of_ble_eq_true rfl) (Nat.le_of_ble_eq_true rfl) rfl (by decide) (lk_Works_isReference hγ v3 _ M h) (fun _ _ => Qi_r) (fun v M6 hp => Qi_k (R := fun st => E γ k_Checker_is 3 46 [some (vr (some (4, this))), none, some (vi v2), some (vi v3), none] st M6 (Qi Q)) hp (fun r7 h => ?_))
    refine E_goto (off := 9) (tgt := 55) (by decide +kernel) (by decide) ?_
    refine E_mask [true, false, false, false, false] rfl ?_
    exact lk_Checker_is_j55 hγ this Q r7 M6 h
  · rw [if_neg b5] at h
    refine E_blk (lv' := [some (vr (some (4, this))), none, some (vi v2), some (vi v3), none]) (st' := [vi v2, vi v3, vr (some (4, this))]) (M1 := M) (pc' := 52) (tb_Checker hγ) [.aload_n 0, .iload_n 3, .iload_n 2] (by decide +kernel) rfl rfl trivial ?_
    refine E_callV (κ' := k_Checker_fits) (As := [vi v3, vi v2]) (st := []) mv_Checker_fits (Or.inl (tbk_mem (j := 7) (k := 155) rfl)) rfl (by decide +kernel) (Nat.le_of_ble_eq_true rfl) (Nat.le_of_ble_eq_true rfl) rfl (by decide) (lk_Checker_fits hγ this v3 v2 _ M h) (fun _ _ => Qi_r) (fun v M12 hp => Qi_k (R := fun st => E γ k_Checker_is 3 55 [some (vr (some (4, this))), none, some (vi v2), some (vi v3), none] st M12 (Qi Q)) hp (fun r13 h => ?_))
    refine E_mask [true, false, false, false, false] rfl ?_
    exact lk_Checker_is_j55 hγ this Q r13 M12 h
set_option maxRecDepth 4096 in
theorem lk_Checker_is {γ : Gm} (hγ : Gk γ) (this : Nat) (a1 : Int32) (a2 : Int32) (Q : Int32 → Mem → Prop) (M : Mem) (h : w_Checker_is this a1 a2 Q M) : E γ k_Checker_is 3 0 [some (vr (some (4, this))), some (vi a1), some (vi a2), none, none] [] M (Qi Q) := by
  unfold w_Checker_is at h
  obtain ⟨c1, h⟩ := h
  refine E_blk (lv' := [some (vr (some (4, this))), some (vi a1), some (vi a2), some (vi (mI M 32 this (((mI M 4 this 2) - (1 : Int32)) - a1).toNatClampNeg)), none]) (st' := []) (M1 := M) (pc' := 14) (tb_Checker hγ) [.aload_n 0, .getfield 19, .aload_n 0, .getfield 102, .iconst 1, .isub, .iload_n 1, .isub, .iaload, .istore_n 3] (by decide +kernel) rfl rfl ⟨c1, trivial⟩ ?_
  obtain ⟨x2, ex2, h⟩ := h
  rw [← ex2]
  refine E_blk (lv' := [some (vr (some (4, this))), some (vi a1), some (vi a2), some (vi x2), none]) (st' := [vi (-6 : Int32), vi a2]) (M1 := M) (pc' := 17) (tb_Checker hγ) [.iload_n 2, .bipush (.negSucc 5)] (by decide +kernel) rfl rfl trivial ?_
  refine E_icmp_ne (off := 5) (tgt := 22) (by decide +kernel) (by decide) (fun b3 => ?_) (fun b3 => ?_)
  · rw [if_pos b3] at h
    refine E_blk (lv' := [some (vr (some (4, this))), some (vi a1), some (vi a2), some (vi x2), none]) (st' := [vi (1 : Int32)]) (M1 := M) (pc' := 21) (tb_Checker hγ) [.iconst 1] (by decide +kernel) rfl rfl trivial ?_
    exact E_zret rfl (Or.inr rfl) (by decide +kernel) h
  · rw [if_neg b3] at h
    refine E_blk (lv' := [some (vr (some (4, this))), some (vi a1), some (vi a2), some (vi x2), none]) (st' := [vi a2]) (M1 := M) (pc' := 23) (tb_Checker hγ) [.iload_n 2] (by decide +kernel) rfl rfl trivial ?_
    refine E_if_eq (off := 13) (tgt := 36) (by decide +kernel) (by decide) (fun b4 => ?_) (fun b4 => ?_)
    · rw [if_pos b4] at h
      refine E_mask [true, false, true, true, false] rfl ?_
      exact lk_Checker_is_j36 hγ this Q a2 x2 M h
    · rw [if_neg b4] at h
      refine E_blk (lv' := [some (vr (some (4, this))), some (vi a1), some (vi a2), some (vi x2), none]) (st' := [vi x2, vr (some (4, this))]) (M1 := M) (pc' := 28) (tb_Checker hγ) [.aload_n 0, .iload_n 3] (by decide +kernel) rfl rfl trivial ?_
      refine E_callV (κ' := k_Checker_isUnmade) (As := [vi x2]) (st := []) mv_Checker_isUnmade (Or.inl (tbk_mem (j := 7) (k := 220) rfl)) rfl (by decide +kernel) (Nat.le_of_ble_eq_true rfl) (Nat.le_of_ble_eq_true rfl) rfl (by decide) (lk_Checker_isUnmade hγ this x2 _ M h) (fun _ _ => Qi_r) (fun v M14 hp => Qi_k (R := fun st => E γ k_Checker_is 3 31 [some (vr (some (4, this))), some (vi a1), some (vi a2), some (vi x2), none] st M14 (Qi Q)) hp (fun r15 h => ?_))
      refine E_if_eq (off := 5) (tgt := 36) (by decide +kernel) (by decide) (fun b16 => ?_) (fun b16 => ?_)
      · rw [if_pos b16] at h
        refine E_mask [true, false, true, true, false] rfl ?_
        exact lk_Checker_is_j36 hγ this Q a2 x2 M14 h
      · rw [if_neg b16] at h
        refine E_blk (lv' := [some (vr (some (4, this))), some (vi a1), some (vi a2), some (vi x2), none]) (st' := [vi (1 : Int32)]) (M1 := M14) (pc' := 35) (tb_Checker hγ) [.iconst 1] (by decide +kernel) rfl rfl trivial ?_
        exact E_zret rfl (Or.inr rfl) (by decide +kernel) h
def w_Checker_isMade (this : Nat) (a1 : Int32) (a2 : Int32) (Q : Int32 → Mem → Prop) (M : Mem) : Prop :=
  if a2 = 0 then (Q (1 : Int32) M) else (if a2 = (-6 : Int32) then (Q (1 : Int32) M) else (vp_in (((mI M 4 this 2) - (1 : Int32)) - a1) (mL M 32 this) ∧ w_Checker_isUnmade this (mI M 32 this (((mI M 4 this 2) - (1 : Int32)) - a1).toNatClampNeg) (fun r5 M4 => if r5 = 0 then (Q (1 : Int32) M4) else (w_Checker_breaks this (39 : Int32) (fun r8 M7 => if r8 = 0 then (Q (0 : Int32) M7) else (Q (1 : Int32) M7)) M4)) M))
set_option maxRecDepth 4096 in
theorem lk_Checker_isMade {γ : Gm} (hγ : Gk γ) (this : Nat) (a1 : Int32) (a2 : Int32) (Q : Int32 → Mem → Prop) (M : Mem) (h : w_Checker_isMade this a1 a2 Q M) : E γ k_Checker_isMade 1 0 [some (vr (some (4, this))), some (vi a1), some (vi a2)] [] M (Qi Q) := by
  unfold w_Checker_isMade at h
  refine E_blk (lv' := [some (vr (some (4, this))), some (vi a1), some (vi a2)]) (st' := [vi a2]) (M1 := M) (pc' := 1) (tb_Checker hγ) [.iload_n 2] (by decide +kernel) rfl rfl trivial ?_
  refine E_if_eq (off := 38) (tgt := 39) (by decide +kernel) (by decide) (fun b1 => ?_) (fun b1 => ?_)
  · rw [if_pos b1] at h
    refine E_blk (lv' := [some (vr (some (4, this))), some (vi a1), some (vi a2)]) (st' := [vi (1 : Int32)]) (M1 := M) (pc' := 40) (tb_Checker hγ) [.iconst 1] (by decide +kernel) rfl rfl trivial ?_
    refine E_goto (off := 4) (tgt := 44) (by decide +kernel) (by decide) ?_
    exact E_zret rfl (Or.inr rfl) (by decide +kernel) h
  · rw [if_neg b1] at h
    refine E_blk (lv' := [some (vr (some (4, this))), some (vi a1), some (vi a2)]) (st' := [vi (-6 : Int32), vi a2]) (M1 := M) (pc' := 7) (tb_Checker hγ) [.iload_n 2, .bipush (.negSucc 5)] (by decide +kernel) rfl rfl trivial ?_
    refine E_icmp_eq (off := 32) (tgt := 39) (by decide +kernel) (by decide) (fun b2 => ?_) (fun b2 => ?_)
    · rw [if_pos b2] at h
      refine E_blk (lv' := [some (vr (some (4, this))), some (vi a1), some (vi a2)]) (st' := [vi (1 : Int32)]) (M1 := M) (pc' := 40) (tb_Checker hγ) [.iconst 1] (by decide +kernel) rfl rfl trivial ?_
      refine E_goto (off := 4) (tgt := 44) (by decide +kernel) (by decide) ?_
      exact E_zret rfl (Or.inr rfl) (by decide +kernel) h
    · rw [if_neg b2] at h
      obtain ⟨c3, h⟩ := h
      refine E_blk (lv' := [some (vr (some (4, this))), some (vi a1), some (vi a2)]) (st' := [vi (mI M 32 this (((mI M 4 this 2) - (1 : Int32)) - a1).toNatClampNeg), vr (some (4, this))]) (M1 := M) (pc' := 24) (tb_Checker hγ) [.aload_n 0, .aload_n 0, .getfield 19, .aload_n 0, .getfield 102, .iconst 1, .isub, .iload_n 1, .isub, .iaload] (by decide +kernel) rfl rfl ⟨c3, trivial⟩ ?_
      refine E_callV (κ' := k_Checker_isUnmade) (As := [vi (mI M 32 this (((mI M 4 this 2) - (1 : Int32)) - a1).toNatClampNeg)]) (st := []) mv_Checker_isUnmade (Or.inl (tbk_mem (j := 7) (k := 220) rfl)) rfl (by decide +kernel) (Nat.le_of_ble_eq_true rfl) (Nat.le_of_ble_eq_true rfl) rfl (by decide) (lk_Checker_isUnmade hγ this (mI M 32 this (((mI M 4 this 2) - (1 : Int32)) - a1).toNatClampNeg) _ M h) (fun _ _ => Qi_r) (fun v M4 hp => Qi_k (R := fun st => E γ k_Checker_isMade 1 27 [some (vr (some (4, this))), some (vi a1), some (vi a2)] st M4 (Qi Q)) hp (fun r5 h => ?_))
      refine E_if_eq (off := 12) (tgt := 39) (by decide +kernel) (by decide) (fun b6 => ?_) (fun b6 => ?_)
      · rw [if_pos b6] at h
        refine E_blk (lv' := [some (vr (some (4, this))), some (vi a1), some (vi a2)]) (st' := [vi (1 : Int32)]) (M1 := M4) (pc' := 40) (tb_Checker hγ) [.iconst 1] (by decide +kernel) rfl rfl trivial ?_
        refine E_goto (off := 4) (tgt := 44) (by decide +kernel) (by decide) ?_
        exact E_zret rfl (Or.inr rfl) (by decide +kernel) h
      · rw [if_neg b6] at h
        refine E_blk (lv' := [some (vr (some (4, this))), some (vi a1), some (vi a2)]) (st' := [vi (39 : Int32), vr (some (4, this))]) (M1 := M4) (pc' := 33) (tb_Checker hγ) [.aload_n 0, .bipush 39] (by decide +kernel) rfl rfl trivial ?_
        refine E_callV (κ' := k_Checker_breaks) (As := [vi (39 : Int32)]) (st := []) mv_Checker_breaks (Or.inl (tbk_mem (j := 7) (k := 147) rfl)) rfl (by decide +kernel) (Nat.le_of_ble_eq_true rfl) (Nat.le_of_ble_eq_true rfl) rfl (by decide) (lk_Checker_breaks hγ this (39 : Int32) _ M4 h) (fun _ _ => Qi_r) (fun v M7 hp => Qi_k (R := fun st => E γ k_Checker_isMade 1 36 [some (vr (some (4, this))), some (vi a1), some (vi a2)] st M7 (Qi Q)) hp (fun r8 h => ?_))
        refine E_if_eq (off := 7) (tgt := 43) (by decide +kernel) (by decide) (fun b9 => ?_) (fun b9 => ?_)
        · rw [if_pos b9] at h
          refine E_blk (lv' := [some (vr (some (4, this))), some (vi a1), some (vi a2)]) (st' := [vi (0 : Int32)]) (M1 := M7) (pc' := 44) (tb_Checker hγ) [.iconst 0] (by decide +kernel) rfl rfl trivial ?_
          exact E_zret rfl (Or.inl rfl) (by decide +kernel) h
        · rw [if_neg b9] at h
          refine E_blk (lv' := [some (vr (some (4, this))), some (vi a1), some (vi a2)]) (st' := [vi (1 : Int32)]) (M1 := M7) (pc' := 40) (tb_Checker hγ) [.iconst 1] (by decide +kernel) rfl rfl trivial ?_
          refine E_goto (off := 4) (tgt := 44) (by decide +kernel) (by decide) ?_
          exact E_zret rfl (Or.inr rfl) (by decide +kernel) h
def w_Checker_wants2 (this : Nat) (a1 : Int32) (a2 : Int32) (Q : Int32 → Mem → Prop) (M : Mem) : Prop :=
  w_Checker_needs this (2 : Int32) (fun r2 M1 => if r2 = 0 then (Q (0 : Int32) M1) else (w_Checker_is this (0 : Int32) a1 (fun r5 M4 => if r5 = 0 then (Q (0 : Int32) M4) else (w_Checker_is this (1 : Int32) a2 (fun r8 M7 => if r8 = 0 then (Q (0 : Int32) M7) else (w_Checker_isMade this (0 : Int32) a1 (fun r11 M10 => if r11 = 0 then (Q (0 : Int32) M10) else (w_Checker_isMade this (1 : Int32) a2 (fun r14 M13 => if r14 = 0 then (Q (0 : Int32) M13) else (Q (1 : Int32) M13)) M10)) M7)) M4)) M1)) M
set_option maxRecDepth 4096 in
theorem lk_Checker_wants2 {γ : Gm} (hγ : Gk γ) (this : Nat) (a1 : Int32) (a2 : Int32) (Q : Int32 → Mem → Prop) (M : Mem) (h : w_Checker_wants2 this a1 a2 Q M) : E γ k_Checker_wants2 4 0 [some (vr (some (4, this))), some (vi a1), some (vi a2)] [] M (Qi Q) := by
  unfold w_Checker_wants2 at h
  refine E_blk (lv' := [some (vr (some (4, this))), some (vi a1), some (vi a2)]) (st' := [vi (2 : Int32), vr (some (4, this))]) (M1 := M) (pc' := 2) (tb_Checker hγ) [.aload_n 0, .iconst 2] (by decide +kernel) rfl rfl trivial ?_
  refine E_callV (κ' := k_Checker_needs) (As := [vi (2 : Int32)]) (st := []) mv_Checker_needs (Or.inl (tbk_mem (j := 7) (k := 212) rfl)) rfl (by decide +kernel) (Nat.le_of_ble_eq_true rfl) (Nat.le_of_ble_eq_true rfl) rfl (by decide) (lk_Checker_needs hγ this (2 : Int32) _ M h) (fun _ _ => Qi_r) (fun v M1 hp => Qi_k (R := fun st => E γ k_Checker_wants2 4 5 [some (vr (some (4, this))), some (vi a1), some (vi a2)] st M1 (Qi Q)) hp (fun r2 h => ?_))
  refine E_if_eq (off := 43) (tgt := 48) (by decide +kernel) (by decide) (fun b3 => ?_) (fun b3 => ?_)
  · rw [if_pos b3] at h
    refine E_blk (lv' := [some (vr (some (4, this))), some (vi a1), some (vi a2)]) (st' := [vi (0 : Int32)]) (M1 := M1) (pc' := 49) (tb_Checker hγ) [.iconst 0] (by decide +kernel) rfl rfl trivial ?_
    exact E_zret rfl (Or.inl rfl) (by decide +kernel) h
  · rw [if_neg b3] at h
    refine E_blk (lv' := [some (vr (some (4, this))), some (vi a1), some (vi a2)]) (st' := [vi a1, vi (0 : Int32), vr (some (4, this))]) (M1 := M1) (pc' := 11) (tb_Checker hγ) [.aload_n 0, .iconst 0, .iload_n 1] (by decide +kernel) rfl rfl trivial ?_
    refine E_callV (κ' := k_Checker_is) (As := [vi (0 : Int32), vi a1]) (st := []) mv_Checker_is (Or.inl (tbk_mem (j := 7) (k := 216) rfl)) rfl (by decide +kernel) (Nat.le_of_ble_eq_true rfl) (Nat.le_of_ble_eq_true rfl) rfl (by decide) (lk_Checker_is hγ this (0 : Int32) a1 _ M1 h) (fun _ _ => Qi_r) (fun v M4 hp => Qi_k (R := fun st => E γ k_Checker_wants2 4 14 [some (vr (some (4, this))), some (vi a1), some (vi a2)] st M4 (Qi Q)) hp (fun r5 h => ?_))
    refine E_if_eq (off := 34) (tgt := 48) (by decide +kernel) (by decide) (fun b6 => ?_) (fun b6 => ?_)
    · rw [if_pos b6] at h
      refine E_blk (lv' := [some (vr (some (4, this))), some (vi a1), some (vi a2)]) (st' := [vi (0 : Int32)]) (M1 := M4) (pc' := 49) (tb_Checker hγ) [.iconst 0] (by decide +kernel) rfl rfl trivial ?_
      exact E_zret rfl (Or.inl rfl) (by decide +kernel) h
    · rw [if_neg b6] at h
      refine E_blk (lv' := [some (vr (some (4, this))), some (vi a1), some (vi a2)]) (st' := [vi a2, vi (1 : Int32), vr (some (4, this))]) (M1 := M4) (pc' := 20) (tb_Checker hγ) [.aload_n 0, .iconst 1, .iload_n 2] (by decide +kernel) rfl rfl trivial ?_
      refine E_callV (κ' := k_Checker_is) (As := [vi (1 : Int32), vi a2]) (st := []) mv_Checker_is (Or.inl (tbk_mem (j := 7) (k := 216) rfl)) rfl (by decide +kernel) (Nat.le_of_ble_eq_true rfl) (Nat.le_of_ble_eq_true rfl) rfl (by decide) (lk_Checker_is hγ this (1 : Int32) a2 _ M4 h) (fun _ _ => Qi_r) (fun v M7 hp => Qi_k (R := fun st => E γ k_Checker_wants2 4 23 [some (vr (some (4, this))), some (vi a1), some (vi a2)] st M7 (Qi Q)) hp (fun r8 h => ?_))
      refine E_if_eq (off := 25) (tgt := 48) (by decide +kernel) (by decide) (fun b9 => ?_) (fun b9 => ?_)
      · rw [if_pos b9] at h
        refine E_blk (lv' := [some (vr (some (4, this))), some (vi a1), some (vi a2)]) (st' := [vi (0 : Int32)]) (M1 := M7) (pc' := 49) (tb_Checker hγ) [.iconst 0] (by decide +kernel) rfl rfl trivial ?_
        exact E_zret rfl (Or.inl rfl) (by decide +kernel) h
      · rw [if_neg b9] at h
        refine E_blk (lv' := [some (vr (some (4, this))), some (vi a1), some (vi a2)]) (st' := [vi a1, vi (0 : Int32), vr (some (4, this))]) (M1 := M7) (pc' := 29) (tb_Checker hγ) [.aload_n 0, .iconst 0, .iload_n 1] (by decide +kernel) rfl rfl trivial ?_
        refine E_callV (κ' := k_Checker_isMade) (As := [vi (0 : Int32), vi a1]) (st := []) mv_Checker_isMade (Or.inl (tbk_mem (j := 7) (k := 224) rfl)) rfl (by decide +kernel) (Nat.le_of_ble_eq_true rfl) (Nat.le_of_ble_eq_true rfl) rfl (by decide) (lk_Checker_isMade hγ this (0 : Int32) a1 _ M7 h) (fun _ _ => Qi_r) (fun v M10 hp => Qi_k (R := fun st => E γ k_Checker_wants2 4 32 [some (vr (some (4, this))), some (vi a1), some (vi a2)] st M10 (Qi Q)) hp (fun r11 h => ?_))
        refine E_if_eq (off := 16) (tgt := 48) (by decide +kernel) (by decide) (fun b12 => ?_) (fun b12 => ?_)
        · rw [if_pos b12] at h
          refine E_blk (lv' := [some (vr (some (4, this))), some (vi a1), some (vi a2)]) (st' := [vi (0 : Int32)]) (M1 := M10) (pc' := 49) (tb_Checker hγ) [.iconst 0] (by decide +kernel) rfl rfl trivial ?_
          exact E_zret rfl (Or.inl rfl) (by decide +kernel) h
        · rw [if_neg b12] at h
          refine E_blk (lv' := [some (vr (some (4, this))), some (vi a1), some (vi a2)]) (st' := [vi a2, vi (1 : Int32), vr (some (4, this))]) (M1 := M10) (pc' := 38) (tb_Checker hγ) [.aload_n 0, .iconst 1, .iload_n 2] (by decide +kernel) rfl rfl trivial ?_
          refine E_callV (κ' := k_Checker_isMade) (As := [vi (1 : Int32), vi a2]) (st := []) mv_Checker_isMade (Or.inl (tbk_mem (j := 7) (k := 224) rfl)) rfl (by decide +kernel) (Nat.le_of_ble_eq_true rfl) (Nat.le_of_ble_eq_true rfl) rfl (by decide) (lk_Checker_isMade hγ this (1 : Int32) a2 _ M10 h) (fun _ _ => Qi_r) (fun v M13 hp => Qi_k (R := fun st => E γ k_Checker_wants2 4 41 [some (vr (some (4, this))), some (vi a1), some (vi a2)] st M13 (Qi Q)) hp (fun r14 h => ?_))
          refine E_if_eq (off := 7) (tgt := 48) (by decide +kernel) (by decide) (fun b15 => ?_) (fun b15 => ?_)
          · rw [if_pos b15] at h
            refine E_blk (lv' := [some (vr (some (4, this))), some (vi a1), some (vi a2)]) (st' := [vi (0 : Int32)]) (M1 := M13) (pc' := 49) (tb_Checker hγ) [.iconst 0] (by decide +kernel) rfl rfl trivial ?_
            exact E_zret rfl (Or.inl rfl) (by decide +kernel) h
          · rw [if_neg b15] at h
            refine E_blk (lv' := [some (vr (some (4, this))), some (vi a1), some (vi a2)]) (st' := [vi (1 : Int32)]) (M1 := M13) (pc' := 45) (tb_Checker hγ) [.iconst 1] (by decide +kernel) rfl rfl trivial ?_
            refine E_goto (off := 4) (tgt := 49) (by decide +kernel) (by decide) ?_
            exact E_zret rfl (Or.inr rfl) (by decide +kernel) h
def w_Checker_push (this : Nat) (a1 : Int32) (Q : Int32 → Mem → Prop) (M : Mem) : Prop :=
  ∃ i1, (mR M 4 this 4) = some (5, i1) ∧ vp_in (mI M 4 this 6) (mL M 60 i1) ∧ if (mI M 4 this 2) = (mI M 60 i1 (mI M 4 this 6).toNatClampNeg) then (w_Checker_breaks this (30 : Int32) (fun r5 M4 => (r5 = 0 ∨ r5 = 1) ∧ Q r5 M4) M) else (vp_in (mI M 4 this 2) (mL M 32 this) ∧ ∃ M7, M7 = (sI (sI M 32 this (mI M 4 this 2).toNatClampNeg a1) 4 this 2 ((mI (sI M 32 this (mI M 4 this 2).toNatClampNeg a1) 4 this 2) + (1 : Int32))) ∧ Q (1 : Int32) M7)
set_option maxRecDepth 4096 in
theorem lk_Checker_push {γ : Gm} (hγ : Gk γ) (this : Nat) (a1 : Int32) (Q : Int32 → Mem → Prop) (M : Mem) (h : w_Checker_push this a1 Q M) : E γ k_Checker_push 1 0 [some (vr (some (4, this))), some (vi a1)] [] M (Qi Q) := by
  unfold w_Checker_push at h
  refine E_blk (lv' := [some (vr (some (4, this))), some (vi a1)]) (st' := [vr (mR M 4 this 4), vi (mI M 4 this 2)]) (M1 := M) (pc' := 8) (tb_Checker hγ) [.aload_n 0, .getfield 102, .aload_n 0, .getfield 35] (by decide +kernel) rfl rfl trivial ?_
  obtain ⟨i1, ei1, h⟩ := h
  rw [ei1]
  obtain ⟨c2, h⟩ := h
  refine E_blk (lv' := [some (vr (some (4, this))), some (vi a1)]) (st' := [vi (mI M 60 i1 (mI M 4 this 6).toNatClampNeg), vi (mI M 4 this 2)]) (M1 := M) (pc' := 16) (tb_Checker hγ) [.getfield 250, .aload_n 0, .getfield 54, .iaload] (by decide +kernel) rfl rfl ⟨c2, trivial⟩ ?_
  refine E_icmp_ne (off := 10) (tgt := 26) (by decide +kernel) (by decide) (fun b3 => ?_) (fun b3 => ?_)
  · rw [if_pos b3] at h
    refine E_blk (lv' := [some (vr (some (4, this))), some (vi a1)]) (st' := [vi (30 : Int32), vr (some (4, this))]) (M1 := M) (pc' := 22) (tb_Checker hγ) [.aload_n 0, .bipush 30] (by decide +kernel) rfl rfl trivial ?_
    refine E_callV (κ' := k_Checker_breaks) (As := [vi (30 : Int32)]) (st := []) mv_Checker_breaks (Or.inl (tbk_mem (j := 7) (k := 147) rfl)) rfl (by decide +kernel) (Nat.le_of_ble_eq_true rfl) (Nat.le_of_ble_eq_true rfl) rfl (by decide) (lk_Checker_breaks hγ this (30 : Int32) _ M h) (fun _ _ => Qi_r) (fun v M4 hp => Qi_k (R := fun st => E γ k_Checker_push 1 25 [some (vr (some (4, this))), some (vi a1)] st M4 (Qi Q)) hp (fun r5 h => ?_))
    exact E_zret rfl h.1 (by decide +kernel) h.2
  · rw [if_neg b3] at h
    obtain ⟨c6, h⟩ := h
    refine E_blk (lv' := [some (vr (some (4, this))), some (vi a1)]) (st' := []) (M1 := (sI (sI M 32 this (mI M 4 this 2).toNatClampNeg a1) 4 this 2 ((mI (sI M 32 this (mI M 4 this 2).toNatClampNeg a1) 4 this 2) + (1 : Int32)))) (pc' := 46) (tb_Checker hγ) [.aload_n 0, .getfield 19, .aload_n 0, .getfield 102, .iload_n 1, .iastore, .aload_n 0, .dup, .getfield 102, .iconst 1, .iadd, .putfield 102] (by decide +kernel) rfl rfl ⟨c6, trivial⟩ ?_
    obtain ⟨M7, eM7, h⟩ := h
    rw [← eM7]
    refine E_blk (lv' := [some (vr (some (4, this))), some (vi a1)]) (st' := [vi (1 : Int32)]) (M1 := M7) (pc' := 47) (tb_Checker hγ) [.iconst 1] (by decide +kernel) rfl rfl trivial ?_
    exact E_zret rfl (Or.inr rfl) (by decide +kernel) h
def w_Checker_comes (this : Nat) (a1 : Int32) (a2 : Int32) (Q : Int32 → Mem → Prop) (M : Mem) : Prop :=
  if a2 = (-4 : Int32) then (Q (1 : Int32) (sI M 4 this 2 ((mI M 4 this 2) - a1))) else (w_Checker_push this a2 (fun r3 M2 => if r3 = 0 then (Q (0 : Int32) M2) else (Q (1 : Int32) M2)) (sI M 4 this 2 ((mI M 4 this 2) - a1)))
set_option maxRecDepth 4096 in
theorem lk_Checker_comes {γ : Gm} (hγ : Gk γ) (this : Nat) (a1 : Int32) (a2 : Int32) (Q : Int32 → Mem → Prop) (M : Mem) (h : w_Checker_comes this a1 a2 Q M) : E γ k_Checker_comes 2 0 [some (vr (some (4, this))), some (vi a1), some (vi a2)] [] M (Qi Q) := by
  unfold w_Checker_comes at h
  refine E_blk (lv' := [some (vr (some (4, this))), some (vi a1), some (vi a2)]) (st' := [vi (-4 : Int32), vi a2]) (M1 := (sI M 4 this 2 ((mI M 4 this 2) - a1))) (pc' := 13) (tb_Checker hγ) [.aload_n 0, .dup, .getfield 102, .iload_n 1, .isub, .putfield 102, .iload_n 2, .bipush (.negSucc 3)] (by decide +kernel) rfl rfl trivial ?_
  refine E_icmp_eq (off := 11) (tgt := 24) (by decide +kernel) (by decide) (fun b1 => ?_) (fun b1 => ?_)
  · rw [if_pos b1] at h
    refine E_blk (lv' := [some (vr (some (4, this))), some (vi a1), some (vi a2)]) (st' := [vi (1 : Int32)]) (M1 := (sI M 4 this 2 ((mI M 4 this 2) - a1))) (pc' := 25) (tb_Checker hγ) [.iconst 1] (by decide +kernel) rfl rfl trivial ?_
    refine E_goto (off := 4) (tgt := 29) (by decide +kernel) (by decide) ?_
    exact E_zret rfl (Or.inr rfl) (by decide +kernel) h
  · rw [if_neg b1] at h
    refine E_blk (lv' := [some (vr (some (4, this))), some (vi a1), some (vi a2)]) (st' := [vi a2, vr (some (4, this))]) (M1 := (sI M 4 this 2 ((mI M 4 this 2) - a1))) (pc' := 18) (tb_Checker hγ) [.aload_n 0, .iload_n 2] (by decide +kernel) rfl rfl trivial ?_
    refine E_callV (κ' := k_Checker_push) (As := [vi a2]) (st := []) mv_Checker_push (Or.inl (tbk_mem (j := 7) (k := 232) rfl)) rfl (by decide +kernel) (Nat.le_of_ble_eq_true rfl) (Nat.le_of_ble_eq_true rfl) rfl (by decide) (lk_Checker_push hγ this a2 _ (sI M 4 this 2 ((mI M 4 this 2) - a1)) h) (fun _ _ => Qi_r) (fun v M2 hp => Qi_k (R := fun st => E γ k_Checker_comes 2 21 [some (vr (some (4, this))), some (vi a1), some (vi a2)] st M2 (Qi Q)) hp (fun r3 h => ?_))
    refine E_if_eq (off := 7) (tgt := 28) (by decide +kernel) (by decide) (fun b4 => ?_) (fun b4 => ?_)
    · rw [if_pos b4] at h
      refine E_blk (lv' := [some (vr (some (4, this))), some (vi a1), some (vi a2)]) (st' := [vi (0 : Int32)]) (M1 := M2) (pc' := 29) (tb_Checker hγ) [.iconst 0] (by decide +kernel) rfl rfl trivial ?_
      exact E_zret rfl (Or.inl rfl) (by decide +kernel) h
    · rw [if_neg b4] at h
      refine E_blk (lv' := [some (vr (some (4, this))), some (vi a1), some (vi a2)]) (st' := [vi (1 : Int32)]) (M1 := M2) (pc' := 25) (tb_Checker hγ) [.iconst 1] (by decide +kernel) rfl rfl trivial ?_
      refine E_goto (off := 4) (tgt := 29) (by decide +kernel) (by decide) ?_
      exact E_zret rfl (Or.inr rfl) (by decide +kernel) h
def w_Checker_wants1 (this : Nat) (a1 : Int32) (Q : Int32 → Mem → Prop) (M : Mem) : Prop :=
  w_Checker_needs this (1 : Int32) (fun r2 M1 => if r2 = 0 then (Q (0 : Int32) M1) else (w_Checker_is this (0 : Int32) a1 (fun r5 M4 => if r5 = 0 then (Q (0 : Int32) M4) else (w_Checker_isMade this (0 : Int32) a1 (fun r8 M7 => if r8 = 0 then (Q (0 : Int32) M7) else (Q (1 : Int32) M7)) M4)) M1)) M
set_option maxRecDepth 4096 in
theorem lk_Checker_wants1 {γ : Gm} (hγ : Gk γ) (this : Nat) (a1 : Int32) (Q : Int32 → Mem → Prop) (M : Mem) (h : w_Checker_wants1 this a1 Q M) : E γ k_Checker_wants1 4 0 [some (vr (some (4, this))), some (vi a1)] [] M (Qi Q) := by
  unfold w_Checker_wants1 at h
  refine E_blk (lv' := [some (vr (some (4, this))), some (vi a1)]) (st' := [vi (1 : Int32), vr (some (4, this))]) (M1 := M) (pc' := 2) (tb_Checker hγ) [.aload_n 0, .iconst 1] (by decide +kernel) rfl rfl trivial ?_
  refine E_callV (κ' := k_Checker_needs) (As := [vi (1 : Int32)]) (st := []) mv_Checker_needs (Or.inl (tbk_mem (j := 7) (k := 212) rfl)) rfl (by decide +kernel) (Nat.le_of_ble_eq_true rfl) (Nat.le_of_ble_eq_true rfl) rfl (by decide) (lk_Checker_needs hγ this (1 : Int32) _ M h) (fun _ _ => Qi_r) (fun v M1 hp => Qi_k (R := fun st => E γ k_Checker_wants1 4 5 [some (vr (some (4, this))), some (vi a1)] st M1 (Qi Q)) hp (fun r2 h => ?_))
  refine E_if_eq (off := 25) (tgt := 30) (by decide +kernel) (by decide) (fun b3 => ?_) (fun b3 => ?_)
  · rw [if_pos b3] at h
    refine E_blk (lv' := [some (vr (some (4, this))), some (vi a1)]) (st' := [vi (0 : Int32)]) (M1 := M1) (pc' := 31) (tb_Checker hγ) [.iconst 0] (by decide +kernel) rfl rfl trivial ?_
    exact E_zret rfl (Or.inl rfl) (by decide +kernel) h
  · rw [if_neg b3] at h
    refine E_blk (lv' := [some (vr (some (4, this))), some (vi a1)]) (st' := [vi a1, vi (0 : Int32), vr (some (4, this))]) (M1 := M1) (pc' := 11) (tb_Checker hγ) [.aload_n 0, .iconst 0, .iload_n 1] (by decide +kernel) rfl rfl trivial ?_
    refine E_callV (κ' := k_Checker_is) (As := [vi (0 : Int32), vi a1]) (st := []) mv_Checker_is (Or.inl (tbk_mem (j := 7) (k := 216) rfl)) rfl (by decide +kernel) (Nat.le_of_ble_eq_true rfl) (Nat.le_of_ble_eq_true rfl) rfl (by decide) (lk_Checker_is hγ this (0 : Int32) a1 _ M1 h) (fun _ _ => Qi_r) (fun v M4 hp => Qi_k (R := fun st => E γ k_Checker_wants1 4 14 [some (vr (some (4, this))), some (vi a1)] st M4 (Qi Q)) hp (fun r5 h => ?_))
    refine E_if_eq (off := 16) (tgt := 30) (by decide +kernel) (by decide) (fun b6 => ?_) (fun b6 => ?_)
    · rw [if_pos b6] at h
      refine E_blk (lv' := [some (vr (some (4, this))), some (vi a1)]) (st' := [vi (0 : Int32)]) (M1 := M4) (pc' := 31) (tb_Checker hγ) [.iconst 0] (by decide +kernel) rfl rfl trivial ?_
      exact E_zret rfl (Or.inl rfl) (by decide +kernel) h
    · rw [if_neg b6] at h
      refine E_blk (lv' := [some (vr (some (4, this))), some (vi a1)]) (st' := [vi a1, vi (0 : Int32), vr (some (4, this))]) (M1 := M4) (pc' := 20) (tb_Checker hγ) [.aload_n 0, .iconst 0, .iload_n 1] (by decide +kernel) rfl rfl trivial ?_
      refine E_callV (κ' := k_Checker_isMade) (As := [vi (0 : Int32), vi a1]) (st := []) mv_Checker_isMade (Or.inl (tbk_mem (j := 7) (k := 224) rfl)) rfl (by decide +kernel) (Nat.le_of_ble_eq_true rfl) (Nat.le_of_ble_eq_true rfl) rfl (by decide) (lk_Checker_isMade hγ this (0 : Int32) a1 _ M4 h) (fun _ _ => Qi_r) (fun v M7 hp => Qi_k (R := fun st => E γ k_Checker_wants1 4 23 [some (vr (some (4, this))), some (vi a1)] st M7 (Qi Q)) hp (fun r8 h => ?_))
      refine E_if_eq (off := 7) (tgt := 30) (by decide +kernel) (by decide) (fun b9 => ?_) (fun b9 => ?_)
      · rw [if_pos b9] at h
        refine E_blk (lv' := [some (vr (some (4, this))), some (vi a1)]) (st' := [vi (0 : Int32)]) (M1 := M7) (pc' := 31) (tb_Checker hγ) [.iconst 0] (by decide +kernel) rfl rfl trivial ?_
        exact E_zret rfl (Or.inl rfl) (by decide +kernel) h
      · rw [if_neg b9] at h
        refine E_blk (lv' := [some (vr (some (4, this))), some (vi a1)]) (st' := [vi (1 : Int32)]) (M1 := M7) (pc' := 27) (tb_Checker hγ) [.iconst 1] (by decide +kernel) rfl rfl trivial ?_
        refine E_goto (off := 4) (tgt := 31) (by decide +kernel) (by decide) ?_
        exact E_zret rfl (Or.inr rfl) (by decide +kernel) h
def w_World_refType (this : Nat) (a1 : Int32) (Q : Int32 → Mem → Prop) (M : Mem) : Prop :=
  vp_in (((4 : Int32) * a1) + (2 : Int32)) (mL M 76 this) ∧ Q (mI M 76 this (((4 : Int32) * a1) + (2 : Int32)).toNatClampNeg) M
set_option maxRecDepth 4096 in
theorem lk_World_refType {γ : Gm} (hγ : Gk γ) (this : Nat) (a1 : Int32) (Q : Int32 → Mem → Prop) (M : Mem) (h : w_World_refType this a1 Q M) : E γ k_World_refType 0 0 [some (vr (some (5, this))), some (vi a1)] [] M (Qi Q) := by
  unfold w_World_refType at h
  obtain ⟨c1, h⟩ := h
  refine E_blk (lv' := [some (vr (some (5, this))), some (vi a1)]) (st' := [vi (mI M 76 this (((4 : Int32) * a1) + (2 : Int32)).toNatClampNeg)]) (M1 := M) (pc' := 10) (tb_World hγ) [.aload_n 0, .getfield 174, .iconst 4, .iload_n 1, .imul, .iconst 2, .iadd, .iaload] (by decide +kernel) rfl rfl ⟨c1, trivial⟩ ?_
  exact E_iret rfl (by decide +kernel) h
def w_Checker_field (this : Nat) (a1 : Int32) (a2 : Int32) (Q : Int32 → Mem → Prop) (M : Mem) : Prop :=
  ∃ i1, (mR M 4 this 4) = some (5, i1) ∧ w_World_refType i1 a2 (fun r3 M2 => ∃ i4, (mR M2 4 this 4) = some (5, i4) ∧ w_World_refClass i4 a2 (fun r6 M5 => w_Works_kindOf r6 (fun r8 M7 => if a1 = (46 : Int32) then (w_Checker_wants1 this r8 (fun r11 M10 => if r11 = 0 then (Q (0 : Int32) M10) else (w_Checker_comes this (1 : Int32) r3 (fun r14 M13 => if r14 = 0 then (Q (0 : Int32) M13) else (Q (1 : Int32) M13)) M10)) M7) else (if a1 = (47 : Int32) then (w_Checker_wants2 this r3 r8 (fun r18 M17 => if r18 = 0 then (Q (0 : Int32) M17) else (w_Checker_comes this (2 : Int32) (-4 : Int32) (fun r21 M20 => if r21 = 0 then (Q (0 : Int32) M20) else (Q (1 : Int32) M20)) M17)) M7) else (if a1 = (48 : Int32) then (w_Checker_push this r3 (fun r25 M24 => (r25 = 0 ∨ r25 = 1) ∧ Q r25 M24) M7) else (w_Checker_wants1 this r3 (fun r27 M26 => if r27 = 0 then (Q (0 : Int32) M26) else (w_Checker_comes this (1 : Int32) (-4 : Int32) (fun r30 M29 => if r30 = 0 then (Q (0 : Int32) M29) else (Q (1 : Int32) M29)) M26)) M7)))) M5) M2) M
set_option maxRecDepth 4096 in
theorem lk_Checker_field {γ : Gm} (hγ : Gk γ) (this : Nat) (a1 : Int32) (a2 : Int32) (Q : Int32 → Mem → Prop) (M : Mem) (h : w_Checker_field this a1 a2 Q M) : E γ k_Checker_field 5 0 [some (vr (some (4, this))), some (vi a1), some (vi a2), none, none] [] M (Qi Q) := by
  unfold w_Checker_field at h
  refine E_blk (lv' := [some (vr (some (4, this))), some (vi a1), some (vi a2), none, none]) (st' := [vr (mR M 4 this 4)]) (M1 := M) (pc' := 4) (tb_Checker hγ) [.aload_n 0, .getfield 35] (by decide +kernel) rfl rfl trivial ?_
  obtain ⟨i1, ei1, h⟩ := h
  rw [ei1]
  refine E_blk (lv' := [some (vr (some (4, this))), some (vi a1), some (vi a2), none, none]) (st' := [vi a2, vr (some (5, i1))]) (M1 := M) (pc' := 5) (tb_Checker hγ) [.iload_n 2] (by decide +kernel) rfl rfl trivial ?_
  refine E_callV (κ' := k_World_refType) (As := [vi a2]) (st := []) mv_World_refType (Or.inl (tbk_mem (j := 8) (k := 4) rfl)) rfl (by decide +kernel) (Nat.le_of_ble_eq_true rfl) (Nat.le_of_ble_eq_true rfl) rfl (by decide) (lk_World_refType hγ i1 a2 _ M h) (fun _ _ => Qi_r) (fun v M2 hp => Qi_k (R := fun st => E γ k_Checker_field 5 8 [some (vr (some (4, this))), some (vi a1), some (vi a2), none, none] st M2 (Qi Q)) hp (fun r3 h => ?_))
  refine E_blk (lv' := [some (vr (some (4, this))), some (vi a1), some (vi a2), some (vi r3), none]) (st' := [vr (mR M2 4 this 4)]) (M1 := M2) (pc' := 13) (tb_Checker hγ) [.istore_n 3, .aload_n 0, .getfield 35] (by decide +kernel) rfl rfl trivial ?_
  obtain ⟨i4, ei4, h⟩ := h
  rw [ei4]
  refine E_blk (lv' := [some (vr (some (4, this))), some (vi a1), some (vi a2), some (vi r3), none]) (st' := [vi a2, vr (some (5, i4))]) (M1 := M2) (pc' := 14) (tb_Checker hγ) [.iload_n 2] (by decide +kernel) rfl rfl trivial ?_
  refine E_callV (κ' := k_World_refClass) (As := [vi a2]) (st := []) mv_World_refClass (Or.inl (tbk_mem (j := 8) (k := 8) rfl)) rfl (by decide +kernel) (Nat.le_of_ble_eq_true rfl) (Nat.le_of_ble_eq_true rfl) rfl (by decide) (lk_World_refClass hγ i4 a2 _ M2 h) (fun _ _ => Qi_r) (fun v M5 hp => Qi_k (R := fun st => E γ k_Checker_field 5 17 [some (vr (some (4, this))), some (vi a1), some (vi a2), some (vi r3), none] st M5 (Qi Q)) hp (fun r6 h => ?_))
  refine E_callS (κ' := k_Works_kindOf) (As := [vi r6]) (st := []) ms_Works_kindOf (Or.inr ⟨"ClassWorks", (tbk_mem (j := 7) (k := 130) rfl)⟩) rfl (by decide +kernel) (Nat.le_of_ble_eq_true rfl) (Nat.le_of_ble_eq_true rfl) rfl (by decide) (lk_Works_kindOf hγ r6 _ M5 h) (fun _ _ => Qi_r) (fun v M7 hp => Qi_k (R := fun st => E γ k_Checker_field 5 20 [some (vr (some (4, this))), some (vi a1), some (vi a2), some (vi r3), none] st M7 (Qi Q)) hp (fun r8 h => ?_))
  refine E_blk (lv' := [some (vr (some (4, this))), some (vi a1), some (vi a2), some (vi r3), some (vi r8)]) (st' := [vi (46 : Int32), vi a1]) (M1 := M7) (pc' := 25) (tb_Checker hγ) [.istore 4, .iload_n 1, .bipush 46] (by decide +kernel) rfl rfl trivial ?_
  refine E_icmp_ne (off := 27) (tgt := 52) (by decide +kernel) (by decide) (fun b9 => ?_) (fun b9 => ?_)
  · rw [if_pos b9] at h
    refine E_blk (lv' := [some (vr (some (4, this))), some (vi a1), some (vi a2), some (vi r3), some (vi r8)]) (st' := [vi r8, vr (some (4, this))]) (M1 := M7) (pc' := 31) (tb_Checker hγ) [.aload_n 0, .iload 4] (by decide +kernel) rfl rfl trivial ?_
    refine E_callV (κ' := k_Checker_wants1) (As := [vi r8]) (st := []) mv_Checker_wants1 (Or.inl (tbk_mem (j := 7) (k := 236) rfl)) rfl (by decide +kernel) (Nat.le_of_ble_eq_true rfl) (Nat.le_of_ble_eq_true rfl) rfl (by decide) (lk_Checker_wants1 hγ this r8 _ M7 h) (fun _ _ => Qi_r) (fun v M10 hp => Qi_k (R := fun st => E γ k_Checker_field 5 34 [some (vr (some (4, this))), some (vi a1), some (vi a2), some (vi r3), some (vi r8)] st M10 (Qi Q)) hp (fun r11 h => ?_))
    refine E_if_eq (off := 16) (tgt := 50) (by decide +kernel) (by decide) (fun b12 => ?_) (fun b12 => ?_)
    · rw [if_pos b12] at h
      refine E_blk (lv' := [some (vr (some (4, this))), some (vi a1), some (vi a2), some (vi r3), some (vi r8)]) (st' := [vi (0 : Int32)]) (M1 := M10) (pc' := 51) (tb_Checker hγ) [.iconst 0] (by decide +kernel) rfl rfl trivial ?_
      exact E_zret rfl (Or.inl rfl) (by decide +kernel) h
    · rw [if_neg b12] at h
      refine E_blk (lv' := [some (vr (some (4, this))), some (vi a1), some (vi a2), some (vi r3), some (vi r8)]) (st' := [vi r3, vi (1 : Int32), vr (some (4, this))]) (M1 := M10) (pc' := 40) (tb_Checker hγ) [.aload_n 0, .iconst 1, .iload_n 3] (by decide +kernel) rfl rfl trivial ?_
      refine E_callV (κ' := k_Checker_comes) (As := [vi (1 : Int32), vi r3]) (st := []) mv_Checker_comes (Or.inl (tbk_mem (j := 7) (k := 228) rfl)) rfl (by decide +kernel) (Nat.le_of_ble_eq_true rfl) (Nat.le_of_ble_eq_true rfl) rfl (by decide) (lk_Checker_comes hγ this (1 : Int32) r3 _ M10 h) (fun _ _ => Qi_r) (fun v M13 hp => Qi_k (R := fun st => E γ k_Checker_field 5 43 [some (vr (some (4, this))), some (vi a1), some (vi a2), some (vi r3), some (vi r8)] st M13 (Qi Q)) hp (fun r14 h => ?_))
      refine E_if_eq (off := 7) (tgt := 50) (by decide +kernel) (by decide) (fun b15 => ?_) (fun b15 => ?_)
      · rw [if_pos b15] at h
        refine E_blk (lv' := [some (vr (some (4, this))), some (vi a1), some (vi a2), some (vi r3), some (vi r8)]) (st' := [vi (0 : Int32)]) (M1 := M13) (pc' := 51) (tb_Checker hγ) [.iconst 0] (by decide +kernel) rfl rfl trivial ?_
        exact E_zret rfl (Or.inl rfl) (by decide +kernel) h
      · rw [if_neg b15] at h
        refine E_blk (lv' := [some (vr (some (4, this))), some (vi a1), some (vi a2), some (vi r3), some (vi r8)]) (st' := [vi (1 : Int32)]) (M1 := M13) (pc' := 47) (tb_Checker hγ) [.iconst 1] (by decide +kernel) rfl rfl trivial ?_
        refine E_goto (off := 4) (tgt := 51) (by decide +kernel) (by decide) ?_
        exact E_zret rfl (Or.inr rfl) (by decide +kernel) h
  · rw [if_neg b9] at h
    refine E_blk (lv' := [some (vr (some (4, this))), some (vi a1), some (vi a2), some (vi r3), some (vi r8)]) (st' := [vi (47 : Int32), vi a1]) (M1 := M7) (pc' := 55) (tb_Checker hγ) [.iload_n 1, .bipush 47] (by decide +kernel) rfl rfl trivial ?_
    refine E_icmp_ne (off := 29) (tgt := 84) (by decide +kernel) (by decide) (fun b16 => ?_) (fun b16 => ?_)
    · rw [if_pos b16] at h
      refine E_blk (lv' := [some (vr (some (4, this))), some (vi a1), some (vi a2), some (vi r3), some (vi r8)]) (st' := [vi r8, vi r3, vr (some (4, this))]) (M1 := M7) (pc' := 62) (tb_Checker hγ) [.aload_n 0, .iload_n 3, .iload 4] (by decide +kernel) rfl rfl trivial ?_
      refine E_callV (κ' := k_Checker_wants2) (As := [vi r3, vi r8]) (st := []) mv_Checker_wants2 (Or.inl (tbk_mem (j := 7) (k := 208) rfl)) rfl (by decide +kernel) (Nat.le_of_ble_eq_true rfl) (Nat.le_of_ble_eq_true rfl) rfl (by decide) (lk_Checker_wants2 hγ this r3 r8 _ M7 h) (fun _ _ => Qi_r) (fun v M17 hp => Qi_k (R := fun st => E γ k_Checker_field 5 65 [some (vr (some (4, this))), some (vi a1), some (vi a2), some (vi r3), some (vi r8)] st M17 (Qi Q)) hp (fun r18 h => ?_))
      refine E_if_eq (off := 17) (tgt := 82) (by decide +kernel) (by decide) (fun b19 => ?_) (fun b19 => ?_)
      · rw [if_pos b19] at h
        refine E_blk (lv' := [some (vr (some (4, this))), some (vi a1), some (vi a2), some (vi r3), some (vi r8)]) (st' := [vi (0 : Int32)]) (M1 := M17) (pc' := 83) (tb_Checker hγ) [.iconst 0] (by decide +kernel) rfl rfl trivial ?_
        exact E_zret rfl (Or.inl rfl) (by decide +kernel) h
      · rw [if_neg b19] at h
        refine E_blk (lv' := [some (vr (some (4, this))), some (vi a1), some (vi a2), some (vi r3), some (vi r8)]) (st' := [vi (-4 : Int32), vi (2 : Int32), vr (some (4, this))]) (M1 := M17) (pc' := 72) (tb_Checker hγ) [.aload_n 0, .iconst 2, .bipush (.negSucc 3)] (by decide +kernel) rfl rfl trivial ?_
        refine E_callV (κ' := k_Checker_comes) (As := [vi (2 : Int32), vi (-4 : Int32)]) (st := []) mv_Checker_comes (Or.inl (tbk_mem (j := 7) (k := 228) rfl)) rfl (by decide +kernel) (Nat.le_of_ble_eq_true rfl) (Nat.le_of_ble_eq_true rfl) rfl (by decide) (lk_Checker_comes hγ this (2 : Int32) (-4 : Int32) _ M17 h) (fun _ _ => Qi_r) (fun v M20 hp => Qi_k (R := fun st => E γ k_Checker_field 5 75 [some (vr (some (4, this))), some (vi a1), some (vi a2), some (vi r3), some (vi r8)] st M20 (Qi Q)) hp (fun r21 h => ?_))
        refine E_if_eq (off := 7) (tgt := 82) (by decide +kernel) (by decide) (fun b22 => ?_) (fun b22 => ?_)
        · rw [if_pos b22] at h
          refine E_blk (lv' := [some (vr (some (4, this))), some (vi a1), some (vi a2), some (vi r3), some (vi r8)]) (st' := [vi (0 : Int32)]) (M1 := M20) (pc' := 83) (tb_Checker hγ) [.iconst 0] (by decide +kernel) rfl rfl trivial ?_
          exact E_zret rfl (Or.inl rfl) (by decide +kernel) h
        · rw [if_neg b22] at h
          refine E_blk (lv' := [some (vr (some (4, this))), some (vi a1), some (vi a2), some (vi r3), some (vi r8)]) (st' := [vi (1 : Int32)]) (M1 := M20) (pc' := 79) (tb_Checker hγ) [.iconst 1] (by decide +kernel) rfl rfl trivial ?_
          refine E_goto (off := 4) (tgt := 83) (by decide +kernel) (by decide) ?_
          exact E_zret rfl (Or.inr rfl) (by decide +kernel) h
    · rw [if_neg b16] at h
      refine E_blk (lv' := [some (vr (some (4, this))), some (vi a1), some (vi a2), some (vi r3), some (vi r8)]) (st' := [vi (48 : Int32), vi a1]) (M1 := M7) (pc' := 87) (tb_Checker hγ) [.iload_n 1, .bipush 48] (by decide +kernel) rfl rfl trivial ?_
      refine E_icmp_ne (off := 11) (tgt := 98) (by decide +kernel) (by decide) (fun b23 => ?_) (fun b23 => ?_)
      · rw [if_pos b23] at h
        refine E_blk (lv' := [some (vr (some (4, this))), some (vi a1), some (vi a2), some (vi r3), some (vi r8)]) (st' := [vi r3, vr (some (4, this))]) (M1 := M7) (pc' := 92) (tb_Checker hγ) [.aload_n 0, .iload_n 3] (by decide +kernel) rfl rfl trivial ?_
        refine E_callV (κ' := k_Checker_push) (As := [vi r3]) (st := []) mv_Checker_push (Or.inl (tbk_mem (j := 7) (k := 232) rfl)) rfl (by decide +kernel) (Nat.le_of_ble_eq_true rfl) (Nat.le_of_ble_eq_true rfl) rfl (by decide) (lk_Checker_push hγ this r3 _ M7 h) (fun _ _ => Qi_r) (fun v M24 hp => Qi_k (R := fun st => E γ k_Checker_field 5 95 [some (vr (some (4, this))), some (vi a1), some (vi a2), some (vi r3), some (vi r8)] st M24 (Qi Q)) hp (fun r25 h => ?_))
        refine E_goto (off := 26) (tgt := 121) (by decide +kernel) (by decide) ?_
        exact E_zret rfl h.1 (by decide +kernel) h.2
      · rw [if_neg b23] at h
        refine E_blk (lv' := [some (vr (some (4, this))), some (vi a1), some (vi a2), some (vi r3), some (vi r8)]) (st' := [vi r3, vr (some (4, this))]) (M1 := M7) (pc' := 100) (tb_Checker hγ) [.aload_n 0, .iload_n 3] (by decide +kernel) rfl rfl trivial ?_
        refine E_callV (κ' := k_Checker_wants1) (As := [vi r3]) (st := []) mv_Checker_wants1 (Or.inl (tbk_mem (j := 7) (k := 236) rfl)) rfl (by decide +kernel) (Nat.le_of_ble_eq_true rfl) (Nat.le_of_ble_eq_true rfl) rfl (by decide) (lk_Checker_wants1 hγ this r3 _ M7 h) (fun _ _ => Qi_r) (fun v M26 hp => Qi_k (R := fun st => E γ k_Checker_field 5 103 [some (vr (some (4, this))), some (vi a1), some (vi a2), some (vi r3), some (vi r8)] st M26 (Qi Q)) hp (fun r27 h => ?_))
        refine E_if_eq (off := 17) (tgt := 120) (by decide +kernel) (by decide) (fun b28 => ?_) (fun b28 => ?_)
        · rw [if_pos b28] at h
          refine E_blk (lv' := [some (vr (some (4, this))), some (vi a1), some (vi a2), some (vi r3), some (vi r8)]) (st' := [vi (0 : Int32)]) (M1 := M26) (pc' := 121) (tb_Checker hγ) [.iconst 0] (by decide +kernel) rfl rfl trivial ?_
          exact E_zret rfl (Or.inl rfl) (by decide +kernel) h
        · rw [if_neg b28] at h
          refine E_blk (lv' := [some (vr (some (4, this))), some (vi a1), some (vi a2), some (vi r3), some (vi r8)]) (st' := [vi (-4 : Int32), vi (1 : Int32), vr (some (4, this))]) (M1 := M26) (pc' := 110) (tb_Checker hγ) [.aload_n 0, .iconst 1, .bipush (.negSucc 3)] (by decide +kernel) rfl rfl trivial ?_
          refine E_callV (κ' := k_Checker_comes) (As := [vi (1 : Int32), vi (-4 : Int32)]) (st := []) mv_Checker_comes (Or.inl (tbk_mem (j := 7) (k := 228) rfl)) rfl (by decide +kernel) (Nat.le_of_ble_eq_true rfl) (Nat.le_of_ble_eq_true rfl) rfl (by decide) (lk_Checker_comes hγ this (1 : Int32) (-4 : Int32) _ M26 h) (fun _ _ => Qi_r) (fun v M29 hp => Qi_k (R := fun st => E γ k_Checker_field 5 113 [some (vr (some (4, this))), some (vi a1), some (vi a2), some (vi r3), some (vi r8)] st M29 (Qi Q)) hp (fun r30 h => ?_))
          refine E_if_eq (off := 7) (tgt := 120) (by decide +kernel) (by decide) (fun b31 => ?_) (fun b31 => ?_)
          · rw [if_pos b31] at h
            refine E_blk (lv' := [some (vr (some (4, this))), some (vi a1), some (vi a2), some (vi r3), some (vi r8)]) (st' := [vi (0 : Int32)]) (M1 := M29) (pc' := 121) (tb_Checker hγ) [.iconst 0] (by decide +kernel) rfl rfl trivial ?_
            exact E_zret rfl (Or.inl rfl) (by decide +kernel) h
          · rw [if_neg b31] at h
            refine E_blk (lv' := [some (vr (some (4, this))), some (vi a1), some (vi a2), some (vi r3), some (vi r8)]) (st' := [vi (1 : Int32)]) (M1 := M29) (pc' := 117) (tb_Checker hγ) [.iconst 1] (by decide +kernel) rfl rfl trivial ?_
            refine E_goto (off := 4) (tgt := 121) (by decide +kernel) (by decide) ?_
            exact E_zret rfl (Or.inr rfl) (by decide +kernel) h
def w_World_refArguments (this : Nat) (a1 : Int32) (Q : Int32 → Mem → Prop) (M : Mem) : Prop :=
  vp_in (((4 : Int32) * a1) + (3 : Int32)) (mL M 76 this) ∧ Q (mI M 76 this (((4 : Int32) * a1) + (3 : Int32)).toNatClampNeg) M
set_option maxRecDepth 4096 in
theorem lk_World_refArguments {γ : Gm} (hγ : Gk γ) (this : Nat) (a1 : Int32) (Q : Int32 → Mem → Prop) (M : Mem) (h : w_World_refArguments this a1 Q M) : E γ k_World_refArguments 0 0 [some (vr (some (5, this))), some (vi a1)] [] M (Qi Q) := by
  unfold w_World_refArguments at h
  obtain ⟨c1, h⟩ := h
  refine E_blk (lv' := [some (vr (some (5, this))), some (vi a1)]) (st' := [vi (mI M 76 this (((4 : Int32) * a1) + (3 : Int32)).toNatClampNeg)]) (M1 := M) (pc' := 10) (tb_World hγ) [.aload_n 0, .getfield 174, .iconst 4, .iload_n 1, .imul, .iconst 3, .iadd, .iaload] (by decide +kernel) rfl rfl ⟨c1, trivial⟩ ?_
  exact E_iret rfl (by decide +kernel) h
def w_World_refName (this : Nat) (a1 : Int32) (Q : Int32 → Mem → Prop) (M : Mem) : Prop :=
  vp_in (((4 : Int32) * a1) + (1 : Int32)) (mL M 76 this) ∧ Q (mI M 76 this (((4 : Int32) * a1) + (1 : Int32)).toNatClampNeg) M
set_option maxRecDepth 4096 in
theorem lk_World_refName {γ : Gm} (hγ : Gk γ) (this : Nat) (a1 : Int32) (Q : Int32 → Mem → Prop) (M : Mem) (h : w_World_refName this a1 Q M) : E γ k_World_refName 0 0 [some (vr (some (5, this))), some (vi a1)] [] M (Qi Q) := by
  unfold w_World_refName at h
  obtain ⟨c1, h⟩ := h
  refine E_blk (lv' := [some (vr (some (5, this))), some (vi a1)]) (st' := [vi (mI M 76 this (((4 : Int32) * a1) + (1 : Int32)).toNatClampNeg)]) (M1 := M) (pc' := 10) (tb_World hγ) [.aload_n 0, .getfield 174, .iconst 4, .iload_n 1, .imul, .iconst 1, .iadd, .iaload] (by decide +kernel) rfl rfl ⟨c1, trivial⟩ ?_
  exact E_iret rfl (by decide +kernel) h
def w_Checker_makesRight (this : Nat) (a1 : Int32) (a2 : Int32) (Q : Int32 → Mem → Prop) (M : Mem) : Prop :=
  if a1 = (-3 : Int32) then (∃ i2, (mR M 4 this 4) = some (5, i2) ∧ vp_in (mI M 4 this 5) (mL M 36 i2) ∧ if a2 = (mI M 36 i2 (mI M 4 this 5).toNatClampNeg) then (Q (1 : Int32) M) else (∃ i5, (mR M 4 this 4) = some (5, i5) ∧ w_World_upName i5 (mI M 4 this 5) (fun r7 M6 => if a2 = r7 then (Q (1 : Int32) M6) else (Q (0 : Int32) M6)) M)) else (if (-10 : Int32) < a1 then (Q (0 : Int32) M) else (∃ i10, (mR M 4 this 4) = some (5, i10) ∧ ∃ i11, (mR M 4 this 4) = some (5, i11) ∧ vp_in (mI M 4 this 6) (mL M 62 i11) ∧ vp_in (((mI M 62 i11 (mI M 4 this 6).toNatClampNeg) + (-10 : Int32)) - a1) (mL M 67 i10) ∧ if (mI M 67 i10 (((mI M 62 i11 (mI M 4 this 6).toNatClampNeg) + (-10 : Int32)) - a1).toNatClampNeg) = a2 then (Q (1 : Int32) M) else (Q (0 : Int32) M)))
set_option maxRecDepth 4096 in
theorem lk_Checker_makesRight {γ : Gm} (hγ : Gk γ) (this : Nat) (a1 : Int32) (a2 : Int32) (Q : Int32 → Mem → Prop) (M : Mem) (h : w_Checker_makesRight this a1 a2 Q M) : E γ k_Checker_makesRight 2 0 [some (vr (some (4, this))), some (vi a1), some (vi a2)] [] M (Qi Q) := by
  unfold w_Checker_makesRight at h
  refine E_blk (lv' := [some (vr (some (4, this))), some (vi a1), some (vi a2)]) (st' := [vi (-3 : Int32), vi a1]) (M1 := M) (pc' := 3) (tb_Checker hγ) [.iload_n 1, .bipush (.negSucc 2)] (by decide +kernel) rfl rfl trivial ?_
  refine E_icmp_ne (off := 40) (tgt := 43) (by decide +kernel) (by decide) (fun b1 => ?_) (fun b1 => ?_)
  · rw [if_pos b1] at h
    refine E_blk (lv' := [some (vr (some (4, this))), some (vi a1), some (vi a2)]) (st' := [vr (mR M 4 this 4), vi a2]) (M1 := M) (pc' := 11) (tb_Checker hγ) [.iload_n 2, .aload_n 0, .getfield 35] (by decide +kernel) rfl rfl trivial ?_
    obtain ⟨i2, ei2, h⟩ := h
    rw [ei2]
    obtain ⟨c3, h⟩ := h
    refine E_blk (lv' := [some (vr (some (4, this))), some (vi a1), some (vi a2)]) (st' := [vi (mI M 36 i2 (mI M 4 this 5).toNatClampNeg), vi a2]) (M1 := M) (pc' := 19) (tb_Checker hγ) [.getfield 78, .aload_n 0, .getfield 39, .iaload] (by decide +kernel) rfl rfl ⟨c3, trivial⟩ ?_
    refine E_icmp_eq (off := 18) (tgt := 37) (by decide +kernel) (by decide) (fun b4 => ?_) (fun b4 => ?_)
    · rw [if_pos b4] at h
      refine E_blk (lv' := [some (vr (some (4, this))), some (vi a1), some (vi a2)]) (st' := [vi (1 : Int32)]) (M1 := M) (pc' := 38) (tb_Checker hγ) [.iconst 1] (by decide +kernel) rfl rfl trivial ?_
      refine E_goto (off := 4) (tgt := 42) (by decide +kernel) (by decide) ?_
      exact E_zret rfl (Or.inr rfl) (by decide +kernel) h
    · rw [if_neg b4] at h
      refine E_blk (lv' := [some (vr (some (4, this))), some (vi a1), some (vi a2)]) (st' := [vr (mR M 4 this 4), vi a2]) (M1 := M) (pc' := 27) (tb_Checker hγ) [.iload_n 2, .aload_n 0, .getfield 35] (by decide +kernel) rfl rfl trivial ?_
      obtain ⟨i5, ei5, h⟩ := h
      rw [ei5]
      refine E_blk (lv' := [some (vr (some (4, this))), some (vi a1), some (vi a2)]) (st' := [vi (mI M 4 this 5), vr (some (5, i5)), vi a2]) (M1 := M) (pc' := 31) (tb_Checker hγ) [.aload_n 0, .getfield 39] (by decide +kernel) rfl rfl trivial ?_
      refine E_callV (κ' := k_World_upName) (As := [vi (mI M 4 this 5)]) (st := [vi a2]) mv_World_upName (Or.inl (tbk_mem (j := 7) (k := 161) rfl)) rfl (by decide +kernel) (Nat.le_of_ble_eq_true rfl) (Nat.le_of_ble_eq_true rfl) rfl (by decide) (lk_World_upName hγ i5 (mI M 4 this 5) _ M h) (fun _ _ => Qi_r) (fun v M6 hp => Qi_k (R := fun st => E γ k_Checker_makesRight 2 34 [some (vr (some (4, this))), some (vi a1), some (vi a2)] st M6 (Qi Q)) hp (fun r7 h => ?_))
      refine E_icmp_ne (off := 7) (tgt := 41) (by decide +kernel) (by decide) (fun b8 => ?_) (fun b8 => ?_)
      · rw [if_pos b8] at h
        refine E_blk (lv' := [some (vr (some (4, this))), some (vi a1), some (vi a2)]) (st' := [vi (1 : Int32)]) (M1 := M6) (pc' := 38) (tb_Checker hγ) [.iconst 1] (by decide +kernel) rfl rfl trivial ?_
        refine E_goto (off := 4) (tgt := 42) (by decide +kernel) (by decide) ?_
        exact E_zret rfl (Or.inr rfl) (by decide +kernel) h
      · rw [if_neg b8] at h
        refine E_blk (lv' := [some (vr (some (4, this))), some (vi a1), some (vi a2)]) (st' := [vi (0 : Int32)]) (M1 := M6) (pc' := 42) (tb_Checker hγ) [.iconst 0] (by decide +kernel) rfl rfl trivial ?_
        exact E_zret rfl (Or.inl rfl) (by decide +kernel) h
  · rw [if_neg b1] at h
    refine E_blk (lv' := [some (vr (some (4, this))), some (vi a1), some (vi a2)]) (st' := [vi (-10 : Int32), vi a1]) (M1 := M) (pc' := 46) (tb_Checker hγ) [.iload_n 1, .bipush (.negSucc 9)] (by decide +kernel) rfl rfl trivial ?_
    refine E_icmp_gt (off := 36) (tgt := 82) (by decide +kernel) (by decide) (fun b9 => ?_) (fun b9 => ?_)
    · rw [if_pos b9] at h
      refine E_blk (lv' := [some (vr (some (4, this))), some (vi a1), some (vi a2)]) (st' := [vi (0 : Int32)]) (M1 := M) (pc' := 83) (tb_Checker hγ) [.iconst 0] (by decide +kernel) rfl rfl trivial ?_
      exact E_zret rfl (Or.inl rfl) (by decide +kernel) h
    · rw [if_neg b9] at h
      refine E_blk (lv' := [some (vr (some (4, this))), some (vi a1), some (vi a2)]) (st' := [vr (mR M 4 this 4)]) (M1 := M) (pc' := 53) (tb_Checker hγ) [.aload_n 0, .getfield 35] (by decide +kernel) rfl rfl trivial ?_
      obtain ⟨i10, ei10, h⟩ := h
      rw [ei10]
      refine E_blk (lv' := [some (vr (some (4, this))), some (vi a1), some (vi a2)]) (st' := [vr (mR M 4 this 4), vr (some (67, i10))]) (M1 := M) (pc' := 60) (tb_Checker hγ) [.getfield 205, .aload_n 0, .getfield 35] (by decide +kernel) rfl rfl trivial ?_
      obtain ⟨i11, ei11, h⟩ := h
      rw [ei11]
      obtain ⟨c12, c13, h⟩ := h
      refine E_blk (lv' := [some (vr (some (4, this))), some (vi a1), some (vi a2)]) (st' := [vi a2, vi (mI M 67 i10 (((mI M 62 i11 (mI M 4 this 6).toNatClampNeg) + (-10 : Int32)) - a1).toNatClampNeg)]) (M1 := M) (pc' := 75) (tb_Checker hγ) [.getfield 118, .aload_n 0, .getfield 54, .iaload, .bipush (.negSucc 9), .iadd, .iload_n 1, .isub, .iaload, .iload_n 2] (by decide +kernel) rfl rfl ⟨c12, c13, trivial⟩ ?_
      refine E_icmp_ne (off := 7) (tgt := 82) (by decide +kernel) (by decide) (fun b14 => ?_) (fun b14 => ?_)
      · rw [if_pos b14] at h
        refine E_blk (lv' := [some (vr (some (4, this))), some (vi a1), some (vi a2)]) (st' := [vi (1 : Int32)]) (M1 := M) (pc' := 79) (tb_Checker hγ) [.iconst 1] (by decide +kernel) rfl rfl trivial ?_
        refine E_goto (off := 4) (tgt := 83) (by decide +kernel) (by decide) ?_
        exact E_zret rfl (Or.inr rfl) (by decide +kernel) h
      · rw [if_neg b14] at h
        refine E_blk (lv' := [some (vr (some (4, this))), some (vi a1), some (vi a2)]) (st' := [vi (0 : Int32)]) (M1 := M) (pc' := 83) (tb_Checker hγ) [.iconst 0] (by decide +kernel) rfl rfl trivial ?_
        exact E_zret rfl (Or.inl rfl) (by decide +kernel) h
def w_Checker_isNear_j81 (this : Nat) (Q : Int32 → Mem → Prop) (k39 : Int32 → Int32 → Int32 → Mem → Prop) (v1 : Int32) (v3 : Int32) (s0 : Int32) (s1 : Int32) (M : Mem) : Prop :=
  k39 v1 (s1 ||| s0) (v3 + (1 : Int32)) M
def w_Checker_isNear_L39 (this : Nat) (Q : Int32 → Mem → Prop) : Nat → Int32 → Int32 → Int32 → Mem → Prop
  | 0, _, _, _, _ => False
  | n + 1, v1, v2, v3, M => ∃ i4, (mR M 4 this 4) = some (5, i4) ∧ vp_in (mI M 4 this 5) (mL M 39 i4) ∧ if (mI M 39 i4 (mI M 4 this 5).toNatClampNeg) ≤ v3 then ((v2 = 0 ∨ v2 = 1) ∧ Q v2 M) else (∃ i7, (mR M 4 this 4) = some (5, i7) ∧ vp_in (((4 : Int32) * (mI M 4 this 5)) + v3) (mL M 38 i7) ∧ if (mI M 38 i7 (((4 : Int32) * (mI M 4 this 5)) + v3).toNatClampNeg) = v1 then (w_Checker_isNear_j81 this Q (w_Checker_isNear_L39 this Q n) v1 v3 (1 : Int32) v2 M) else (w_Checker_isNear_j81 this Q (w_Checker_isNear_L39 this Q n) v1 v3 (0 : Int32) v2 M))
def w_Checker_isNear_j36 (this : Nat) (Q : Int32 → Mem → Prop) (v1 : Int32) (s0 : Int32) (M : Mem) : Prop :=
  ∃ n10 : Nat, w_Checker_isNear_L39 this Q n10 v1 s0 (0 : Int32) M
def w_Checker_isNear_j31 (this : Nat) (Q : Int32 → Mem → Prop) (v1 : Int32) (M : Mem) : Prop :=
  w_Checker_isNear_j36 this Q v1 (1 : Int32) M
def w_Checker_isNear (this : Nat) (a1 : Int32) (Q : Int32 → Mem → Prop) (M : Mem) : Prop :=
  ∃ i1, (mR M 4 this 4) = some (5, i1) ∧ vp_in (mI M 4 this 5) (mL M 36 i1) ∧ if a1 = (mI M 36 i1 (mI M 4 this 5).toNatClampNeg) then (w_Checker_isNear_j31 this Q a1 M) else (∃ i11, (mR M 4 this 4) = some (5, i11) ∧ w_World_upName i11 (mI M 4 this 5) (fun r13 M12 => if a1 = r13 then (w_Checker_isNear_j31 this Q a1 M12) else (w_Checker_isNear_j36 this Q a1 (0 : Int32) M12)) M)
set_option maxRecDepth 4096 in
theorem lk_Checker_isNear_j81 {γ : Gm} (hγ : Gk γ) (this : Nat) (Q : Int32 → Mem → Prop) (k39 : Int32 → Int32 → Int32 → Mem → Prop) (hk39 : ∀ (v1 : Int32) (v2 : Int32) (v3 : Int32) (M : Mem), k39 v1 v2 v3 M → E γ k_Checker_isNear 2 39 [some (vr (some (4, this))), some (vi v1), some (vi v2), some (vi v3)] [] M (Qi Q)) (v1 : Int32) (v3 : Int32) (s0 : Int32) (s1 : Int32) (M : Mem) (h : w_Checker_isNear_j81 this Q k39 v1 v3 s0 s1 M) : E γ k_Checker_isNear 2 81 [some (vr (some (4, this))), some (vi v1), none, some (vi v3)] [vi s0, vi s1] M (Qi Q) := by
  unfold w_Checker_isNear_j81 at h
  refine E_blk (lv' := [some (vr (some (4, this))), some (vi v1), some (vi (s1 ||| s0)), some (vi (v3 + (1 : Int32)))]) (st' := []) (M1 := M) (pc' := 86) (tb_Checker hγ) [.ior, .istore_n 2, .iinc 3 1] (by decide +kernel) rfl rfl trivial ?_
  refine E_goto (off := -47) (tgt := 39) (by decide +kernel) (by decide) ?_
  refine E_mask [true, true, true, true] rfl ?_
  exact hk39 v1 (s1 ||| s0) (v3 + (1 : Int32)) M h
set_option maxRecDepth 4096 in
theorem lk_Checker_isNear_L39 {γ : Gm} (hγ : Gk γ) (this : Nat) (Q : Int32 → Mem → Prop) : ∀ (n : Nat) (v1 : Int32) (v2 : Int32) (v3 : Int32) (M : Mem), w_Checker_isNear_L39 this Q n v1 v2 v3 M → E γ k_Checker_isNear 2 39 [some (vr (some (4, this))), some (vi v1), some (vi v2), some (vi v3)] [] M (Qi Q) := by
  intro n
  induction n with
  | zero => intro v1 v2 v3 M h; exact h.elim
  | succ n ih =>
    intro v1 v2 v3 M h
    unfold w_Checker_isNear_L39 at h
    refine E_blk (lv' := [some (vr (some (4, this))), some (vi v1), some (vi v2), some (vi v3)]) (st' := [vr (mR M 4 this 4), vi v3]) (M1 := M) (pc' := 44) (tb_Checker hγ) [.iload_n 3, .aload_n 0, .getfield 35] (by decide +kernel) rfl rfl trivial ?_
    obtain ⟨i4, ei4, h⟩ := h
    rw [ei4]
    obtain ⟨c5, h⟩ := h
    refine E_blk (lv' := [some (vr (some (4, this))), some (vi v1), some (vi v2), some (vi v3)]) (st' := [vi (mI M 39 i4 (mI M 4 this 5).toNatClampNeg), vi v3]) (M1 := M) (pc' := 52) (tb_Checker hγ) [.getfield 347, .aload_n 0, .getfield 39, .iaload] (by decide +kernel) rfl rfl ⟨c5, trivial⟩ ?_
    refine E_icmp_ge (off := 37) (tgt := 89) (by decide +kernel) (by decide) (fun b6 => ?_) (fun b6 => ?_)
    · rw [if_pos b6] at h
      refine E_blk (lv' := [some (vr (some (4, this))), some (vi v1), some (vi v2), some (vi v3)]) (st' := [vi v2]) (M1 := M) (pc' := 90) (tb_Checker hγ) [.iload_n 2] (by decide +kernel) rfl rfl trivial ?_
      exact E_zret rfl h.1 (by decide +kernel) h.2
    · rw [if_neg b6] at h
      refine E_blk (lv' := [some (vr (some (4, this))), some (vi v1), some (vi v2), some (vi v3)]) (st' := [vr (mR M 4 this 4), vi v2]) (M1 := M) (pc' := 60) (tb_Checker hγ) [.iload_n 2, .aload_n 0, .getfield 35] (by decide +kernel) rfl rfl trivial ?_
      obtain ⟨i7, ei7, h⟩ := h
      rw [ei7]
      obtain ⟨c8, h⟩ := h
      refine E_blk (lv' := [some (vr (some (4, this))), some (vi v1), some (vi v2), some (vi v3)]) (st' := [vi v1, vi (mI M 38 i7 (((4 : Int32) * (mI M 4 this 5)) + v3).toNatClampNeg), vi v2]) (M1 := M) (pc' := 73) (tb_Checker hγ) [.getfield 350, .iconst 4, .aload_n 0, .getfield 39, .imul, .iload_n 3, .iadd, .iaload, .iload_n 1] (by decide +kernel) rfl rfl ⟨c8, trivial⟩ ?_
      refine E_icmp_ne (off := 7) (tgt := 80) (by decide +kernel) (by decide) (fun b9 => ?_) (fun b9 => ?_)
      · rw [if_pos b9] at h
        refine E_blk (lv' := [some (vr (some (4, this))), some (vi v1), some (vi v2), some (vi v3)]) (st' := [vi (1 : Int32), vi v2]) (M1 := M) (pc' := 77) (tb_Checker hγ) [.iconst 1] (by decide +kernel) rfl rfl trivial ?_
        refine E_goto (off := 4) (tgt := 81) (by decide +kernel) (by decide) ?_
        refine E_mask [true, true, false, true] rfl ?_
        exact lk_Checker_isNear_j81 hγ this Q (w_Checker_isNear_L39 this Q n) ih v1 v3 (1 : Int32) v2 M h
      · rw [if_neg b9] at h
        refine E_blk (lv' := [some (vr (some (4, this))), some (vi v1), some (vi v2), some (vi v3)]) (st' := [vi (0 : Int32), vi v2]) (M1 := M) (pc' := 81) (tb_Checker hγ) [.iconst 0] (by decide +kernel) rfl rfl trivial ?_
        refine E_mask [true, true, false, true] rfl ?_
        exact lk_Checker_isNear_j81 hγ this Q (w_Checker_isNear_L39 this Q n) ih v1 v3 (0 : Int32) v2 M h
set_option maxRecDepth 4096 in
theorem lk_Checker_isNear_j36 {γ : Gm} (hγ : Gk γ) (this : Nat) (Q : Int32 → Mem → Prop) (v1 : Int32) (s0 : Int32) (M : Mem) (h : w_Checker_isNear_j36 this Q v1 s0 M) : E γ k_Checker_isNear 2 36 [some (vr (some (4, this))), some (vi v1), none, none] [vi s0] M (Qi Q) := by
  unfold w_Checker_isNear_j36 at h
  refine E_blk (lv' := [some (vr (some (4, this))), some (vi v1), some (vi s0), some (vi (0 : Int32))]) (st' := []) (M1 := M) (pc' := 39) (tb_Checker hγ) [.istore_n 2, .iconst 0, .istore_n 3] (by decide +kernel) rfl rfl trivial ?_
  obtain ⟨n10, h⟩ := h
  refine E_mask [true, true, true, true] rfl ?_
  exact lk_Checker_isNear_L39 hγ this Q n10 v1 s0 (0 : Int32) M h
set_option maxRecDepth 4096 in
theorem lk_Checker_isNear_j31 {γ : Gm} (hγ : Gk γ) (this : Nat) (Q : Int32 → Mem → Prop) (v1 : Int32) (M : Mem) (h : w_Checker_isNear_j31 this Q v1 M) : E γ k_Checker_isNear 2 31 [some (vr (some (4, this))), some (vi v1), none, none] [] M (Qi Q) := by
  unfold w_Checker_isNear_j31 at h
  refine E_blk (lv' := [some (vr (some (4, this))), some (vi v1), none, none]) (st' := [vi (1 : Int32)]) (M1 := M) (pc' := 32) (tb_Checker hγ) [.iconst 1] (by decide +kernel) rfl rfl trivial ?_
  refine E_goto (off := 4) (tgt := 36) (by decide +kernel) (by decide) ?_
  refine E_mask [true, true, false, false] rfl ?_
  exact lk_Checker_isNear_j36 hγ this Q v1 (1 : Int32) M h
set_option maxRecDepth 4096 in
theorem lk_Checker_isNear {γ : Gm} (hγ : Gk γ) (this : Nat) (a1 : Int32) (Q : Int32 → Mem → Prop) (M : Mem) (h : w_Checker_isNear this a1 Q M) : E γ k_Checker_isNear 2 0 [some (vr (some (4, this))), some (vi a1), none, none] [] M (Qi Q) := by
  unfold w_Checker_isNear at h
  refine E_blk (lv' := [some (vr (some (4, this))), some (vi a1), none, none]) (st' := [vr (mR M 4 this 4), vi a1]) (M1 := M) (pc' := 5) (tb_Checker hγ) [.iload_n 1, .aload_n 0, .getfield 35] (by decide +kernel) rfl rfl trivial ?_
  obtain ⟨i1, ei1, h⟩ := h
  rw [ei1]
  obtain ⟨c2, h⟩ := h
  refine E_blk (lv' := [some (vr (some (4, this))), some (vi a1), none, none]) (st' := [vi (mI M 36 i1 (mI M 4 this 5).toNatClampNeg), vi a1]) (M1 := M) (pc' := 13) (tb_Checker hγ) [.getfield 78, .aload_n 0, .getfield 39, .iaload] (by decide +kernel) rfl rfl ⟨c2, trivial⟩ ?_
  refine E_icmp_eq (off := 18) (tgt := 31) (by decide +kernel) (by decide) (fun b3 => ?_) (fun b3 => ?_)
  · rw [if_pos b3] at h
    refine E_mask [true, true, false, false] rfl ?_
    exact lk_Checker_isNear_j31 hγ this Q a1 M h
  · rw [if_neg b3] at h
    refine E_blk (lv' := [some (vr (some (4, this))), some (vi a1), none, none]) (st' := [vr (mR M 4 this 4), vi a1]) (M1 := M) (pc' := 21) (tb_Checker hγ) [.iload_n 1, .aload_n 0, .getfield 35] (by decide +kernel) rfl rfl trivial ?_
    obtain ⟨i11, ei11, h⟩ := h
    rw [ei11]
    refine E_blk (lv' := [some (vr (some (4, this))), some (vi a1), none, none]) (st' := [vi (mI M 4 this 5), vr (some (5, i11)), vi a1]) (M1 := M) (pc' := 25) (tb_Checker hγ) [.aload_n 0, .getfield 39] (by decide +kernel) rfl rfl trivial ?_
    refine E_callV (κ' := k_World_upName) (As := [vi (mI M 4 this 5)]) (st := [vi a1]) mv_World_upName (Or.inl (tbk_mem (j := 7) (k := 161) rfl)) rfl (by decide +kernel) (Nat.le_of_ble_eq_true rfl) (Nat.le_of_ble_eq_true rfl) rfl (by decide) (lk_World_upName hγ i11 (mI M 4 this 5) _ M h) (fun _ _ => Qi_r) (fun v M12 hp => Qi_k (R := fun st => E γ k_Checker_isNear 2 28 [some (vr (some (4, this))), some (vi a1), none, none] st M12 (Qi Q)) hp (fun r13 h => ?_))
    refine E_icmp_ne (off := 7) (tgt := 35) (by decide +kernel) (by decide) (fun b14 => ?_) (fun b14 => ?_)
    · rw [if_pos b14] at h
      refine E_mask [true, true, false, false] rfl ?_
      exact lk_Checker_isNear_j31 hγ this Q a1 M12 h
    · rw [if_neg b14] at h
      refine E_blk (lv' := [some (vr (some (4, this))), some (vi a1), none, none]) (st' := [vi (0 : Int32)]) (M1 := M12) (pc' := 36) (tb_Checker hγ) [.iconst 0] (by decide +kernel) rfl rfl trivial ?_
      refine E_mask [true, true, false, false] rfl ?_
      exact lk_Checker_isNear_j36 hγ this Q a1 (0 : Int32) M12 h
def w_Checker_change_j85 (this : Nat) (Q : Mem → Prop) (k52 : Int32 → Int32 → Int32 → Mem → Prop) (v1 : Int32) (v2 : Int32) (v3 : Int32) (s0 : Int32) (s1 : Int32) (M : Mem) : Prop :=
  vp_in s1 (mL M 32 this) ∧ k52 v1 v2 (v3 + (1 : Int32)) (sI M 32 this s1.toNatClampNeg s0)
def w_Checker_change_L52 (this : Nat) (Q : Mem → Prop) : Nat → Int32 → Int32 → Int32 → Mem → Prop
  | 0, _, _, _, _ => False
  | n + 1, v1, v2, v3, M => if (mI M 4 this 2) ≤ v3 then (Q M) else (vp_in v3 (mL M 32 this) ∧ if (mI M 32 this v3.toNatClampNeg) = v1 then (w_Checker_change_j85 this Q (w_Checker_change_L52 this Q n) v1 v2 v3 v2 v3 M) else (vp_in v3 (mL M 32 this) ∧ w_Checker_change_j85 this Q (w_Checker_change_L52 this Q n) v1 v2 v3 (mI M 32 this v3.toNatClampNeg) v3 M))
def w_Checker_change_j43 (this : Nat) (Q : Mem → Prop) (k2 : Int32 → Int32 → Int32 → Mem → Prop) (v1 : Int32) (v2 : Int32) (v3 : Int32) (s0 : Int32) (s1 : Int32) (M : Mem) : Prop :=
  vp_in s1 (mL M 31 this) ∧ k2 v1 v2 (v3 + (1 : Int32)) (sI M 31 this s1.toNatClampNeg s0)
def w_Checker_change_L2 (this : Nat) (Q : Mem → Prop) : Nat → Int32 → Int32 → Int32 → Mem → Prop
  | 0, _, _, _, _ => False
  | n + 1, v1, v2, v3, M => ∃ i1, (mR M 4 this 4) = some (5, i1) ∧ vp_in (mI M 4 this 6) (mL M 61 i1) ∧ if (mI M 61 i1 (mI M 4 this 6).toNatClampNeg) ≤ v3 then (∃ n9 : Nat, w_Checker_change_L52 this Q n9 v1 v2 (0 : Int32) M) else (vp_in v3 (mL M 31 this) ∧ if (mI M 31 this v3.toNatClampNeg) = v1 then (w_Checker_change_j43 this Q (w_Checker_change_L2 this Q n) v1 v2 v3 v2 v3 M) else (vp_in v3 (mL M 31 this) ∧ w_Checker_change_j43 this Q (w_Checker_change_L2 this Q n) v1 v2 v3 (mI M 31 this v3.toNatClampNeg) v3 M))
def w_Checker_change (this : Nat) (a1 : Int32) (a2 : Int32) (Q : Mem → Prop) (M : Mem) : Prop :=
  ∃ n14 : Nat, w_Checker_change_L2 this Q n14 a1 a2 (0 : Int32) M
set_option maxRecDepth 4096 in
theorem lk_Checker_change_j85 {γ : Gm} (hγ : Gk γ) (this : Nat) (Q : Mem → Prop) (k52 : Int32 → Int32 → Int32 → Mem → Prop) (hk52 : ∀ (v1 : Int32) (v2 : Int32) (v3 : Int32) (M : Mem), k52 v1 v2 v3 M → E γ k_Checker_change 0 52 [some (vr (some (4, this))), some (vi v1), some (vi v2), some (vi v3)] [] M (Qv Q)) (v1 : Int32) (v2 : Int32) (v3 : Int32) (s0 : Int32) (s1 : Int32) (M : Mem) (h : w_Checker_change_j85 this Q k52 v1 v2 v3 s0 s1 M) : E γ k_Checker_change 0 85 [some (vr (some (4, this))), some (vi v1), some (vi v2), some (vi v3)] [vi s0, vi s1, vr (some (32, this))] M (Qv Q) := by
  unfold w_Checker_change_j85 at h
  obtain ⟨c7, h⟩ := h
  refine E_blk (lv' := [some (vr (some (4, this))), some (vi v1), some (vi v2), some (vi (v3 + (1 : Int32)))]) (st' := []) (M1 := (sI M 32 this s1.toNatClampNeg s0)) (pc' := 89) (tb_Checker hγ) [.iastore, .iinc 3 1] (by decide +kernel) rfl rfl ⟨c7, trivial⟩ ?_
  refine E_goto (off := -37) (tgt := 52) (by decide +kernel) (by decide) ?_
  refine E_mask [true, true, true, true] rfl ?_
  exact hk52 v1 v2 (v3 + (1 : Int32)) (sI M 32 this s1.toNatClampNeg s0) h
set_option maxRecDepth 4096 in
theorem lk_Checker_change_L52 {γ : Gm} (hγ : Gk γ) (this : Nat) (Q : Mem → Prop) : ∀ (n : Nat) (v1 : Int32) (v2 : Int32) (v3 : Int32) (M : Mem), w_Checker_change_L52 this Q n v1 v2 v3 M → E γ k_Checker_change 0 52 [some (vr (some (4, this))), some (vi v1), some (vi v2), some (vi v3)] [] M (Qv Q) := by
  intro n
  induction n with
  | zero => intro v1 v2 v3 M h; exact h.elim
  | succ n ih =>
    intro v1 v2 v3 M h
    unfold w_Checker_change_L52 at h
    refine E_blk (lv' := [some (vr (some (4, this))), some (vi v1), some (vi v2), some (vi v3)]) (st' := [vi (mI M 4 this 2), vi v3]) (M1 := M) (pc' := 57) (tb_Checker hγ) [.iload_n 3, .aload_n 0, .getfield 102] (by decide +kernel) rfl rfl trivial ?_
    refine E_icmp_ge (off := 35) (tgt := 92) (by decide +kernel) (by decide) (fun b4 => ?_) (fun b4 => ?_)
    · rw [if_pos b4] at h
      exact E_vret rfl (by decide +kernel) h
    · rw [if_neg b4] at h
      obtain ⟨c5, h⟩ := h
      refine E_blk (lv' := [some (vr (some (4, this))), some (vi v1), some (vi v2), some (vi v3)]) (st' := [vi v1, vi (mI M 32 this v3.toNatClampNeg), vi v3, vr (some (32, this))]) (M1 := M) (pc' := 72) (tb_Checker hγ) [.aload_n 0, .getfield 19, .iload_n 3, .aload_n 0, .getfield 19, .iload_n 3, .iaload, .iload_n 1] (by decide +kernel) rfl rfl ⟨c5, trivial⟩ ?_
      refine E_icmp_ne (off := 7) (tgt := 79) (by decide +kernel) (by decide) (fun b6 => ?_) (fun b6 => ?_)
      · rw [if_pos b6] at h
        refine E_blk (lv' := [some (vr (some (4, this))), some (vi v1), some (vi v2), some (vi v3)]) (st' := [vi v2, vi v3, vr (some (32, this))]) (M1 := M) (pc' := 76) (tb_Checker hγ) [.iload_n 2] (by decide +kernel) rfl rfl trivial ?_
        refine E_goto (off := 9) (tgt := 85) (by decide +kernel) (by decide) ?_
        refine E_mask [true, true, true, true] rfl ?_
        exact lk_Checker_change_j85 hγ this Q (w_Checker_change_L52 this Q n) ih v1 v2 v3 v2 v3 M h
      · rw [if_neg b6] at h
        obtain ⟨c8, h⟩ := h
        refine E_blk (lv' := [some (vr (some (4, this))), some (vi v1), some (vi v2), some (vi v3)]) (st' := [vi (mI M 32 this v3.toNatClampNeg), vi v3, vr (some (32, this))]) (M1 := M) (pc' := 85) (tb_Checker hγ) [.aload_n 0, .getfield 19, .iload_n 3, .iaload] (by decide +kernel) rfl rfl ⟨c8, trivial⟩ ?_
        refine E_mask [true, true, true, true] rfl ?_
        exact lk_Checker_change_j85 hγ this Q (w_Checker_change_L52 this Q n) ih v1 v2 v3 (mI M 32 this v3.toNatClampNeg) v3 M h
set_option maxRecDepth 4096 in
theorem lk_Checker_change_j43 {γ : Gm} (hγ : Gk γ) (this : Nat) (Q : Mem → Prop) (k2 : Int32 → Int32 → Int32 → Mem → Prop) (hk2 : ∀ (v1 : Int32) (v2 : Int32) (v3 : Int32) (M : Mem), k2 v1 v2 v3 M → E γ k_Checker_change 0 2 [some (vr (some (4, this))), some (vi v1), some (vi v2), some (vi v3)] [] M (Qv Q)) (v1 : Int32) (v2 : Int32) (v3 : Int32) (s0 : Int32) (s1 : Int32) (M : Mem) (h : w_Checker_change_j43 this Q k2 v1 v2 v3 s0 s1 M) : E γ k_Checker_change 0 43 [some (vr (some (4, this))), some (vi v1), some (vi v2), some (vi v3)] [vi s0, vi s1, vr (some (31, this))] M (Qv Q) := by
  unfold w_Checker_change_j43 at h
  obtain ⟨c12, h⟩ := h
  refine E_blk (lv' := [some (vr (some (4, this))), some (vi v1), some (vi v2), some (vi (v3 + (1 : Int32)))]) (st' := []) (M1 := (sI M 31 this s1.toNatClampNeg s0)) (pc' := 47) (tb_Checker hγ) [.iastore, .iinc 3 1] (by decide +kernel) rfl rfl ⟨c12, trivial⟩ ?_
  refine E_goto (off := -45) (tgt := 2) (by decide +kernel) (by decide) ?_
  refine E_mask [true, true, true, true] rfl ?_
  exact hk2 v1 v2 (v3 + (1 : Int32)) (sI M 31 this s1.toNatClampNeg s0) h
set_option maxRecDepth 4096 in
theorem lk_Checker_change_L2 {γ : Gm} (hγ : Gk γ) (this : Nat) (Q : Mem → Prop) : ∀ (n : Nat) (v1 : Int32) (v2 : Int32) (v3 : Int32) (M : Mem), w_Checker_change_L2 this Q n v1 v2 v3 M → E γ k_Checker_change 0 2 [some (vr (some (4, this))), some (vi v1), some (vi v2), some (vi v3)] [] M (Qv Q) := by
  intro n
  induction n with
  | zero => intro v1 v2 v3 M h; exact h.elim
  | succ n ih =>
    intro v1 v2 v3 M h
    unfold w_Checker_change_L2 at h
    refine E_blk (lv' := [some (vr (some (4, this))), some (vi v1), some (vi v2), some (vi v3)]) (st' := [vr (mR M 4 this 4), vi v3]) (M1 := M) (pc' := 7) (tb_Checker hγ) [.iload_n 3, .aload_n 0, .getfield 35] (by decide +kernel) rfl rfl trivial ?_
    obtain ⟨i1, ei1, h⟩ := h
    rw [ei1]
    obtain ⟨c2, h⟩ := h
    refine E_blk (lv' := [some (vr (some (4, this))), some (vi v1), some (vi v2), some (vi v3)]) (st' := [vi (mI M 61 i1 (mI M 4 this 6).toNatClampNeg), vi v3]) (M1 := M) (pc' := 15) (tb_Checker hγ) [.getfield 85, .aload_n 0, .getfield 54, .iaload] (by decide +kernel) rfl rfl ⟨c2, trivial⟩ ?_
    refine E_icmp_ge (off := 35) (tgt := 50) (by decide +kernel) (by decide) (fun b3 => ?_) (fun b3 => ?_)
    · rw [if_pos b3] at h
      refine E_blk (lv' := [some (vr (some (4, this))), some (vi v1), some (vi v2), some (vi (0 : Int32))]) (st' := []) (M1 := M) (pc' := 52) (tb_Checker hγ) [.iconst 0, .istore_n 3] (by decide +kernel) rfl rfl trivial ?_
      obtain ⟨n9, h⟩ := h
      refine E_mask [true, true, true, true] rfl ?_
      exact lk_Checker_change_L52 hγ this Q n9 v1 v2 (0 : Int32) M h
    · rw [if_neg b3] at h
      obtain ⟨c10, h⟩ := h
      refine E_blk (lv' := [some (vr (some (4, this))), some (vi v1), some (vi v2), some (vi v3)]) (st' := [vi v1, vi (mI M 31 this v3.toNatClampNeg), vi v3, vr (some (31, this))]) (M1 := M) (pc' := 30) (tb_Checker hγ) [.aload_n 0, .getfield 15, .iload_n 3, .aload_n 0, .getfield 15, .iload_n 3, .iaload, .iload_n 1] (by decide +kernel) rfl rfl ⟨c10, trivial⟩ ?_
      refine E_icmp_ne (off := 7) (tgt := 37) (by decide +kernel) (by decide) (fun b11 => ?_) (fun b11 => ?_)
      · rw [if_pos b11] at h
        refine E_blk (lv' := [some (vr (some (4, this))), some (vi v1), some (vi v2), some (vi v3)]) (st' := [vi v2, vi v3, vr (some (31, this))]) (M1 := M) (pc' := 34) (tb_Checker hγ) [.iload_n 2] (by decide +kernel) rfl rfl trivial ?_
        refine E_goto (off := 9) (tgt := 43) (by decide +kernel) (by decide) ?_
        refine E_mask [true, true, true, true] rfl ?_
        exact lk_Checker_change_j43 hγ this Q (w_Checker_change_L2 this Q n) ih v1 v2 v3 v2 v3 M h
      · rw [if_neg b11] at h
        obtain ⟨c13, h⟩ := h
        refine E_blk (lv' := [some (vr (some (4, this))), some (vi v1), some (vi v2), some (vi v3)]) (st' := [vi (mI M 31 this v3.toNatClampNeg), vi v3, vr (some (31, this))]) (M1 := M) (pc' := 43) (tb_Checker hγ) [.aload_n 0, .getfield 15, .iload_n 3, .iaload] (by decide +kernel) rfl rfl ⟨c13, trivial⟩ ?_
        refine E_mask [true, true, true, true] rfl ?_
        exact lk_Checker_change_j43 hγ this Q (w_Checker_change_L2 this Q n) ih v1 v2 v3 (mI M 31 this v3.toNatClampNeg) v3 M h
set_option maxRecDepth 4096 in
theorem lk_Checker_change {γ : Gm} (hγ : Gk γ) (this : Nat) (a1 : Int32) (a2 : Int32) (Q : Mem → Prop) (M : Mem) (h : w_Checker_change this a1 a2 Q M) : E γ k_Checker_change 0 0 [some (vr (some (4, this))), some (vi a1), some (vi a2), none] [] M (Qv Q) := by
  unfold w_Checker_change at h
  refine E_blk (lv' := [some (vr (some (4, this))), some (vi a1), some (vi a2), some (vi (0 : Int32))]) (st' := []) (M1 := M) (pc' := 2) (tb_Checker hγ) [.iconst 0, .istore_n 3] (by decide +kernel) rfl rfl trivial ?_
  obtain ⟨n14, h⟩ := h
  refine E_mask [true, true, true, true] rfl ?_
  exact lk_Checker_change_L2 hγ this Q n14 a1 a2 (0 : Int32) M h
def w_Checker_call_j315 (this : Nat) (Q : Int32 → Mem → Prop)  (M : Mem) : Prop :=
  w_Checker_breaks this (42 : Int32) (fun r32 M31 => (r32 = 0 ∨ r32 = 1) ∧ Q r32 M31) M
def w_Checker_call_j378 (this : Nat) (Q : Int32 → Mem → Prop) (v2 : Int32) (M : Mem) : Prop :=
  ∃ i34, (mR M 4 this 4) = some (5, i34) ∧ w_World_refType i34 v2 (fun r36 M35 => if r36 = (-4 : Int32) then (Q (1 : Int32) M35) else (∃ i38, (mR M35 4 this 4) = some (5, i38) ∧ w_World_refType i38 v2 (fun r40 M39 => w_Checker_push this r40 (fun r42 M41 => if r42 = 0 then (Q (0 : Int32) M41) else (Q (1 : Int32) M41)) M39) M35)) M
def w_Checker_call_j366 (this : Nat) (Q : Int32 → Mem → Prop) (v2 : Int32) (s0 : Int32) (s1 : Int32) (M : Mem) : Prop :=
  w_Checker_change this s1 s0 (fun M47 => w_Checker_handlers this (fun r49 M48 => if r49 = 0 then (Q (0 : Int32) M48) else (w_Checker_call_j378 this Q v2 M48)) M47) M
def w_Checker_call_j322 (this : Nat) (Q : Int32 → Mem → Prop) (v2 : Int32) (v4 : Int32) (v6 : Int32) (v7 : Int32) (M : Mem) : Prop :=
  if v4 = 0 then (w_Checker_call_j378 this Q v2 (sI M 4 this 2 ((mI M 4 this 2) - v6))) else (if v7 = (-3 : Int32) then (w_Checker_classKind this (fun r46 M45 => w_Checker_call_j366 this Q v2 r46 v7 M45) (sI M 4 this 2 ((mI M 4 this 2) - v6))) else (∃ i51, (mR (sI M 4 this 2 ((mI M 4 this 2) - v6)) 4 this 4) = some (5, i51) ∧ w_World_refClass i51 v2 (fun r53 M52 => w_Works_kindOf r53 (fun r55 M54 => w_Checker_call_j366 this Q v2 r55 v7 M54) M52) (sI M 4 this 2 ((mI M 4 this 2) - v6))))
def w_Checker_call_j269 (this : Nat) (Q : Int32 → Mem → Prop) (v1 : Int32) (v2 : Int32) (v4 : Int32) (v6 : Int32) (v7 : Int32) (M : Mem) : Prop :=
  if v1 = (51 : Int32) then (if v4 = 0 then (∃ i25, (mR M 4 this 4) = some (5, i25) ∧ w_World_refClass i25 v2 (fun r27 M26 => w_Checker_isNear this r27 (fun r29 M28 => if r29 = 0 then (w_Checker_call_j315 this Q  M28) else (w_Checker_call_j322 this Q v2 v4 v6 v7 M28)) M26) M) else (∃ i56, (mR M 4 this 4) = some (5, i56) ∧ w_World_refClass i56 v2 (fun r58 M57 => w_Checker_makesRight this v7 r58 (fun r60 M59 => if r60 = 0 then (w_Checker_call_j315 this Q  M59) else (w_Checker_call_j322 this Q v2 v4 v6 v7 M59)) M57) M)) else (w_Checker_call_j322 this Q v2 v4 v6 v7 M)
def w_Checker_call_j251 (this : Nat) (Q : Int32 → Mem → Prop) (v1 : Int32) (v2 : Int32) (v4 : Int32) (v6 : Int32) (v7 : Int32) (M : Mem) : Prop :=
  if v4 = 0 then (w_Checker_call_j269 this Q v1 v2 v4 v6 v7 M) else (if v1 = (51 : Int32) then (w_Checker_call_j269 this Q v1 v2 v4 v6 v7 M) else (w_Checker_breaks this (42 : Int32) (fun r64 M63 => (r64 = 0 ∨ r64 = 1) ∧ Q r64 M63) M))
def w_Checker_call_L192 (this : Nat) (Q : Int32 → Mem → Prop) : Nat → Int32 → Int32 → Int32 → Int32 → Int32 → Int32 → Int32 → Int32 → Int32 → Mem → Prop
  | 0, _, _, _, _, _, _, _, _, _, _ => False
  | n + 1, v1, v2, v3, v4, v5, v6, v7, v8, v9, M => if v3 ≤ v9 then (if v5 = 0 then (w_Checker_call_j251 this Q v1 v2 v4 v6 v7 M) else (w_Checker_isMade this v3 v8 (fun r66 M65 => if r66 = 0 then (Q (0 : Int32) M65) else (w_Checker_call_j251 this Q v1 v2 v4 v6 v7 M65)) M)) else (∃ i68, (mR M 4 this 4) = some (5, i68) ∧ vp_in (((((6 : Int32) * v2) + v3) - (1 : Int32)) - v9) (mL M 211 (2 * i68 + 2)) ∧ w_Checker_isMade this v9 (mI M 211 (2 * i68 + 2) (((((6 : Int32) * v2) + v3) - (1 : Int32)) - v9).toNatClampNeg) (fun r71 M70 => if r71 = 0 then (Q (0 : Int32) M70) else ((w_Checker_call_L192 this Q n) v1 v2 v3 v4 v5 v6 v7 v8 (v9 + (1 : Int32)) M70)) M)
def w_Checker_call_j189 (this : Nat) (Q : Int32 → Mem → Prop) (v1 : Int32) (v2 : Int32) (v3 : Int32) (v4 : Int32) (v5 : Int32) (v6 : Int32) (v7 : Int32) (v8 : Int32) (M : Mem) : Prop :=
  ∃ n73 : Nat, w_Checker_call_L192 this Q n73 v1 v2 v3 v4 v5 v6 v7 v8 (0 : Int32) M
def w_Checker_call_L130 (this : Nat) (Q : Int32 → Mem → Prop) : Nat → Int32 → Int32 → Int32 → Int32 → Int32 → Int32 → Int32 → Int32 → Int32 → Mem → Prop
  | 0, _, _, _, _, _, _, _, _, _, _ => False
  | n + 1, v1, v2, v3, v4, v5, v6, v7, v8, v9, M => if v3 ≤ v9 then (if v5 = 0 then (w_Checker_call_j189 this Q v1 v2 v3 v4 v5 v6 v7 v8 M) else (w_Checker_is this v3 v8 (fun r75 M74 => if r75 = 0 then (Q (0 : Int32) M74) else (w_Checker_call_j189 this Q v1 v2 v3 v4 v5 v6 v7 v8 M74)) M)) else (∃ i77, (mR M 4 this 4) = some (5, i77) ∧ vp_in (((((6 : Int32) * v2) + v3) - (1 : Int32)) - v9) (mL M 211 (2 * i77 + 2)) ∧ w_Checker_is this v9 (mI M 211 (2 * i77 + 2) (((((6 : Int32) * v2) + v3) - (1 : Int32)) - v9).toNatClampNeg) (fun r80 M79 => if r80 = 0 then (Q (0 : Int32) M79) else ((w_Checker_call_L130 this Q n) v1 v2 v3 v4 v5 v6 v7 v8 (v9 + (1 : Int32)) M79)) M)
def w_Checker_call_j125 (this : Nat) (Q : Int32 → Mem → Prop) (v1 : Int32) (v2 : Int32) (v3 : Int32) (v4 : Int32) (v5 : Int32) (v6 : Int32) (v7 : Int32) (s0 : Int32) (M : Mem) : Prop :=
  ∃ n82 : Nat, w_Checker_call_L130 this Q n82 v1 v2 v3 v4 v5 v6 v7 s0 (0 : Int32) M
def w_Checker_call_j89 (this : Nat) (Q : Int32 → Mem → Prop) (v1 : Int32) (v2 : Int32) (v3 : Int32) (v4 : Int32) (v5 : Int32) (v6 : Int32) (s0 : Int32) (M : Mem) : Prop :=
  if v1 = (51 : Int32) then (if v4 = 0 then (w_Checker_classKind this (fun r17 M16 => w_Checker_call_j125 this Q v1 v2 v3 v4 v5 v6 s0 r17 M16) M) else (w_Checker_call_j125 this Q v1 v2 v3 v4 v5 v6 s0 (-6 : Int32) M)) else (∃ i83, (mR M 4 this 4) = some (5, i83) ∧ w_World_refClass i83 v2 (fun r85 M84 => w_Works_kindOf r85 (fun r87 M86 => w_Checker_call_j125 this Q v1 v2 v3 v4 v5 v6 s0 r87 M86) M84) M)
def w_Checker_call_j53 (this : Nat) (Q : Int32 → Mem → Prop) (v1 : Int32) (v2 : Int32) (v3 : Int32) (v4 : Int32) (v5 : Int32) (s0 : Int32) (s1 : Int32) (M : Mem) : Prop :=
  w_Checker_needs this (s1 + s0) (fun r11 M10 => if r11 = 0 then (Q (0 : Int32) M10) else (if v5 = 0 then (w_Checker_call_j89 this Q v1 v2 v3 v4 v5 (s1 + s0) (0 : Int32) M10) else (vp_in (((mI M10 4 this 2) - (1 : Int32)) - v3) (mL M10 32 this) ∧ w_Checker_call_j89 this Q v1 v2 v3 v4 v5 (s1 + s0) (mI M10 32 this (((mI M10 4 this 2) - (1 : Int32)) - v3).toNatClampNeg) M10))) M
def w_Checker_call_j40 (this : Nat) (Q : Int32 → Mem → Prop) (v1 : Int32) (v2 : Int32) (v3 : Int32) (v4 : Int32) (s0 : Int32) (M : Mem) : Prop :=
  if s0 = 0 then (w_Checker_call_j53 this Q v1 v2 v3 v4 s0 (0 : Int32) v3 M) else (w_Checker_call_j53 this Q v1 v2 v3 v4 s0 (1 : Int32) v3 M)
def w_Checker_call_j27 (this : Nat) (Q : Int32 → Mem → Prop) (v1 : Int32) (v2 : Int32) (v3 : Int32) (s0 : Int32) (M : Mem) : Prop :=
  if v1 = (52 : Int32) then (w_Checker_call_j40 this Q v1 v2 v3 s0 (0 : Int32) M) else (w_Checker_call_j40 this Q v1 v2 v3 s0 (1 : Int32) M)
def w_Checker_call (this : Nat) (a1 : Int32) (a2 : Int32) (Q : Int32 → Mem → Prop) (M : Mem) : Prop :=
  ∃ i1, (mR M 4 this 4) = some (5, i1) ∧ w_World_refArguments i1 a2 (fun r3 M2 => ∃ i4, (mR M2 4 this 4) = some (5, i4) ∧ w_World_refName i4 a2 (fun r6 M5 => if r6 = (79 : Int32) then (w_Checker_call_j27 this Q a1 a2 r3 (1 : Int32) M5) else (w_Checker_call_j27 this Q a1 a2 r3 (0 : Int32) M5)) M2) M
set_option maxRecDepth 4096 in
theorem lk_Checker_call_j315 {γ : Gm} (hγ : Gk γ) (this : Nat) (Q : Int32 → Mem → Prop)  (M : Mem) (h : w_Checker_call_j315 this Q  M) : E γ k_Checker_call 7 315 [some (vr (some (4, this))), none, none, none, none, none, none, none, none, none] [] M (Qi Q) := by
  unfold w_Checker_call_j315 at h
  refine E_blk (lv' := [some (vr (some (4, this))), none, none, none, none, none, none, none, none, none]) (st' := [vi (42 : Int32), vr (some (4, this))]) (M1 := M) (pc' := 318) (tb_Checker hγ) [.aload_n 0, .bipush 42] (by decide +kernel) rfl rfl trivial ?_
  refine E_callV (κ' := k_Checker_breaks) (As := [vi (42 : Int32)]) (st := []) mv_Checker_breaks (Or.inl (tbk_mem (j := 7) (k := 147) rfl)) rfl (by decide +kernel) (Nat.le_of_ble_eq_true rfl) (Nat.le_of_ble_eq_true rfl) rfl (by decide) (lk_Checker_breaks hγ this (42 : Int32) _ M h) (fun _ _ => Qi_r) (fun v M31 hp => Qi_k (R := fun st => E γ k_Checker_call 7 321 [some (vr (some (4, this))), none, none, none, none, none, none, none, none, none] st M31 (Qi Q)) hp (fun r32 h => ?_))
  exact E_zret rfl h.1 (by decide +kernel) h.2
set_option maxRecDepth 4096 in
theorem lk_Checker_call_j378 {γ : Gm} (hγ : Gk γ) (this : Nat) (Q : Int32 → Mem → Prop) (v2 : Int32) (M : Mem) (h : w_Checker_call_j378 this Q v2 M) : E γ k_Checker_call 7 378 [some (vr (some (4, this))), none, some (vi v2), none, none, none, none, none, none, none] [] M (Qi Q) := by
  unfold w_Checker_call_j378 at h
  refine E_blk (lv' := [some (vr (some (4, this))), none, some (vi v2), none, none, none, none, none, none, none]) (st' := [vr (mR M 4 this 4)]) (M1 := M) (pc' := 382) (tb_Checker hγ) [.aload_n 0, .getfield 35] (by decide +kernel) rfl rfl trivial ?_
  obtain ⟨i34, ei34, h⟩ := h
  rw [ei34]
  refine E_blk (lv' := [some (vr (some (4, this))), none, some (vi v2), none, none, none, none, none, none, none]) (st' := [vi v2, vr (some (5, i34))]) (M1 := M) (pc' := 383) (tb_Checker hγ) [.iload_n 2] (by decide +kernel) rfl rfl trivial ?_
  refine E_callV (κ' := k_World_refType) (As := [vi v2]) (st := []) mv_World_refType (Or.inl (tbk_mem (j := 8) (k := 4) rfl)) rfl (by decide +kernel) (Nat.le_of_ble_eq_true rfl) (Nat.le_of_ble_eq_true rfl) rfl (by decide) (lk_World_refType hγ i34 v2 _ M h) (fun _ _ => Qi_r) (fun v M35 hp => Qi_k (R := fun st => E γ k_Checker_call 7 386 [some (vr (some (4, this))), none, some (vi v2), none, none, none, none, none, none, none] st M35 (Qi Q)) hp (fun r36 h => ?_))
  refine E_blk (lv' := [some (vr (some (4, this))), none, some (vi v2), none, none, none, none, none, none, none]) (st' := [vi (-4 : Int32), vi r36]) (M1 := M35) (pc' := 388) (tb_Checker hγ) [.bipush (.negSucc 3)] (by decide +kernel) rfl rfl trivial ?_
  refine E_icmp_eq (off := 18) (tgt := 406) (by decide +kernel) (by decide) (fun b37 => ?_) (fun b37 => ?_)
  · rw [if_pos b37] at h
    refine E_blk (lv' := [some (vr (some (4, this))), none, some (vi v2), none, none, none, none, none, none, none]) (st' := [vi (1 : Int32)]) (M1 := M35) (pc' := 407) (tb_Checker hγ) [.iconst 1] (by decide +kernel) rfl rfl trivial ?_
    refine E_goto (off := 4) (tgt := 411) (by decide +kernel) (by decide) ?_
    exact E_zret rfl (Or.inr rfl) (by decide +kernel) h
  · rw [if_neg b37] at h
    refine E_blk (lv' := [some (vr (some (4, this))), none, some (vi v2), none, none, none, none, none, none, none]) (st' := [vr (mR M35 4 this 4), vr (some (4, this))]) (M1 := M35) (pc' := 396) (tb_Checker hγ) [.aload_n 0, .aload_n 0, .getfield 35] (by decide +kernel) rfl rfl trivial ?_
    obtain ⟨i38, ei38, h⟩ := h
    rw [ei38]
    refine E_blk (lv' := [some (vr (some (4, this))), none, some (vi v2), none, none, none, none, none, none, none]) (st' := [vi v2, vr (some (5, i38)), vr (some (4, this))]) (M1 := M35) (pc' := 397) (tb_Checker hγ) [.iload_n 2] (by decide +kernel) rfl rfl trivial ?_
    refine E_callV (κ' := k_World_refType) (As := [vi v2]) (st := [vr (some (4, this))]) mv_World_refType (Or.inl (tbk_mem (j := 8) (k := 4) rfl)) rfl (by decide +kernel) (Nat.le_of_ble_eq_true rfl) (Nat.le_of_ble_eq_true rfl) rfl (by decide) (lk_World_refType hγ i38 v2 _ M35 h) (fun _ _ => Qi_r) (fun v M39 hp => Qi_k (R := fun st => E γ k_Checker_call 7 400 [some (vr (some (4, this))), none, some (vi v2), none, none, none, none, none, none, none] st M39 (Qi Q)) hp (fun r40 h => ?_))
    refine E_callV (κ' := k_Checker_push) (As := [vi r40]) (st := []) mv_Checker_push (Or.inl (tbk_mem (j := 7) (k := 232) rfl)) rfl (by decide +kernel) (Nat.le_of_ble_eq_true rfl) (Nat.le_of_ble_eq_true rfl) rfl (by decide) (lk_Checker_push hγ this r40 _ M39 h) (fun _ _ => Qi_r) (fun v M41 hp => Qi_k (R := fun st => E γ k_Checker_call 7 403 [some (vr (some (4, this))), none, some (vi v2), none, none, none, none, none, none, none] st M41 (Qi Q)) hp (fun r42 h => ?_))
    refine E_if_eq (off := 7) (tgt := 410) (by decide +kernel) (by decide) (fun b43 => ?_) (fun b43 => ?_)
    · rw [if_pos b43] at h
      refine E_blk (lv' := [some (vr (some (4, this))), none, some (vi v2), none, none, none, none, none, none, none]) (st' := [vi (0 : Int32)]) (M1 := M41) (pc' := 411) (tb_Checker hγ) [.iconst 0] (by decide +kernel) rfl rfl trivial ?_
      exact E_zret rfl (Or.inl rfl) (by decide +kernel) h
    · rw [if_neg b43] at h
      refine E_blk (lv' := [some (vr (some (4, this))), none, some (vi v2), none, none, none, none, none, none, none]) (st' := [vi (1 : Int32)]) (M1 := M41) (pc' := 407) (tb_Checker hγ) [.iconst 1] (by decide +kernel) rfl rfl trivial ?_
      refine E_goto (off := 4) (tgt := 411) (by decide +kernel) (by decide) ?_
      exact E_zret rfl (Or.inr rfl) (by decide +kernel) h
set_option maxRecDepth 4096 in
theorem lk_Checker_call_j366 {γ : Gm} (hγ : Gk γ) (this : Nat) (Q : Int32 → Mem → Prop) (v2 : Int32) (s0 : Int32) (s1 : Int32) (M : Mem) (h : w_Checker_call_j366 this Q v2 s0 s1 M) : E γ k_Checker_call 7 366 [some (vr (some (4, this))), none, some (vi v2), none, none, none, none, none, none, none] [vi s0, vi s1, vr (some (4, this))] M (Qi Q) := by
  unfold w_Checker_call_j366 at h
  refine E_callV (κ' := k_Checker_change) (As := [vi s1, vi s0]) (st := []) mv_Checker_change (Or.inl (tbk_mem (j := 8) (k := 32) rfl)) rfl (by decide +kernel) (Nat.le_of_ble_eq_true rfl) (Nat.le_of_ble_eq_true rfl) rfl (by decide) (lk_Checker_change hγ this s1 s0 _ M h) (fun _ _ => Qv_r) (fun v M47 hp => Qv_k (R := fun st => E γ k_Checker_call 7 369 [some (vr (some (4, this))), none, some (vi v2), none, none, none, none, none, none, none] st M47 (Qi Q)) hp (fun h => ?_))
  refine E_blk (lv' := [some (vr (some (4, this))), none, some (vi v2), none, none, none, none, none, none, none]) (st' := [vr (some (4, this))]) (M1 := M47) (pc' := 370) (tb_Checker hγ) [.aload_n 0] (by decide +kernel) rfl rfl trivial ?_
  refine E_callV (κ' := k_Checker_handlers) (As := []) (st := []) mv_Checker_handlers (Or.inl (tbk_mem (j := 7) (k := 176) rfl)) rfl (by decide +kernel) (Nat.le_of_ble_eq_true rfl) (Nat.le_of_ble_eq_true rfl) rfl (by decide) (lk_Checker_handlers hγ this _ M47 h) (fun _ _ => Qi_r) (fun v M48 hp => Qi_k (R := fun st => E γ k_Checker_call 7 373 [some (vr (some (4, this))), none, some (vi v2), none, none, none, none, none, none, none] st M48 (Qi Q)) hp (fun r49 h => ?_))
  refine E_if_ne (off := 5) (tgt := 378) (by decide +kernel) (by decide) (fun b50 => ?_) (fun b50 => ?_)
  · rw [if_pos b50] at h
    refine E_blk (lv' := [some (vr (some (4, this))), none, some (vi v2), none, none, none, none, none, none, none]) (st' := [vi (0 : Int32)]) (M1 := M48) (pc' := 377) (tb_Checker hγ) [.iconst 0] (by decide +kernel) rfl rfl trivial ?_
    exact E_zret rfl (Or.inl rfl) (by decide +kernel) h
  · rw [if_neg b50] at h
    refine E_mask [true, false, true, false, false, false, false, false, false, false] rfl ?_
    exact lk_Checker_call_j378 hγ this Q v2 M48 h
set_option maxRecDepth 4096 in
theorem lk_Checker_call_j322 {γ : Gm} (hγ : Gk γ) (this : Nat) (Q : Int32 → Mem → Prop) (v2 : Int32) (v4 : Int32) (v6 : Int32) (v7 : Int32) (M : Mem) (h : w_Checker_call_j322 this Q v2 v4 v6 v7 M) : E γ k_Checker_call 7 322 [some (vr (some (4, this))), none, some (vi v2), none, some (vi v4), none, some (vi v6), some (vi v7), none, none] [] M (Qi Q) := by
  unfold w_Checker_call_j322 at h
  refine E_blk (lv' := [some (vr (some (4, this))), none, some (vi v2), none, some (vi v4), none, some (vi v6), some (vi v7), none, none]) (st' := [vi v4]) (M1 := (sI M 4 this 2 ((mI M 4 this 2) - v6))) (pc' := 335) (tb_Checker hγ) [.aload_n 0, .dup, .getfield 102, .iload 6, .isub, .putfield 102, .iload 4] (by decide +kernel) rfl rfl trivial ?_
  refine E_if_eq (off := 43) (tgt := 378) (by decide +kernel) (by decide) (fun b33 => ?_) (fun b33 => ?_)
  · rw [if_pos b33] at h
    refine E_mask [true, false, true, false, false, false, false, false, false, false] rfl ?_
    exact lk_Checker_call_j378 hγ this Q v2 (sI M 4 this 2 ((mI M 4 this 2) - v6)) h
  · rw [if_neg b33] at h
    refine E_blk (lv' := [some (vr (some (4, this))), none, some (vi v2), none, some (vi v4), none, some (vi v6), some (vi v7), none, none]) (st' := [vi (-3 : Int32), vi v7, vi v7, vr (some (4, this))]) (M1 := (sI M 4 this 2 ((mI M 4 this 2) - v6))) (pc' := 345) (tb_Checker hγ) [.aload_n 0, .iload 7, .iload 7, .bipush (.negSucc 2)] (by decide +kernel) rfl rfl trivial ?_
    refine E_icmp_ne (off := 10) (tgt := 355) (by decide +kernel) (by decide) (fun b44 => ?_) (fun b44 => ?_)
    · rw [if_pos b44] at h
      refine E_blk (lv' := [some (vr (some (4, this))), none, some (vi v2), none, some (vi v4), none, some (vi v6), some (vi v7), none, none]) (st' := [vr (some (4, this)), vi v7, vr (some (4, this))]) (M1 := (sI M 4 this 2 ((mI M 4 this 2) - v6))) (pc' := 349) (tb_Checker hγ) [.aload_n 0] (by decide +kernel) rfl rfl trivial ?_
      refine E_callV (κ' := k_Checker_classKind) (As := []) (st := [vi v7, vr (some (4, this))]) mv_Checker_classKind (Or.inl (tbk_mem (j := 7) (k := 126) rfl)) rfl (by decide +kernel) (Nat.le_of_ble_eq_true rfl) (Nat.le_of_ble_eq_true rfl) rfl (by decide) (lk_Checker_classKind hγ this _ (sI M 4 this 2 ((mI M 4 this 2) - v6)) h) (fun _ _ => Qi_r) (fun v M45 hp => Qi_k (R := fun st => E γ k_Checker_call 7 352 [some (vr (some (4, this))), none, some (vi v2), none, some (vi v4), none, some (vi v6), some (vi v7), none, none] st M45 (Qi Q)) hp (fun r46 h => ?_))
      refine E_goto (off := 14) (tgt := 366) (by decide +kernel) (by decide) ?_
      refine E_mask [true, false, true, false, false, false, false, false, false, false] rfl ?_
      exact lk_Checker_call_j366 hγ this Q v2 r46 v7 M45 h
    · rw [if_neg b44] at h
      refine E_blk (lv' := [some (vr (some (4, this))), none, some (vi v2), none, some (vi v4), none, some (vi v6), some (vi v7), none, none]) (st' := [vr (mR (sI M 4 this 2 ((mI M 4 this 2) - v6)) 4 this 4), vi v7, vr (some (4, this))]) (M1 := (sI M 4 this 2 ((mI M 4 this 2) - v6))) (pc' := 359) (tb_Checker hγ) [.aload_n 0, .getfield 35] (by decide +kernel) rfl rfl trivial ?_
      obtain ⟨i51, ei51, h⟩ := h
      rw [ei51]
      refine E_blk (lv' := [some (vr (some (4, this))), none, some (vi v2), none, some (vi v4), none, some (vi v6), some (vi v7), none, none]) (st' := [vi v2, vr (some (5, i51)), vi v7, vr (some (4, this))]) (M1 := (sI M 4 this 2 ((mI M 4 this 2) - v6))) (pc' := 360) (tb_Checker hγ) [.iload_n 2] (by decide +kernel) rfl rfl trivial ?_
      refine E_callV (κ' := k_World_refClass) (As := [vi v2]) (st := [vi v7, vr (some (4, this))]) mv_World_refClass (Or.inl (tbk_mem (j := 8) (k := 8) rfl)) rfl (by decide +kernel) (Nat.le_of_ble_eq_true rfl) (Nat.le_of_ble_eq_true rfl) rfl (by decide) (lk_World_refClass hγ i51 v2 _ (sI M 4 this 2 ((mI M 4 this 2) - v6)) h) (fun _ _ => Qi_r) (fun v M52 hp => Qi_k (R := fun st => E γ k_Checker_call 7 363 [some (vr (some (4, this))), none, some (vi v2), none, some (vi v4), none, some (vi v6), some (vi v7), none, none] st M52 (Qi Q)) hp (fun r53 h => ?_))
      refine E_callS (κ' := k_Works_kindOf) (As := [vi r53]) (st := [vi v7, vr (some (4, this))]) ms_Works_kindOf (Or.inr ⟨"ClassWorks", (tbk_mem (j := 7) (k := 130) rfl)⟩) rfl (by decide +kernel) (Nat.le_of_ble_eq_true rfl) (Nat.le_of_ble_eq_true rfl) rfl (by decide) (lk_Works_kindOf hγ r53 _ M52 h) (fun _ _ => Qi_r) (fun v M54 hp => Qi_k (R := fun st => E γ k_Checker_call 7 366 [some (vr (some (4, this))), none, some (vi v2), none, some (vi v4), none, some (vi v6), some (vi v7), none, none] st M54 (Qi Q)) hp (fun r55 h => ?_))
      refine E_mask [true, false, true, false, false, false, false, false, false, false] rfl ?_
      exact lk_Checker_call_j366 hγ this Q v2 r55 v7 M54 h
set_option maxRecDepth 4096 in
theorem lk_Checker_call_j269 {γ : Gm} (hγ : Gk γ) (this : Nat) (Q : Int32 → Mem → Prop) (v1 : Int32) (v2 : Int32) (v4 : Int32) (v6 : Int32) (v7 : Int32) (M : Mem) (h : w_Checker_call_j269 this Q v1 v2 v4 v6 v7 M) : E γ k_Checker_call 7 269 [some (vr (some (4, this))), some (vi v1), some (vi v2), none, some (vi v4), none, some (vi v6), some (vi v7), none, none] [] M (Qi Q) := by
  unfold w_Checker_call_j269 at h
  refine E_blk (lv' := [some (vr (some (4, this))), some (vi v1), some (vi v2), none, some (vi v4), none, some (vi v6), some (vi v7), none, none]) (st' := [vi (51 : Int32), vi v1]) (M1 := M) (pc' := 272) (tb_Checker hγ) [.iload_n 1, .bipush 51] (by decide +kernel) rfl rfl trivial ?_
  refine E_icmp_ne (off := 50) (tgt := 322) (by decide +kernel) (by decide) (fun b23 => ?_) (fun b23 => ?_)
  · rw [if_pos b23] at h
    refine E_blk (lv' := [some (vr (some (4, this))), some (vi v1), some (vi v2), none, some (vi v4), none, some (vi v6), some (vi v7), none, none]) (st' := [vi v4]) (M1 := M) (pc' := 277) (tb_Checker hγ) [.iload 4] (by decide +kernel) rfl rfl trivial ?_
    refine E_if_eq (off := 23) (tgt := 300) (by decide +kernel) (by decide) (fun b24 => ?_) (fun b24 => ?_)
    · rw [if_pos b24] at h
      refine E_blk (lv' := [some (vr (some (4, this))), some (vi v1), some (vi v2), none, some (vi v4), none, some (vi v6), some (vi v7), none, none]) (st' := [vr (mR M 4 this 4), vr (some (4, this))]) (M1 := M) (pc' := 305) (tb_Checker hγ) [.aload_n 0, .aload_n 0, .getfield 35] (by decide +kernel) rfl rfl trivial ?_
      obtain ⟨i25, ei25, h⟩ := h
      rw [ei25]
      refine E_blk (lv' := [some (vr (some (4, this))), some (vi v1), some (vi v2), none, some (vi v4), none, some (vi v6), some (vi v7), none, none]) (st' := [vi v2, vr (some (5, i25)), vr (some (4, this))]) (M1 := M) (pc' := 306) (tb_Checker hγ) [.iload_n 2] (by decide +kernel) rfl rfl trivial ?_
      refine E_callV (κ' := k_World_refClass) (As := [vi v2]) (st := [vr (some (4, this))]) mv_World_refClass (Or.inl (tbk_mem (j := 8) (k := 8) rfl)) rfl (by decide +kernel) (Nat.le_of_ble_eq_true rfl) (Nat.le_of_ble_eq_true rfl) rfl (by decide) (lk_World_refClass hγ i25 v2 _ M h) (fun _ _ => Qi_r) (fun v M26 hp => Qi_k (R := fun st => E γ k_Checker_call 7 309 [some (vr (some (4, this))), some (vi v1), some (vi v2), none, some (vi v4), none, some (vi v6), some (vi v7), none, none] st M26 (Qi Q)) hp (fun r27 h => ?_))
      refine E_callV (κ' := k_Checker_isNear) (As := [vi r27]) (st := []) mv_Checker_isNear (Or.inl (tbk_mem (j := 8) (k := 28) rfl)) rfl (by decide +kernel) (Nat.le_of_ble_eq_true rfl) (Nat.le_of_ble_eq_true rfl) rfl (by decide) (lk_Checker_isNear hγ this r27 _ M26 h) (fun _ _ => Qi_r) (fun v M28 hp => Qi_k (R := fun st => E γ k_Checker_call 7 312 [some (vr (some (4, this))), some (vi v1), some (vi v2), none, some (vi v4), none, some (vi v6), some (vi v7), none, none] st M28 (Qi Q)) hp (fun r29 h => ?_))
      refine E_if_ne (off := 10) (tgt := 322) (by decide +kernel) (by decide) (fun b30 => ?_) (fun b30 => ?_)
      · rw [if_pos b30] at h
        refine E_mask [true, false, false, false, false, false, false, false, false, false] rfl ?_
        exact lk_Checker_call_j315 hγ this Q  M28 h
      · rw [if_neg b30] at h
        refine E_mask [true, false, true, false, true, false, true, true, false, false] rfl ?_
        exact lk_Checker_call_j322 hγ this Q v2 v4 v6 v7 M28 h
    · rw [if_neg b24] at h
      refine E_blk (lv' := [some (vr (some (4, this))), some (vi v1), some (vi v2), none, some (vi v4), none, some (vi v6), some (vi v7), none, none]) (st' := [vr (mR M 4 this 4), vi v7, vr (some (4, this))]) (M1 := M) (pc' := 287) (tb_Checker hγ) [.aload_n 0, .iload 7, .aload_n 0, .getfield 35] (by decide +kernel) rfl rfl trivial ?_
      obtain ⟨i56, ei56, h⟩ := h
      rw [ei56]
      refine E_blk (lv' := [some (vr (some (4, this))), some (vi v1), some (vi v2), none, some (vi v4), none, some (vi v6), some (vi v7), none, none]) (st' := [vi v2, vr (some (5, i56)), vi v7, vr (some (4, this))]) (M1 := M) (pc' := 288) (tb_Checker hγ) [.iload_n 2] (by decide +kernel) rfl rfl trivial ?_
      refine E_callV (κ' := k_World_refClass) (As := [vi v2]) (st := [vi v7, vr (some (4, this))]) mv_World_refClass (Or.inl (tbk_mem (j := 8) (k := 8) rfl)) rfl (by decide +kernel) (Nat.le_of_ble_eq_true rfl) (Nat.le_of_ble_eq_true rfl) rfl (by decide) (lk_World_refClass hγ i56 v2 _ M h) (fun _ _ => Qi_r) (fun v M57 hp => Qi_k (R := fun st => E γ k_Checker_call 7 291 [some (vr (some (4, this))), some (vi v1), some (vi v2), none, some (vi v4), none, some (vi v6), some (vi v7), none, none] st M57 (Qi Q)) hp (fun r58 h => ?_))
      refine E_callV (κ' := k_Checker_makesRight) (As := [vi v7, vi r58]) (st := []) mv_Checker_makesRight (Or.inl (tbk_mem (j := 8) (k := 24) rfl)) rfl (by decide +kernel) (Nat.le_of_ble_eq_true rfl) (Nat.le_of_ble_eq_true rfl) rfl (by decide) (lk_Checker_makesRight hγ this v7 r58 _ M57 h) (fun _ _ => Qi_r) (fun v M59 hp => Qi_k (R := fun st => E γ k_Checker_call 7 294 [some (vr (some (4, this))), some (vi v1), some (vi v2), none, some (vi v4), none, some (vi v6), some (vi v7), none, none] st M59 (Qi Q)) hp (fun r60 h => ?_))
      refine E_if_eq (off := 21) (tgt := 315) (by decide +kernel) (by decide) (fun b61 => ?_) (fun b61 => ?_)
      · rw [if_pos b61] at h
        refine E_mask [true, false, false, false, false, false, false, false, false, false] rfl ?_
        exact lk_Checker_call_j315 hγ this Q  M59 h
      · rw [if_neg b61] at h
        refine E_goto (off := 25) (tgt := 322) (by decide +kernel) (by decide) ?_
        refine E_mask [true, false, true, false, true, false, true, true, false, false] rfl ?_
        exact lk_Checker_call_j322 hγ this Q v2 v4 v6 v7 M59 h
  · rw [if_neg b23] at h
    refine E_mask [true, false, true, false, true, false, true, true, false, false] rfl ?_
    exact lk_Checker_call_j322 hγ this Q v2 v4 v6 v7 M h
set_option maxRecDepth 4096 in
theorem lk_Checker_call_j251 {γ : Gm} (hγ : Gk γ) (this : Nat) (Q : Int32 → Mem → Prop) (v1 : Int32) (v2 : Int32) (v4 : Int32) (v6 : Int32) (v7 : Int32) (M : Mem) (h : w_Checker_call_j251 this Q v1 v2 v4 v6 v7 M) : E γ k_Checker_call 7 251 [some (vr (some (4, this))), some (vi v1), some (vi v2), none, some (vi v4), none, some (vi v6), some (vi v7), none, none] [] M (Qi Q) := by
  unfold w_Checker_call_j251 at h
  refine E_blk (lv' := [some (vr (some (4, this))), some (vi v1), some (vi v2), none, some (vi v4), none, some (vi v6), some (vi v7), none, none]) (st' := [vi v4]) (M1 := M) (pc' := 253) (tb_Checker hγ) [.iload 4] (by decide +kernel) rfl rfl trivial ?_
  refine E_if_eq (off := 16) (tgt := 269) (by decide +kernel) (by decide) (fun b22 => ?_) (fun b22 => ?_)
  · rw [if_pos b22] at h
    refine E_mask [true, true, true, false, true, false, true, true, false, false] rfl ?_
    exact lk_Checker_call_j269 hγ this Q v1 v2 v4 v6 v7 M h
  · rw [if_neg b22] at h
    refine E_blk (lv' := [some (vr (some (4, this))), some (vi v1), some (vi v2), none, some (vi v4), none, some (vi v6), some (vi v7), none, none]) (st' := [vi (51 : Int32), vi v1]) (M1 := M) (pc' := 259) (tb_Checker hγ) [.iload_n 1, .bipush 51] (by decide +kernel) rfl rfl trivial ?_
    refine E_icmp_eq (off := 10) (tgt := 269) (by decide +kernel) (by decide) (fun b62 => ?_) (fun b62 => ?_)
    · rw [if_pos b62] at h
      refine E_mask [true, true, true, false, true, false, true, true, false, false] rfl ?_
      exact lk_Checker_call_j269 hγ this Q v1 v2 v4 v6 v7 M h
    · rw [if_neg b62] at h
      refine E_blk (lv' := [some (vr (some (4, this))), some (vi v1), some (vi v2), none, some (vi v4), none, some (vi v6), some (vi v7), none, none]) (st' := [vi (42 : Int32), vr (some (4, this))]) (M1 := M) (pc' := 265) (tb_Checker hγ) [.aload_n 0, .bipush 42] (by decide +kernel) rfl rfl trivial ?_
      refine E_callV (κ' := k_Checker_breaks) (As := [vi (42 : Int32)]) (st := []) mv_Checker_breaks (Or.inl (tbk_mem (j := 7) (k := 147) rfl)) rfl (by decide +kernel) (Nat.le_of_ble_eq_true rfl) (Nat.le_of_ble_eq_true rfl) rfl (by decide) (lk_Checker_breaks hγ this (42 : Int32) _ M h) (fun _ _ => Qi_r) (fun v M63 hp => Qi_k (R := fun st => E γ k_Checker_call 7 268 [some (vr (some (4, this))), some (vi v1), some (vi v2), none, some (vi v4), none, some (vi v6), some (vi v7), none, none] st M63 (Qi Q)) hp (fun r64 h => ?_))
      exact E_zret rfl h.1 (by decide +kernel) h.2
set_option maxRecDepth 4096 in
theorem lk_Checker_call_L192 {γ : Gm} (hγ : Gk γ) (this : Nat) (Q : Int32 → Mem → Prop) : ∀ (n : Nat) (v1 : Int32) (v2 : Int32) (v3 : Int32) (v4 : Int32) (v5 : Int32) (v6 : Int32) (v7 : Int32) (v8 : Int32) (v9 : Int32) (M : Mem), w_Checker_call_L192 this Q n v1 v2 v3 v4 v5 v6 v7 v8 v9 M → E γ k_Checker_call 7 192 [some (vr (some (4, this))), some (vi v1), some (vi v2), some (vi v3), some (vi v4), some (vi v5), some (vi v6), some (vi v7), some (vi v8), some (vi v9)] [] M (Qi Q) := by
  intro n
  induction n with
  | zero => intro v1 v2 v3 v4 v5 v6 v7 v8 v9 M h; exact h.elim
  | succ n ih =>
    intro v1 v2 v3 v4 v5 v6 v7 v8 v9 M h
    unfold w_Checker_call_L192 at h
    refine E_blk (lv' := [some (vr (some (4, this))), some (vi v1), some (vi v2), some (vi v3), some (vi v4), some (vi v5), some (vi v6), some (vi v7), some (vi v8), some (vi v9)]) (st' := [vi v3, vi v9]) (M1 := M) (pc' := 195) (tb_Checker hγ) [.iload 9, .iload_n 3] (by decide +kernel) rfl rfl trivial ?_
    refine E_icmp_ge (off := 39) (tgt := 234) (by decide +kernel) (by decide) (fun b20 => ?_) (fun b20 => ?_)
    · rw [if_pos b20] at h
      refine E_blk (lv' := [some (vr (some (4, this))), some (vi v1), some (vi v2), some (vi v3), some (vi v4), some (vi v5), some (vi v6), some (vi v7), some (vi v8), some (vi v9)]) (st' := [vi v5]) (M1 := M) (pc' := 236) (tb_Checker hγ) [.iload 5] (by decide +kernel) rfl rfl trivial ?_
      refine E_if_eq (off := 15) (tgt := 251) (by decide +kernel) (by decide) (fun b21 => ?_) (fun b21 => ?_)
      · rw [if_pos b21] at h
        refine E_mask [true, true, true, false, true, false, true, true, false, false] rfl ?_
        exact lk_Checker_call_j251 hγ this Q v1 v2 v4 v6 v7 M h
      · rw [if_neg b21] at h
        refine E_blk (lv' := [some (vr (some (4, this))), some (vi v1), some (vi v2), some (vi v3), some (vi v4), some (vi v5), some (vi v6), some (vi v7), some (vi v8), some (vi v9)]) (st' := [vi v8, vi v3, vr (some (4, this))]) (M1 := M) (pc' := 243) (tb_Checker hγ) [.aload_n 0, .iload_n 3, .iload 8] (by decide +kernel) rfl rfl trivial ?_
        refine E_callV (κ' := k_Checker_isMade) (As := [vi v3, vi v8]) (st := []) mv_Checker_isMade (Or.inl (tbk_mem (j := 7) (k := 224) rfl)) rfl (by decide +kernel) (Nat.le_of_ble_eq_true rfl) (Nat.le_of_ble_eq_true rfl) rfl (by decide) (lk_Checker_isMade hγ this v3 v8 _ M h) (fun _ _ => Qi_r) (fun v M65 hp => Qi_k (R := fun st => E γ k_Checker_call 7 246 [some (vr (some (4, this))), some (vi v1), some (vi v2), some (vi v3), some (vi v4), some (vi v5), some (vi v6), some (vi v7), some (vi v8), some (vi v9)] st M65 (Qi Q)) hp (fun r66 h => ?_))
        refine E_if_ne (off := 5) (tgt := 251) (by decide +kernel) (by decide) (fun b67 => ?_) (fun b67 => ?_)
        · rw [if_pos b67] at h
          refine E_blk (lv' := [some (vr (some (4, this))), some (vi v1), some (vi v2), some (vi v3), some (vi v4), some (vi v5), some (vi v6), some (vi v7), some (vi v8), some (vi v9)]) (st' := [vi (0 : Int32)]) (M1 := M65) (pc' := 250) (tb_Checker hγ) [.iconst 0] (by decide +kernel) rfl rfl trivial ?_
          exact E_zret rfl (Or.inl rfl) (by decide +kernel) h
        · rw [if_neg b67] at h
          refine E_mask [true, true, true, false, true, false, true, true, false, false] rfl ?_
          exact lk_Checker_call_j251 hγ this Q v1 v2 v4 v6 v7 M65 h
    · rw [if_neg b20] at h
      refine E_blk (lv' := [some (vr (some (4, this))), some (vi v1), some (vi v2), some (vi v3), some (vi v4), some (vi v5), some (vi v6), some (vi v7), some (vi v8), some (vi v9)]) (st' := [vr (mR M 4 this 4), vi v9, vr (some (4, this))]) (M1 := M) (pc' := 205) (tb_Checker hγ) [.aload_n 0, .iload 9, .aload_n 0, .getfield 35] (by decide +kernel) rfl rfl trivial ?_
      obtain ⟨i68, ei68, h⟩ := h
      rw [ei68]
      obtain ⟨c69, h⟩ := h
      refine E_blk (lv' := [some (vr (some (4, this))), some (vi v1), some (vi v2), some (vi v3), some (vi v4), some (vi v5), some (vi v6), some (vi v7), some (vi v8), some (vi v9)]) (st' := [vi (mI M 211 (2 * i68 + 2) (((((6 : Int32) * v2) + v3) - (1 : Int32)) - v9).toNatClampNeg), vi v9, vr (some (4, this))]) (M1 := M) (pc' := 220) (tb_Checker hγ) [.getfield 335, .bipush 6, .iload_n 2, .imul, .iload_n 3, .iadd, .iconst 1, .isub, .iload 9, .isub, .iaload] (by decide +kernel) rfl rfl ⟨c69, trivial⟩ ?_
      refine E_callV (κ' := k_Checker_isMade) (As := [vi v9, vi (mI M 211 (2 * i68 + 2) (((((6 : Int32) * v2) + v3) - (1 : Int32)) - v9).toNatClampNeg)]) (st := []) mv_Checker_isMade (Or.inl (tbk_mem (j := 7) (k := 224) rfl)) rfl (by decide +kernel) (Nat.le_of_ble_eq_true rfl) (Nat.le_of_ble_eq_true rfl) rfl (by decide) (lk_Checker_isMade hγ this v9 (mI M 211 (2 * i68 + 2) (((((6 : Int32) * v2) + v3) - (1 : Int32)) - v9).toNatClampNeg) _ M h) (fun _ _ => Qi_r) (fun v M70 hp => Qi_k (R := fun st => E γ k_Checker_call 7 223 [some (vr (some (4, this))), some (vi v1), some (vi v2), some (vi v3), some (vi v4), some (vi v5), some (vi v6), some (vi v7), some (vi v8), some (vi v9)] st M70 (Qi Q)) hp (fun r71 h => ?_))
      refine E_if_ne (off := 5) (tgt := 228) (by decide +kernel) (by decide) (fun b72 => ?_) (fun b72 => ?_)
      · rw [if_pos b72] at h
        refine E_blk (lv' := [some (vr (some (4, this))), some (vi v1), some (vi v2), some (vi v3), some (vi v4), some (vi v5), some (vi v6), some (vi v7), some (vi v8), some (vi v9)]) (st' := [vi (0 : Int32)]) (M1 := M70) (pc' := 227) (tb_Checker hγ) [.iconst 0] (by decide +kernel) rfl rfl trivial ?_
        exact E_zret rfl (Or.inl rfl) (by decide +kernel) h
      · rw [if_neg b72] at h
        refine E_blk (lv' := [some (vr (some (4, this))), some (vi v1), some (vi v2), some (vi v3), some (vi v4), some (vi v5), some (vi v6), some (vi v7), some (vi v8), some (vi (v9 + (1 : Int32)))]) (st' := []) (M1 := M70) (pc' := 231) (tb_Checker hγ) [.iinc 9 1] (by decide +kernel) rfl rfl trivial ?_
        refine E_goto (off := -39) (tgt := 192) (by decide +kernel) (by decide) ?_
        refine E_mask [true, true, true, true, true, true, true, true, true, true] rfl ?_
        exact ih v1 v2 v3 v4 v5 v6 v7 v8 (v9 + (1 : Int32)) M70 h
set_option maxRecDepth 4096 in
theorem lk_Checker_call_j189 {γ : Gm} (hγ : Gk γ) (this : Nat) (Q : Int32 → Mem → Prop) (v1 : Int32) (v2 : Int32) (v3 : Int32) (v4 : Int32) (v5 : Int32) (v6 : Int32) (v7 : Int32) (v8 : Int32) (M : Mem) (h : w_Checker_call_j189 this Q v1 v2 v3 v4 v5 v6 v7 v8 M) : E γ k_Checker_call 7 189 [some (vr (some (4, this))), some (vi v1), some (vi v2), some (vi v3), some (vi v4), some (vi v5), some (vi v6), some (vi v7), some (vi v8), none] [] M (Qi Q) := by
  unfold w_Checker_call_j189 at h
  refine E_blk (lv' := [some (vr (some (4, this))), some (vi v1), some (vi v2), some (vi v3), some (vi v4), some (vi v5), some (vi v6), some (vi v7), some (vi v8), some (vi (0 : Int32))]) (st' := []) (M1 := M) (pc' := 192) (tb_Checker hγ) [.iconst 0, .istore 9] (by decide +kernel) rfl rfl trivial ?_
  obtain ⟨n73, h⟩ := h
  refine E_mask [true, true, true, true, true, true, true, true, true, true] rfl ?_
  exact lk_Checker_call_L192 hγ this Q n73 v1 v2 v3 v4 v5 v6 v7 v8 (0 : Int32) M h
set_option maxRecDepth 4096 in
theorem lk_Checker_call_L130 {γ : Gm} (hγ : Gk γ) (this : Nat) (Q : Int32 → Mem → Prop) : ∀ (n : Nat) (v1 : Int32) (v2 : Int32) (v3 : Int32) (v4 : Int32) (v5 : Int32) (v6 : Int32) (v7 : Int32) (v8 : Int32) (v9 : Int32) (M : Mem), w_Checker_call_L130 this Q n v1 v2 v3 v4 v5 v6 v7 v8 v9 M → E γ k_Checker_call 7 130 [some (vr (some (4, this))), some (vi v1), some (vi v2), some (vi v3), some (vi v4), some (vi v5), some (vi v6), some (vi v7), some (vi v8), some (vi v9)] [] M (Qi Q) := by
  intro n
  induction n with
  | zero => intro v1 v2 v3 v4 v5 v6 v7 v8 v9 M h; exact h.elim
  | succ n ih =>
    intro v1 v2 v3 v4 v5 v6 v7 v8 v9 M h
    unfold w_Checker_call_L130 at h
    refine E_blk (lv' := [some (vr (some (4, this))), some (vi v1), some (vi v2), some (vi v3), some (vi v4), some (vi v5), some (vi v6), some (vi v7), some (vi v8), some (vi v9)]) (st' := [vi v3, vi v9]) (M1 := M) (pc' := 133) (tb_Checker hγ) [.iload 9, .iload_n 3] (by decide +kernel) rfl rfl trivial ?_
    refine E_icmp_ge (off := 39) (tgt := 172) (by decide +kernel) (by decide) (fun b18 => ?_) (fun b18 => ?_)
    · rw [if_pos b18] at h
      refine E_blk (lv' := [some (vr (some (4, this))), some (vi v1), some (vi v2), some (vi v3), some (vi v4), some (vi v5), some (vi v6), some (vi v7), some (vi v8), some (vi v9)]) (st' := [vi v5]) (M1 := M) (pc' := 174) (tb_Checker hγ) [.iload 5] (by decide +kernel) rfl rfl trivial ?_
      refine E_if_eq (off := 15) (tgt := 189) (by decide +kernel) (by decide) (fun b19 => ?_) (fun b19 => ?_)
      · rw [if_pos b19] at h
        refine E_mask [true, true, true, true, true, true, true, true, true, false] rfl ?_
        exact lk_Checker_call_j189 hγ this Q v1 v2 v3 v4 v5 v6 v7 v8 M h
      · rw [if_neg b19] at h
        refine E_blk (lv' := [some (vr (some (4, this))), some (vi v1), some (vi v2), some (vi v3), some (vi v4), some (vi v5), some (vi v6), some (vi v7), some (vi v8), some (vi v9)]) (st' := [vi v8, vi v3, vr (some (4, this))]) (M1 := M) (pc' := 181) (tb_Checker hγ) [.aload_n 0, .iload_n 3, .iload 8] (by decide +kernel) rfl rfl trivial ?_
        refine E_callV (κ' := k_Checker_is) (As := [vi v3, vi v8]) (st := []) mv_Checker_is (Or.inl (tbk_mem (j := 7) (k := 216) rfl)) rfl (by decide +kernel) (Nat.le_of_ble_eq_true rfl) (Nat.le_of_ble_eq_true rfl) rfl (by decide) (lk_Checker_is hγ this v3 v8 _ M h) (fun _ _ => Qi_r) (fun v M74 hp => Qi_k (R := fun st => E γ k_Checker_call 7 184 [some (vr (some (4, this))), some (vi v1), some (vi v2), some (vi v3), some (vi v4), some (vi v5), some (vi v6), some (vi v7), some (vi v8), some (vi v9)] st M74 (Qi Q)) hp (fun r75 h => ?_))
        refine E_if_ne (off := 5) (tgt := 189) (by decide +kernel) (by decide) (fun b76 => ?_) (fun b76 => ?_)
        · rw [if_pos b76] at h
          refine E_blk (lv' := [some (vr (some (4, this))), some (vi v1), some (vi v2), some (vi v3), some (vi v4), some (vi v5), some (vi v6), some (vi v7), some (vi v8), some (vi v9)]) (st' := [vi (0 : Int32)]) (M1 := M74) (pc' := 188) (tb_Checker hγ) [.iconst 0] (by decide +kernel) rfl rfl trivial ?_
          exact E_zret rfl (Or.inl rfl) (by decide +kernel) h
        · rw [if_neg b76] at h
          refine E_mask [true, true, true, true, true, true, true, true, true, false] rfl ?_
          exact lk_Checker_call_j189 hγ this Q v1 v2 v3 v4 v5 v6 v7 v8 M74 h
    · rw [if_neg b18] at h
      refine E_blk (lv' := [some (vr (some (4, this))), some (vi v1), some (vi v2), some (vi v3), some (vi v4), some (vi v5), some (vi v6), some (vi v7), some (vi v8), some (vi v9)]) (st' := [vr (mR M 4 this 4), vi v9, vr (some (4, this))]) (M1 := M) (pc' := 143) (tb_Checker hγ) [.aload_n 0, .iload 9, .aload_n 0, .getfield 35] (by decide +kernel) rfl rfl trivial ?_
      obtain ⟨i77, ei77, h⟩ := h
      rw [ei77]
      obtain ⟨c78, h⟩ := h
      refine E_blk (lv' := [some (vr (some (4, this))), some (vi v1), some (vi v2), some (vi v3), some (vi v4), some (vi v5), some (vi v6), some (vi v7), some (vi v8), some (vi v9)]) (st' := [vi (mI M 211 (2 * i77 + 2) (((((6 : Int32) * v2) + v3) - (1 : Int32)) - v9).toNatClampNeg), vi v9, vr (some (4, this))]) (M1 := M) (pc' := 158) (tb_Checker hγ) [.getfield 335, .bipush 6, .iload_n 2, .imul, .iload_n 3, .iadd, .iconst 1, .isub, .iload 9, .isub, .iaload] (by decide +kernel) rfl rfl ⟨c78, trivial⟩ ?_
      refine E_callV (κ' := k_Checker_is) (As := [vi v9, vi (mI M 211 (2 * i77 + 2) (((((6 : Int32) * v2) + v3) - (1 : Int32)) - v9).toNatClampNeg)]) (st := []) mv_Checker_is (Or.inl (tbk_mem (j := 7) (k := 216) rfl)) rfl (by decide +kernel) (Nat.le_of_ble_eq_true rfl) (Nat.le_of_ble_eq_true rfl) rfl (by decide) (lk_Checker_is hγ this v9 (mI M 211 (2 * i77 + 2) (((((6 : Int32) * v2) + v3) - (1 : Int32)) - v9).toNatClampNeg) _ M h) (fun _ _ => Qi_r) (fun v M79 hp => Qi_k (R := fun st => E γ k_Checker_call 7 161 [some (vr (some (4, this))), some (vi v1), some (vi v2), some (vi v3), some (vi v4), some (vi v5), some (vi v6), some (vi v7), some (vi v8), some (vi v9)] st M79 (Qi Q)) hp (fun r80 h => ?_))
      refine E_if_ne (off := 5) (tgt := 166) (by decide +kernel) (by decide) (fun b81 => ?_) (fun b81 => ?_)
      · rw [if_pos b81] at h
        refine E_blk (lv' := [some (vr (some (4, this))), some (vi v1), some (vi v2), some (vi v3), some (vi v4), some (vi v5), some (vi v6), some (vi v7), some (vi v8), some (vi v9)]) (st' := [vi (0 : Int32)]) (M1 := M79) (pc' := 165) (tb_Checker hγ) [.iconst 0] (by decide +kernel) rfl rfl trivial ?_
        exact E_zret rfl (Or.inl rfl) (by decide +kernel) h
      · rw [if_neg b81] at h
        refine E_blk (lv' := [some (vr (some (4, this))), some (vi v1), some (vi v2), some (vi v3), some (vi v4), some (vi v5), some (vi v6), some (vi v7), some (vi v8), some (vi (v9 + (1 : Int32)))]) (st' := []) (M1 := M79) (pc' := 169) (tb_Checker hγ) [.iinc 9 1] (by decide +kernel) rfl rfl trivial ?_
        refine E_goto (off := -39) (tgt := 130) (by decide +kernel) (by decide) ?_
        refine E_mask [true, true, true, true, true, true, true, true, true, true] rfl ?_
        exact ih v1 v2 v3 v4 v5 v6 v7 v8 (v9 + (1 : Int32)) M79 h
set_option maxRecDepth 4096 in
theorem lk_Checker_call_j125 {γ : Gm} (hγ : Gk γ) (this : Nat) (Q : Int32 → Mem → Prop) (v1 : Int32) (v2 : Int32) (v3 : Int32) (v4 : Int32) (v5 : Int32) (v6 : Int32) (v7 : Int32) (s0 : Int32) (M : Mem) (h : w_Checker_call_j125 this Q v1 v2 v3 v4 v5 v6 v7 s0 M) : E γ k_Checker_call 7 125 [some (vr (some (4, this))), some (vi v1), some (vi v2), some (vi v3), some (vi v4), some (vi v5), some (vi v6), some (vi v7), none, none] [vi s0] M (Qi Q) := by
  unfold w_Checker_call_j125 at h
  refine E_blk (lv' := [some (vr (some (4, this))), some (vi v1), some (vi v2), some (vi v3), some (vi v4), some (vi v5), some (vi v6), some (vi v7), some (vi s0), some (vi (0 : Int32))]) (st' := []) (M1 := M) (pc' := 130) (tb_Checker hγ) [.istore 8, .iconst 0, .istore 9] (by decide +kernel) rfl rfl trivial ?_
  obtain ⟨n82, h⟩ := h
  refine E_mask [true, true, true, true, true, true, true, true, true, true] rfl ?_
  exact lk_Checker_call_L130 hγ this Q n82 v1 v2 v3 v4 v5 v6 v7 s0 (0 : Int32) M h
set_option maxRecDepth 4096 in
theorem lk_Checker_call_j89 {γ : Gm} (hγ : Gk γ) (this : Nat) (Q : Int32 → Mem → Prop) (v1 : Int32) (v2 : Int32) (v3 : Int32) (v4 : Int32) (v5 : Int32) (v6 : Int32) (s0 : Int32) (M : Mem) (h : w_Checker_call_j89 this Q v1 v2 v3 v4 v5 v6 s0 M) : E γ k_Checker_call 7 89 [some (vr (some (4, this))), some (vi v1), some (vi v2), some (vi v3), some (vi v4), some (vi v5), some (vi v6), none, none, none] [vi s0] M (Qi Q) := by
  unfold w_Checker_call_j89 at h
  refine E_blk (lv' := [some (vr (some (4, this))), some (vi v1), some (vi v2), some (vi v3), some (vi v4), some (vi v5), some (vi v6), some (vi s0), none, none]) (st' := [vi (51 : Int32), vi v1]) (M1 := M) (pc' := 94) (tb_Checker hγ) [.istore 7, .iload_n 1, .bipush 51] (by decide +kernel) rfl rfl trivial ?_
  refine E_icmp_ne (off := 20) (tgt := 114) (by decide +kernel) (by decide) (fun b14 => ?_) (fun b14 => ?_)
  · rw [if_pos b14] at h
    refine E_blk (lv' := [some (vr (some (4, this))), some (vi v1), some (vi v2), some (vi v3), some (vi v4), some (vi v5), some (vi v6), some (vi s0), none, none]) (st' := [vi v4]) (M1 := M) (pc' := 99) (tb_Checker hγ) [.iload 4] (by decide +kernel) rfl rfl trivial ?_
    refine E_if_eq (off := 8) (tgt := 107) (by decide +kernel) (by decide) (fun b15 => ?_) (fun b15 => ?_)
    · rw [if_pos b15] at h
      refine E_blk (lv' := [some (vr (some (4, this))), some (vi v1), some (vi v2), some (vi v3), some (vi v4), some (vi v5), some (vi v6), some (vi s0), none, none]) (st' := [vr (some (4, this))]) (M1 := M) (pc' := 108) (tb_Checker hγ) [.aload_n 0] (by decide +kernel) rfl rfl trivial ?_
      refine E_callV (κ' := k_Checker_classKind) (As := []) (st := []) mv_Checker_classKind (Or.inl (tbk_mem (j := 7) (k := 126) rfl)) rfl (by decide +kernel) (Nat.le_of_ble_eq_true rfl) (Nat.le_of_ble_eq_true rfl) rfl (by decide) (lk_Checker_classKind hγ this _ M h) (fun _ _ => Qi_r) (fun v M16 hp => Qi_k (R := fun st => E γ k_Checker_call 7 111 [some (vr (some (4, this))), some (vi v1), some (vi v2), some (vi v3), some (vi v4), some (vi v5), some (vi v6), some (vi s0), none, none] st M16 (Qi Q)) hp (fun r17 h => ?_))
      refine E_goto (off := 14) (tgt := 125) (by decide +kernel) (by decide) ?_
      refine E_mask [true, true, true, true, true, true, true, true, false, false] rfl ?_
      exact lk_Checker_call_j125 hγ this Q v1 v2 v3 v4 v5 v6 s0 r17 M16 h
    · rw [if_neg b15] at h
      refine E_blk (lv' := [some (vr (some (4, this))), some (vi v1), some (vi v2), some (vi v3), some (vi v4), some (vi v5), some (vi v6), some (vi s0), none, none]) (st' := [vi (-6 : Int32)]) (M1 := M) (pc' := 104) (tb_Checker hγ) [.bipush (.negSucc 5)] (by decide +kernel) rfl rfl trivial ?_
      refine E_goto (off := 21) (tgt := 125) (by decide +kernel) (by decide) ?_
      refine E_mask [true, true, true, true, true, true, true, true, false, false] rfl ?_
      exact lk_Checker_call_j125 hγ this Q v1 v2 v3 v4 v5 v6 s0 (-6 : Int32) M h
  · rw [if_neg b14] at h
    refine E_blk (lv' := [some (vr (some (4, this))), some (vi v1), some (vi v2), some (vi v3), some (vi v4), some (vi v5), some (vi v6), some (vi s0), none, none]) (st' := [vr (mR M 4 this 4)]) (M1 := M) (pc' := 118) (tb_Checker hγ) [.aload_n 0, .getfield 35] (by decide +kernel) rfl rfl trivial ?_
    obtain ⟨i83, ei83, h⟩ := h
    rw [ei83]
    refine E_blk (lv' := [some (vr (some (4, this))), some (vi v1), some (vi v2), some (vi v3), some (vi v4), some (vi v5), some (vi v6), some (vi s0), none, none]) (st' := [vi v2, vr (some (5, i83))]) (M1 := M) (pc' := 119) (tb_Checker hγ) [.iload_n 2] (by decide +kernel) rfl rfl trivial ?_
    refine E_callV (κ' := k_World_refClass) (As := [vi v2]) (st := []) mv_World_refClass (Or.inl (tbk_mem (j := 8) (k := 8) rfl)) rfl (by decide +kernel) (Nat.le_of_ble_eq_true rfl) (Nat.le_of_ble_eq_true rfl) rfl (by decide) (lk_World_refClass hγ i83 v2 _ M h) (fun _ _ => Qi_r) (fun v M84 hp => Qi_k (R := fun st => E γ k_Checker_call 7 122 [some (vr (some (4, this))), some (vi v1), some (vi v2), some (vi v3), some (vi v4), some (vi v5), some (vi v6), some (vi s0), none, none] st M84 (Qi Q)) hp (fun r85 h => ?_))
    refine E_callS (κ' := k_Works_kindOf) (As := [vi r85]) (st := []) ms_Works_kindOf (Or.inr ⟨"ClassWorks", (tbk_mem (j := 7) (k := 130) rfl)⟩) rfl (by decide +kernel) (Nat.le_of_ble_eq_true rfl) (Nat.le_of_ble_eq_true rfl) rfl (by decide) (lk_Works_kindOf hγ r85 _ M84 h) (fun _ _ => Qi_r) (fun v M86 hp => Qi_k (R := fun st => E γ k_Checker_call 7 125 [some (vr (some (4, this))), some (vi v1), some (vi v2), some (vi v3), some (vi v4), some (vi v5), some (vi v6), some (vi s0), none, none] st M86 (Qi Q)) hp (fun r87 h => ?_))
    refine E_mask [true, true, true, true, true, true, true, true, false, false] rfl ?_
    exact lk_Checker_call_j125 hγ this Q v1 v2 v3 v4 v5 v6 s0 r87 M86 h
set_option maxRecDepth 4096 in
theorem lk_Checker_call_j53 {γ : Gm} (hγ : Gk γ) (this : Nat) (Q : Int32 → Mem → Prop) (v1 : Int32) (v2 : Int32) (v3 : Int32) (v4 : Int32) (v5 : Int32) (s0 : Int32) (s1 : Int32) (M : Mem) (h : w_Checker_call_j53 this Q v1 v2 v3 v4 v5 s0 s1 M) : E γ k_Checker_call 7 53 [some (vr (some (4, this))), some (vi v1), some (vi v2), some (vi v3), some (vi v4), some (vi v5), none, none, none, none] [vi s0, vi s1] M (Qi Q) := by
  unfold w_Checker_call_j53 at h
  refine E_blk (lv' := [some (vr (some (4, this))), some (vi v1), some (vi v2), some (vi v3), some (vi v4), some (vi v5), some (vi (s1 + s0)), none, none, none]) (st' := [vi (s1 + s0), vr (some (4, this))]) (M1 := M) (pc' := 59) (tb_Checker hγ) [.iadd, .istore 6, .aload_n 0, .iload 6] (by decide +kernel) rfl rfl trivial ?_
  refine E_callV (κ' := k_Checker_needs) (As := [vi (s1 + s0)]) (st := []) mv_Checker_needs (Or.inl (tbk_mem (j := 7) (k := 212) rfl)) rfl (by decide +kernel) (Nat.le_of_ble_eq_true rfl) (Nat.le_of_ble_eq_true rfl) rfl (by decide) (lk_Checker_needs hγ this (s1 + s0) _ M h) (fun _ _ => Qi_r) (fun v M10 hp => Qi_k (R := fun st => E γ k_Checker_call 7 62 [some (vr (some (4, this))), some (vi v1), some (vi v2), some (vi v3), some (vi v4), some (vi v5), some (vi (s1 + s0)), none, none, none] st M10 (Qi Q)) hp (fun r11 h => ?_))
  refine E_if_ne (off := 5) (tgt := 67) (by decide +kernel) (by decide) (fun b12 => ?_) (fun b12 => ?_)
  · rw [if_pos b12] at h
    refine E_blk (lv' := [some (vr (some (4, this))), some (vi v1), some (vi v2), some (vi v3), some (vi v4), some (vi v5), some (vi (s1 + s0)), none, none, none]) (st' := [vi (0 : Int32)]) (M1 := M10) (pc' := 66) (tb_Checker hγ) [.iconst 0] (by decide +kernel) rfl rfl trivial ?_
    exact E_zret rfl (Or.inl rfl) (by decide +kernel) h
  · rw [if_neg b12] at h
    refine E_blk (lv' := [some (vr (some (4, this))), some (vi v1), some (vi v2), some (vi v3), some (vi v4), some (vi v5), some (vi (s1 + s0)), none, none, none]) (st' := [vi v5]) (M1 := M10) (pc' := 69) (tb_Checker hγ) [.iload 5] (by decide +kernel) rfl rfl trivial ?_
    refine E_if_eq (off := 19) (tgt := 88) (by decide +kernel) (by decide) (fun b13 => ?_) (fun b13 => ?_)
    · rw [if_pos b13] at h
      refine E_blk (lv' := [some (vr (some (4, this))), some (vi v1), some (vi v2), some (vi v3), some (vi v4), some (vi v5), some (vi (s1 + s0)), none, none, none]) (st' := [vi (0 : Int32)]) (M1 := M10) (pc' := 89) (tb_Checker hγ) [.iconst 0] (by decide +kernel) rfl rfl trivial ?_
      refine E_mask [true, true, true, true, true, true, true, false, false, false] rfl ?_
      exact lk_Checker_call_j89 hγ this Q v1 v2 v3 v4 v5 (s1 + s0) (0 : Int32) M10 h
    · rw [if_neg b13] at h
      obtain ⟨c88, h⟩ := h
      refine E_blk (lv' := [some (vr (some (4, this))), some (vi v1), some (vi v2), some (vi v3), some (vi v4), some (vi v5), some (vi (s1 + s0)), none, none, none]) (st' := [vi (mI M10 32 this (((mI M10 4 this 2) - (1 : Int32)) - v3).toNatClampNeg)]) (M1 := M10) (pc' := 85) (tb_Checker hγ) [.aload_n 0, .getfield 19, .aload_n 0, .getfield 102, .iconst 1, .isub, .iload_n 3, .isub, .iaload] (by decide +kernel) rfl rfl ⟨c88, trivial⟩ ?_
      refine E_goto (off := 4) (tgt := 89) (by decide +kernel) (by decide) ?_
      refine E_mask [true, true, true, true, true, true, true, false, false, false] rfl ?_
      exact lk_Checker_call_j89 hγ this Q v1 v2 v3 v4 v5 (s1 + s0) (mI M10 32 this (((mI M10 4 this 2) - (1 : Int32)) - v3).toNatClampNeg) M10 h
set_option maxRecDepth 4096 in
theorem lk_Checker_call_j40 {γ : Gm} (hγ : Gk γ) (this : Nat) (Q : Int32 → Mem → Prop) (v1 : Int32) (v2 : Int32) (v3 : Int32) (v4 : Int32) (s0 : Int32) (M : Mem) (h : w_Checker_call_j40 this Q v1 v2 v3 v4 s0 M) : E γ k_Checker_call 7 40 [some (vr (some (4, this))), some (vi v1), some (vi v2), some (vi v3), some (vi v4), none, none, none, none, none] [vi s0] M (Qi Q) := by
  unfold w_Checker_call_j40 at h
  refine E_blk (lv' := [some (vr (some (4, this))), some (vi v1), some (vi v2), some (vi v3), some (vi v4), some (vi s0), none, none, none, none]) (st' := [vi s0, vi v3]) (M1 := M) (pc' := 45) (tb_Checker hγ) [.istore 5, .iload_n 3, .iload 5] (by decide +kernel) rfl rfl trivial ?_
  refine E_if_eq (off := 7) (tgt := 52) (by decide +kernel) (by decide) (fun b9 => ?_) (fun b9 => ?_)
  · rw [if_pos b9] at h
    refine E_blk (lv' := [some (vr (some (4, this))), some (vi v1), some (vi v2), some (vi v3), some (vi v4), some (vi s0), none, none, none, none]) (st' := [vi (0 : Int32), vi v3]) (M1 := M) (pc' := 53) (tb_Checker hγ) [.iconst 0] (by decide +kernel) rfl rfl trivial ?_
    refine E_mask [true, true, true, true, true, true, false, false, false, false] rfl ?_
    exact lk_Checker_call_j53 hγ this Q v1 v2 v3 v4 s0 (0 : Int32) v3 M h
  · rw [if_neg b9] at h
    refine E_blk (lv' := [some (vr (some (4, this))), some (vi v1), some (vi v2), some (vi v3), some (vi v4), some (vi s0), none, none, none, none]) (st' := [vi (1 : Int32), vi v3]) (M1 := M) (pc' := 49) (tb_Checker hγ) [.iconst 1] (by decide +kernel) rfl rfl trivial ?_
    refine E_goto (off := 4) (tgt := 53) (by decide +kernel) (by decide) ?_
    refine E_mask [true, true, true, true, true, true, false, false, false, false] rfl ?_
    exact lk_Checker_call_j53 hγ this Q v1 v2 v3 v4 s0 (1 : Int32) v3 M h
set_option maxRecDepth 4096 in
theorem lk_Checker_call_j27 {γ : Gm} (hγ : Gk γ) (this : Nat) (Q : Int32 → Mem → Prop) (v1 : Int32) (v2 : Int32) (v3 : Int32) (s0 : Int32) (M : Mem) (h : w_Checker_call_j27 this Q v1 v2 v3 s0 M) : E γ k_Checker_call 7 27 [some (vr (some (4, this))), some (vi v1), some (vi v2), some (vi v3), none, none, none, none, none, none] [vi s0] M (Qi Q) := by
  unfold w_Checker_call_j27 at h
  refine E_blk (lv' := [some (vr (some (4, this))), some (vi v1), some (vi v2), some (vi v3), some (vi s0), none, none, none, none, none]) (st' := [vi (52 : Int32), vi v1]) (M1 := M) (pc' := 32) (tb_Checker hγ) [.istore 4, .iload_n 1, .bipush 52] (by decide +kernel) rfl rfl trivial ?_
  refine E_icmp_eq (off := 7) (tgt := 39) (by decide +kernel) (by decide) (fun b8 => ?_) (fun b8 => ?_)
  · rw [if_pos b8] at h
    refine E_blk (lv' := [some (vr (some (4, this))), some (vi v1), some (vi v2), some (vi v3), some (vi s0), none, none, none, none, none]) (st' := [vi (0 : Int32)]) (M1 := M) (pc' := 40) (tb_Checker hγ) [.iconst 0] (by decide +kernel) rfl rfl trivial ?_
    refine E_mask [true, true, true, true, true, false, false, false, false, false] rfl ?_
    exact lk_Checker_call_j40 hγ this Q v1 v2 v3 s0 (0 : Int32) M h
  · rw [if_neg b8] at h
    refine E_blk (lv' := [some (vr (some (4, this))), some (vi v1), some (vi v2), some (vi v3), some (vi s0), none, none, none, none, none]) (st' := [vi (1 : Int32)]) (M1 := M) (pc' := 36) (tb_Checker hγ) [.iconst 1] (by decide +kernel) rfl rfl trivial ?_
    refine E_goto (off := 4) (tgt := 40) (by decide +kernel) (by decide) ?_
    refine E_mask [true, true, true, true, true, false, false, false, false, false] rfl ?_
    exact lk_Checker_call_j40 hγ this Q v1 v2 v3 s0 (1 : Int32) M h
set_option maxRecDepth 4096 in
theorem lk_Checker_call {γ : Gm} (hγ : Gk γ) (this : Nat) (a1 : Int32) (a2 : Int32) (Q : Int32 → Mem → Prop) (M : Mem) (h : w_Checker_call this a1 a2 Q M) : E γ k_Checker_call 7 0 [some (vr (some (4, this))), some (vi a1), some (vi a2), none, none, none, none, none, none, none] [] M (Qi Q) := by
  unfold w_Checker_call at h
  refine E_blk (lv' := [some (vr (some (4, this))), some (vi a1), some (vi a2), none, none, none, none, none, none, none]) (st' := [vr (mR M 4 this 4)]) (M1 := M) (pc' := 4) (tb_Checker hγ) [.aload_n 0, .getfield 35] (by decide +kernel) rfl rfl trivial ?_
  obtain ⟨i1, ei1, h⟩ := h
  rw [ei1]
  refine E_blk (lv' := [some (vr (some (4, this))), some (vi a1), some (vi a2), none, none, none, none, none, none, none]) (st' := [vi a2, vr (some (5, i1))]) (M1 := M) (pc' := 5) (tb_Checker hγ) [.iload_n 2] (by decide +kernel) rfl rfl trivial ?_
  refine E_callV (κ' := k_World_refArguments) (As := [vi a2]) (st := []) mv_World_refArguments (Or.inl (tbk_mem (j := 8) (k := 16) rfl)) rfl (by decide +kernel) (Nat.le_of_ble_eq_true rfl) (Nat.le_of_ble_eq_true rfl) rfl (by decide) (lk_World_refArguments hγ i1 a2 _ M h) (fun _ _ => Qi_r) (fun v M2 hp => Qi_k (R := fun st => E γ k_Checker_call 7 8 [some (vr (some (4, this))), some (vi a1), some (vi a2), none, none, none, none, none, none, none] st M2 (Qi Q)) hp (fun r3 h => ?_))
  refine E_blk (lv' := [some (vr (some (4, this))), some (vi a1), some (vi a2), some (vi r3), none, none, none, none, none, none]) (st' := [vr (mR M2 4 this 4)]) (M1 := M2) (pc' := 13) (tb_Checker hγ) [.istore_n 3, .aload_n 0, .getfield 35] (by decide +kernel) rfl rfl trivial ?_
  obtain ⟨i4, ei4, h⟩ := h
  rw [ei4]
  refine E_blk (lv' := [some (vr (some (4, this))), some (vi a1), some (vi a2), some (vi r3), none, none, none, none, none, none]) (st' := [vi a2, vr (some (5, i4))]) (M1 := M2) (pc' := 14) (tb_Checker hγ) [.iload_n 2] (by decide +kernel) rfl rfl trivial ?_
  refine E_callV (κ' := k_World_refName) (As := [vi a2]) (st := []) mv_World_refName (Or.inl (tbk_mem (j := 8) (k := 20) rfl)) rfl (by decide +kernel) (Nat.le_of_ble_eq_true rfl) (Nat.le_of_ble_eq_true rfl) rfl (by decide) (lk_World_refName hγ i4 a2 _ M2 h) (fun _ _ => Qi_r) (fun v M5 hp => Qi_k (R := fun st => E γ k_Checker_call 7 17 [some (vr (some (4, this))), some (vi a1), some (vi a2), some (vi r3), none, none, none, none, none, none] st M5 (Qi Q)) hp (fun r6 h => ?_))
  refine E_blk (lv' := [some (vr (some (4, this))), some (vi a1), some (vi a2), some (vi r3), none, none, none, none, none, none]) (st' := [vi (79 : Int32), vi r6]) (M1 := M5) (pc' := 19) (tb_Checker hγ) [.bipush 79] (by decide +kernel) rfl rfl trivial ?_
  refine E_icmp_ne (off := 7) (tgt := 26) (by decide +kernel) (by decide) (fun b7 => ?_) (fun b7 => ?_)
  · rw [if_pos b7] at h
    refine E_blk (lv' := [some (vr (some (4, this))), some (vi a1), some (vi a2), some (vi r3), none, none, none, none, none, none]) (st' := [vi (1 : Int32)]) (M1 := M5) (pc' := 23) (tb_Checker hγ) [.iconst 1] (by decide +kernel) rfl rfl trivial ?_
    refine E_goto (off := 4) (tgt := 27) (by decide +kernel) (by decide) ?_
    refine E_mask [true, true, true, true, false, false, false, false, false, false] rfl ?_
    exact lk_Checker_call_j27 hγ this Q a1 a2 r3 (1 : Int32) M5 h
  · rw [if_neg b7] at h
    refine E_blk (lv' := [some (vr (some (4, this))), some (vi a1), some (vi a2), some (vi r3), none, none, none, none, none, none]) (st' := [vi (0 : Int32)]) (M1 := M5) (pc' := 27) (tb_Checker hγ) [.iconst 0] (by decide +kernel) rfl rfl trivial ?_
    refine E_mask [true, true, true, true, false, false, false, false, false, false] rfl ?_
    exact lk_Checker_call_j27 hγ this Q a1 a2 r3 (0 : Int32) M5 h
def w_Checker_isThere (this : Nat) (a1 : Int32) (Q : Int32 → Mem → Prop) (M : Mem) : Prop :=
  ∃ i1, (mR M 4 this 4) = some (5, i1) ∧ vp_in (mI M 4 this 6) (mL M 61 i1) ∧ if a1 < (mI M 61 i1 (mI M 4 this 6).toNatClampNeg) then (Q (1 : Int32) M) else (w_Checker_breaks this (33 : Int32) (fun r5 M4 => if r5 = 0 then (Q (0 : Int32) M4) else (Q (1 : Int32) M4)) M)
set_option maxRecDepth 4096 in
theorem lk_Checker_isThere {γ : Gm} (hγ : Gk γ) (this : Nat) (a1 : Int32) (Q : Int32 → Mem → Prop) (M : Mem) (h : w_Checker_isThere this a1 Q M) : E γ k_Checker_isThere 1 0 [some (vr (some (4, this))), some (vi a1)] [] M (Qi Q) := by
  unfold w_Checker_isThere at h
  refine E_blk (lv' := [some (vr (some (4, this))), some (vi a1)]) (st' := [vr (mR M 4 this 4), vi a1]) (M1 := M) (pc' := 5) (tb_Checker hγ) [.iload_n 1, .aload_n 0, .getfield 35] (by decide +kernel) rfl rfl trivial ?_
  obtain ⟨i1, ei1, h⟩ := h
  rw [ei1]
  obtain ⟨c2, h⟩ := h
  refine E_blk (lv' := [some (vr (some (4, this))), some (vi a1)]) (st' := [vi (mI M 61 i1 (mI M 4 this 6).toNatClampNeg), vi a1]) (M1 := M) (pc' := 13) (tb_Checker hγ) [.getfield 85, .aload_n 0, .getfield 54, .iaload] (by decide +kernel) rfl rfl ⟨c2, trivial⟩ ?_
  refine E_icmp_lt (off := 12) (tgt := 25) (by decide +kernel) (by decide) (fun b3 => ?_) (fun b3 => ?_)
  · rw [if_pos b3] at h
    refine E_blk (lv' := [some (vr (some (4, this))), some (vi a1)]) (st' := [vi (1 : Int32)]) (M1 := M) (pc' := 26) (tb_Checker hγ) [.iconst 1] (by decide +kernel) rfl rfl trivial ?_
    refine E_goto (off := 4) (tgt := 30) (by decide +kernel) (by decide) ?_
    exact E_zret rfl (Or.inr rfl) (by decide +kernel) h
  · rw [if_neg b3] at h
    refine E_blk (lv' := [some (vr (some (4, this))), some (vi a1)]) (st' := [vi (33 : Int32), vr (some (4, this))]) (M1 := M) (pc' := 19) (tb_Checker hγ) [.aload_n 0, .bipush 33] (by decide +kernel) rfl rfl trivial ?_
    refine E_callV (κ' := k_Checker_breaks) (As := [vi (33 : Int32)]) (st := []) mv_Checker_breaks (Or.inl (tbk_mem (j := 7) (k := 147) rfl)) rfl (by decide +kernel) (Nat.le_of_ble_eq_true rfl) (Nat.le_of_ble_eq_true rfl) rfl (by decide) (lk_Checker_breaks hγ this (33 : Int32) _ M h) (fun _ _ => Qi_r) (fun v M4 hp => Qi_k (R := fun st => E γ k_Checker_isThere 1 22 [some (vr (some (4, this))), some (vi a1)] st M4 (Qi Q)) hp (fun r5 h => ?_))
    refine E_if_eq (off := 7) (tgt := 29) (by decide +kernel) (by decide) (fun b6 => ?_) (fun b6 => ?_)
    · rw [if_pos b6] at h
      refine E_blk (lv' := [some (vr (some (4, this))), some (vi a1)]) (st' := [vi (0 : Int32)]) (M1 := M4) (pc' := 30) (tb_Checker hγ) [.iconst 0] (by decide +kernel) rfl rfl trivial ?_
      exact E_zret rfl (Or.inl rfl) (by decide +kernel) h
    · rw [if_neg b6] at h
      refine E_blk (lv' := [some (vr (some (4, this))), some (vi a1)]) (st' := [vi (1 : Int32)]) (M1 := M4) (pc' := 26) (tb_Checker hγ) [.iconst 1] (by decide +kernel) rfl rfl trivial ?_
      refine E_goto (off := 4) (tgt := 30) (by decide +kernel) (by decide) ?_
      exact E_zret rfl (Or.inr rfl) (by decide +kernel) h
def w_Checker_store (this : Nat) (a1 : Int32) (Q : Int32 → Mem → Prop) (M : Mem) : Prop :=
  vp_in (mI (sI M 4 this 2 ((mI M 4 this 2) - (1 : Int32))) 4 this 2) (mL (sI M 4 this 2 ((mI M 4 this 2) - (1 : Int32))) 32 this) ∧ vp_in a1 (mL (sI M 4 this 2 ((mI M 4 this 2) - (1 : Int32))) 31 this) ∧ ∃ M3, M3 = (sI (sI M 4 this 2 ((mI M 4 this 2) - (1 : Int32))) 31 this a1.toNatClampNeg (mI (sI M 4 this 2 ((mI M 4 this 2) - (1 : Int32))) 32 this (mI (sI M 4 this 2 ((mI M 4 this 2) - (1 : Int32))) 4 this 2).toNatClampNeg)) ∧ w_Checker_handlers this (fun r5 M4 => (r5 = 0 ∨ r5 = 1) ∧ Q r5 M4) M3
set_option maxRecDepth 4096 in
theorem lk_Checker_store {γ : Gm} (hγ : Gk γ) (this : Nat) (a1 : Int32) (Q : Int32 → Mem → Prop) (M : Mem) (h : w_Checker_store this a1 Q M) : E γ k_Checker_store 7 0 [some (vr (some (4, this))), some (vi a1)] [] M (Qi Q) := by
  unfold w_Checker_store at h
  obtain ⟨c1, c2, h⟩ := h
  refine E_blk (lv' := [some (vr (some (4, this))), some (vi a1)]) (st' := []) (M1 := (sI (sI M 4 this 2 ((mI M 4 this 2) - (1 : Int32))) 31 this a1.toNatClampNeg (mI (sI M 4 this 2 ((mI M 4 this 2) - (1 : Int32))) 32 this (mI (sI M 4 this 2 ((mI M 4 this 2) - (1 : Int32))) 4 this 2).toNatClampNeg))) (pc' := 25) (tb_Checker hγ) [.aload_n 0, .dup, .getfield 102, .iconst 1, .isub, .putfield 102, .aload_n 0, .getfield 15, .iload_n 1, .aload_n 0, .getfield 19, .aload_n 0, .getfield 102, .iaload, .iastore] (by decide +kernel) rfl rfl ⟨c1, c2, trivial⟩ ?_
  obtain ⟨M3, eM3, h⟩ := h
  rw [← eM3]
  refine E_blk (lv' := [some (vr (some (4, this))), some (vi a1)]) (st' := [vr (some (4, this))]) (M1 := M3) (pc' := 26) (tb_Checker hγ) [.aload_n 0] (by decide +kernel) rfl rfl trivial ?_
  refine E_callV (κ' := k_Checker_handlers) (As := []) (st := []) mv_Checker_handlers (Or.inl (tbk_mem (j := 7) (k := 176) rfl)) rfl (by decide +kernel) (Nat.le_of_ble_eq_true rfl) (Nat.le_of_ble_eq_true rfl) rfl (by decide) (lk_Checker_handlers hγ this _ M3 h) (fun _ _ => Qi_r) (fun v M4 hp => Qi_k (R := fun st => E γ k_Checker_store 7 29 [some (vr (some (4, this))), some (vi a1)] st M4 (Qi Q)) hp (fun r5 h => ?_))
  exact E_zret rfl h.1 (by decide +kernel) h.2
def w_Checker_under (this : Nat) (Q : Int32 → Mem → Prop) (M : Mem) : Prop :=
  vp_in ((mI M 4 this 2) - (1 : Int32)) (mL M 32 this) ∧ w_Checker_push this (mI M 32 this ((mI M 4 this 2) - (1 : Int32)).toNatClampNeg) (fun r3 M2 => if r3 = 0 then (Q (0 : Int32) M2) else (vp_in ((mI M2 4 this 2) - (3 : Int32)) (mL M2 32 this) ∧ vp_in ((mI M2 4 this 2) - (2 : Int32)) (mL M2 32 this) ∧ ∃ M7, M7 = (sI M2 32 this ((mI M2 4 this 2) - (2 : Int32)).toNatClampNeg (mI M2 32 this ((mI M2 4 this 2) - (3 : Int32)).toNatClampNeg)) ∧ vp_in ((mI M7 4 this 2) - (3 : Int32)) (mL M7 32 this) ∧ ∃ M9, M9 = (sI M7 32 this ((mI M7 4 this 2) - (3 : Int32)).toNatClampNeg (mI M 32 this ((mI M 4 this 2) - (1 : Int32)).toNatClampNeg)) ∧ Q (1 : Int32) M9)) M
set_option maxRecDepth 4096 in
theorem lk_Checker_under {γ : Gm} (hγ : Gk γ) (this : Nat) (Q : Int32 → Mem → Prop) (M : Mem) (h : w_Checker_under this Q M) : E γ k_Checker_under 2 0 [some (vr (some (4, this))), none] [] M (Qi Q) := by
  unfold w_Checker_under at h
  obtain ⟨c1, h⟩ := h
  refine E_blk (lv' := [some (vr (some (4, this))), some (vi (mI M 32 this ((mI M 4 this 2) - (1 : Int32)).toNatClampNeg))]) (st' := [vi (mI M 32 this ((mI M 4 this 2) - (1 : Int32)).toNatClampNeg), vr (some (4, this))]) (M1 := M) (pc' := 14) (tb_Checker hγ) [.aload_n 0, .getfield 19, .aload_n 0, .getfield 102, .iconst 1, .isub, .iaload, .istore_n 1, .aload_n 0, .iload_n 1] (by decide +kernel) rfl rfl ⟨c1, trivial⟩ ?_
  refine E_callV (κ' := k_Checker_push) (As := [vi (mI M 32 this ((mI M 4 this 2) - (1 : Int32)).toNatClampNeg)]) (st := []) mv_Checker_push (Or.inl (tbk_mem (j := 7) (k := 232) rfl)) rfl (by decide +kernel) (Nat.le_of_ble_eq_true rfl) (Nat.le_of_ble_eq_true rfl) rfl (by decide) (lk_Checker_push hγ this (mI M 32 this ((mI M 4 this 2) - (1 : Int32)).toNatClampNeg) _ M h) (fun _ _ => Qi_r) (fun v M2 hp => Qi_k (R := fun st => E γ k_Checker_under 2 17 [some (vr (some (4, this))), some (vi (mI M 32 this ((mI M 4 this 2) - (1 : Int32)).toNatClampNeg))] st M2 (Qi Q)) hp (fun r3 h => ?_))
  refine E_if_ne (off := 5) (tgt := 22) (by decide +kernel) (by decide) (fun b4 => ?_) (fun b4 => ?_)
  · rw [if_pos b4] at h
    refine E_blk (lv' := [some (vr (some (4, this))), some (vi (mI M 32 this ((mI M 4 this 2) - (1 : Int32)).toNatClampNeg))]) (st' := [vi (0 : Int32)]) (M1 := M2) (pc' := 21) (tb_Checker hγ) [.iconst 0] (by decide +kernel) rfl rfl trivial ?_
    exact E_zret rfl (Or.inl rfl) (by decide +kernel) h
  · rw [if_neg b4] at h
    obtain ⟨c5, c6, h⟩ := h
    refine E_blk (lv' := [some (vr (some (4, this))), some (vi (mI M 32 this ((mI M 4 this 2) - (1 : Int32)).toNatClampNeg))]) (st' := []) (M1 := (sI M2 32 this ((mI M2 4 this 2) - (2 : Int32)).toNatClampNeg (mI M2 32 this ((mI M2 4 this 2) - (3 : Int32)).toNatClampNeg))) (pc' := 44) (tb_Checker hγ) [.aload_n 0, .getfield 19, .aload_n 0, .getfield 102, .iconst 2, .isub, .aload_n 0, .getfield 19, .aload_n 0, .getfield 102, .iconst 3, .isub, .iaload, .iastore] (by decide +kernel) rfl rfl ⟨c5, c6, trivial⟩ ?_
    obtain ⟨M7, eM7, h⟩ := h
    rw [← eM7]
    obtain ⟨c8, h⟩ := h
    refine E_blk (lv' := [some (vr (some (4, this))), some (vi (mI M 32 this ((mI M 4 this 2) - (1 : Int32)).toNatClampNeg))]) (st' := []) (M1 := (sI M7 32 this ((mI M7 4 this 2) - (3 : Int32)).toNatClampNeg (mI M 32 this ((mI M 4 this 2) - (1 : Int32)).toNatClampNeg))) (pc' := 56) (tb_Checker hγ) [.aload_n 0, .getfield 19, .aload_n 0, .getfield 102, .iconst 3, .isub, .iload_n 1, .iastore] (by decide +kernel) rfl rfl ⟨c8, trivial⟩ ?_
    obtain ⟨M9, eM9, h⟩ := h
    rw [← eM9]
    refine E_blk (lv' := [some (vr (some (4, this))), some (vi (mI M 32 this ((mI M 4 this 2) - (1 : Int32)).toNatClampNeg))]) (st' := [vi (1 : Int32)]) (M1 := M9) (pc' := 57) (tb_Checker hγ) [.iconst 1] (by decide +kernel) rfl rfl trivial ?_
    exact E_zret rfl (Or.inr rfl) (by decide +kernel) h
def w_Checker_swap (this : Nat) (Q : Int32 → Mem → Prop) (M : Mem) : Prop :=
  vp_in ((mI M 4 this 2) - (1 : Int32)) (mL M 32 this) ∧ vp_in ((mI M 4 this 2) - (2 : Int32)) (mL M 32 this) ∧ vp_in ((mI M 4 this 2) - (1 : Int32)) (mL M 32 this) ∧ ∃ M4, M4 = (sI M 32 this ((mI M 4 this 2) - (1 : Int32)).toNatClampNeg (mI M 32 this ((mI M 4 this 2) - (2 : Int32)).toNatClampNeg)) ∧ vp_in ((mI M4 4 this 2) - (2 : Int32)) (mL M4 32 this) ∧ ∃ M6, M6 = (sI M4 32 this ((mI M4 4 this 2) - (2 : Int32)).toNatClampNeg (mI M 32 this ((mI M 4 this 2) - (1 : Int32)).toNatClampNeg)) ∧ Q (1 : Int32) M6
set_option maxRecDepth 4096 in
theorem lk_Checker_swap {γ : Gm} (hγ : Gk γ) (this : Nat) (Q : Int32 → Mem → Prop) (M : Mem) (h : w_Checker_swap this Q M) : E γ k_Checker_swap 0 0 [some (vr (some (4, this))), none] [] M (Qi Q) := by
  unfold w_Checker_swap at h
  obtain ⟨c1, c2, c3, h⟩ := h
  refine E_blk (lv' := [some (vr (some (4, this))), some (vi (mI M 32 this ((mI M 4 this 2) - (1 : Int32)).toNatClampNeg))]) (st' := []) (M1 := (sI M 32 this ((mI M 4 this 2) - (1 : Int32)).toNatClampNeg (mI M 32 this ((mI M 4 this 2) - (2 : Int32)).toNatClampNeg))) (pc' := 34) (tb_Checker hγ) [.aload_n 0, .getfield 19, .aload_n 0, .getfield 102, .iconst 1, .isub, .iaload, .istore_n 1, .aload_n 0, .getfield 19, .aload_n 0, .getfield 102, .iconst 1, .isub, .aload_n 0, .getfield 19, .aload_n 0, .getfield 102, .iconst 2, .isub, .iaload, .iastore] (by decide +kernel) rfl rfl ⟨c1, c2, c3, trivial⟩ ?_
  obtain ⟨M4, eM4, h⟩ := h
  rw [← eM4]
  obtain ⟨c5, h⟩ := h
  refine E_blk (lv' := [some (vr (some (4, this))), some (vi (mI M 32 this ((mI M 4 this 2) - (1 : Int32)).toNatClampNeg))]) (st' := []) (M1 := (sI M4 32 this ((mI M4 4 this 2) - (2 : Int32)).toNatClampNeg (mI M 32 this ((mI M 4 this 2) - (1 : Int32)).toNatClampNeg))) (pc' := 46) (tb_Checker hγ) [.aload_n 0, .getfield 19, .aload_n 0, .getfield 102, .iconst 2, .isub, .iload_n 1, .iastore] (by decide +kernel) rfl rfl ⟨c5, trivial⟩ ?_
  obtain ⟨M6, eM6, h⟩ := h
  rw [← eM6]
  refine E_blk (lv' := [some (vr (some (4, this))), some (vi (mI M 32 this ((mI M 4 this 2) - (1 : Int32)).toNatClampNeg))]) (st' := [vi (1 : Int32)]) (M1 := M6) (pc' := 47) (tb_Checker hγ) [.iconst 1] (by decide +kernel) rfl rfl trivial ?_
  exact E_zret rfl (Or.inr rfl) (by decide +kernel) h
def w_Checker_wants3 (this : Nat) (a1 : Int32) (a2 : Int32) (a3 : Int32) (Q : Int32 → Mem → Prop) (M : Mem) : Prop :=
  w_Checker_needs this (3 : Int32) (fun r2 M1 => if r2 = 0 then (Q (0 : Int32) M1) else (w_Checker_is this (0 : Int32) a1 (fun r5 M4 => if r5 = 0 then (Q (0 : Int32) M4) else (w_Checker_is this (1 : Int32) a2 (fun r8 M7 => if r8 = 0 then (Q (0 : Int32) M7) else (w_Checker_is this (2 : Int32) a3 (fun r11 M10 => if r11 = 0 then (Q (0 : Int32) M10) else (w_Checker_isMade this (0 : Int32) a1 (fun r14 M13 => if r14 = 0 then (Q (0 : Int32) M13) else (w_Checker_isMade this (1 : Int32) a2 (fun r17 M16 => if r17 = 0 then (Q (0 : Int32) M16) else (w_Checker_isMade this (2 : Int32) a3 (fun r20 M19 => if r20 = 0 then (Q (0 : Int32) M19) else (Q (1 : Int32) M19)) M16)) M13)) M10)) M7)) M4)) M1)) M
set_option maxRecDepth 4096 in
theorem lk_Checker_wants3 {γ : Gm} (hγ : Gk γ) (this : Nat) (a1 : Int32) (a2 : Int32) (a3 : Int32) (Q : Int32 → Mem → Prop) (M : Mem) (h : w_Checker_wants3 this a1 a2 a3 Q M) : E γ k_Checker_wants3 4 0 [some (vr (some (4, this))), some (vi a1), some (vi a2), some (vi a3)] [] M (Qi Q) := by
  unfold w_Checker_wants3 at h
  refine E_blk (lv' := [some (vr (some (4, this))), some (vi a1), some (vi a2), some (vi a3)]) (st' := [vi (3 : Int32), vr (some (4, this))]) (M1 := M) (pc' := 2) (tb_Checker hγ) [.aload_n 0, .iconst 3] (by decide +kernel) rfl rfl trivial ?_
  refine E_callV (κ' := k_Checker_needs) (As := [vi (3 : Int32)]) (st := []) mv_Checker_needs (Or.inl (tbk_mem (j := 7) (k := 212) rfl)) rfl (by decide +kernel) (Nat.le_of_ble_eq_true rfl) (Nat.le_of_ble_eq_true rfl) rfl (by decide) (lk_Checker_needs hγ this (3 : Int32) _ M h) (fun _ _ => Qi_r) (fun v M1 hp => Qi_k (R := fun st => E γ k_Checker_wants3 4 5 [some (vr (some (4, this))), some (vi a1), some (vi a2), some (vi a3)] st M1 (Qi Q)) hp (fun r2 h => ?_))
  refine E_if_eq (off := 61) (tgt := 66) (by decide +kernel) (by decide) (fun b3 => ?_) (fun b3 => ?_)
  · rw [if_pos b3] at h
    refine E_blk (lv' := [some (vr (some (4, this))), some (vi a1), some (vi a2), some (vi a3)]) (st' := [vi (0 : Int32)]) (M1 := M1) (pc' := 67) (tb_Checker hγ) [.iconst 0] (by decide +kernel) rfl rfl trivial ?_
    exact E_zret rfl (Or.inl rfl) (by decide +kernel) h
  · rw [if_neg b3] at h
    refine E_blk (lv' := [some (vr (some (4, this))), some (vi a1), some (vi a2), some (vi a3)]) (st' := [vi a1, vi (0 : Int32), vr (some (4, this))]) (M1 := M1) (pc' := 11) (tb_Checker hγ) [.aload_n 0, .iconst 0, .iload_n 1] (by decide +kernel) rfl rfl trivial ?_
    refine E_callV (κ' := k_Checker_is) (As := [vi (0 : Int32), vi a1]) (st := []) mv_Checker_is (Or.inl (tbk_mem (j := 7) (k := 216) rfl)) rfl (by decide +kernel) (Nat.le_of_ble_eq_true rfl) (Nat.le_of_ble_eq_true rfl) rfl (by decide) (lk_Checker_is hγ this (0 : Int32) a1 _ M1 h) (fun _ _ => Qi_r) (fun v M4 hp => Qi_k (R := fun st => E γ k_Checker_wants3 4 14 [some (vr (some (4, this))), some (vi a1), some (vi a2), some (vi a3)] st M4 (Qi Q)) hp (fun r5 h => ?_))
    refine E_if_eq (off := 52) (tgt := 66) (by decide +kernel) (by decide) (fun b6 => ?_) (fun b6 => ?_)
    · rw [if_pos b6] at h
      refine E_blk (lv' := [some (vr (some (4, this))), some (vi a1), some (vi a2), some (vi a3)]) (st' := [vi (0 : Int32)]) (M1 := M4) (pc' := 67) (tb_Checker hγ) [.iconst 0] (by decide +kernel) rfl rfl trivial ?_
      exact E_zret rfl (Or.inl rfl) (by decide +kernel) h
    · rw [if_neg b6] at h
      refine E_blk (lv' := [some (vr (some (4, this))), some (vi a1), some (vi a2), some (vi a3)]) (st' := [vi a2, vi (1 : Int32), vr (some (4, this))]) (M1 := M4) (pc' := 20) (tb_Checker hγ) [.aload_n 0, .iconst 1, .iload_n 2] (by decide +kernel) rfl rfl trivial ?_
      refine E_callV (κ' := k_Checker_is) (As := [vi (1 : Int32), vi a2]) (st := []) mv_Checker_is (Or.inl (tbk_mem (j := 7) (k := 216) rfl)) rfl (by decide +kernel) (Nat.le_of_ble_eq_true rfl) (Nat.le_of_ble_eq_true rfl) rfl (by decide) (lk_Checker_is hγ this (1 : Int32) a2 _ M4 h) (fun _ _ => Qi_r) (fun v M7 hp => Qi_k (R := fun st => E γ k_Checker_wants3 4 23 [some (vr (some (4, this))), some (vi a1), some (vi a2), some (vi a3)] st M7 (Qi Q)) hp (fun r8 h => ?_))
      refine E_if_eq (off := 43) (tgt := 66) (by decide +kernel) (by decide) (fun b9 => ?_) (fun b9 => ?_)
      · rw [if_pos b9] at h
        refine E_blk (lv' := [some (vr (some (4, this))), some (vi a1), some (vi a2), some (vi a3)]) (st' := [vi (0 : Int32)]) (M1 := M7) (pc' := 67) (tb_Checker hγ) [.iconst 0] (by decide +kernel) rfl rfl trivial ?_
        exact E_zret rfl (Or.inl rfl) (by decide +kernel) h
      · rw [if_neg b9] at h
        refine E_blk (lv' := [some (vr (some (4, this))), some (vi a1), some (vi a2), some (vi a3)]) (st' := [vi a3, vi (2 : Int32), vr (some (4, this))]) (M1 := M7) (pc' := 29) (tb_Checker hγ) [.aload_n 0, .iconst 2, .iload_n 3] (by decide +kernel) rfl rfl trivial ?_
        refine E_callV (κ' := k_Checker_is) (As := [vi (2 : Int32), vi a3]) (st := []) mv_Checker_is (Or.inl (tbk_mem (j := 7) (k := 216) rfl)) rfl (by decide +kernel) (Nat.le_of_ble_eq_true rfl) (Nat.le_of_ble_eq_true rfl) rfl (by decide) (lk_Checker_is hγ this (2 : Int32) a3 _ M7 h) (fun _ _ => Qi_r) (fun v M10 hp => Qi_k (R := fun st => E γ k_Checker_wants3 4 32 [some (vr (some (4, this))), some (vi a1), some (vi a2), some (vi a3)] st M10 (Qi Q)) hp (fun r11 h => ?_))
        refine E_if_eq (off := 34) (tgt := 66) (by decide +kernel) (by decide) (fun b12 => ?_) (fun b12 => ?_)
        · rw [if_pos b12] at h
          refine E_blk (lv' := [some (vr (some (4, this))), some (vi a1), some (vi a2), some (vi a3)]) (st' := [vi (0 : Int32)]) (M1 := M10) (pc' := 67) (tb_Checker hγ) [.iconst 0] (by decide +kernel) rfl rfl trivial ?_
          exact E_zret rfl (Or.inl rfl) (by decide +kernel) h
        · rw [if_neg b12] at h
          refine E_blk (lv' := [some (vr (some (4, this))), some (vi a1), some (vi a2), some (vi a3)]) (st' := [vi a1, vi (0 : Int32), vr (some (4, this))]) (M1 := M10) (pc' := 38) (tb_Checker hγ) [.aload_n 0, .iconst 0, .iload_n 1] (by decide +kernel) rfl rfl trivial ?_
          refine E_callV (κ' := k_Checker_isMade) (As := [vi (0 : Int32), vi a1]) (st := []) mv_Checker_isMade (Or.inl (tbk_mem (j := 7) (k := 224) rfl)) rfl (by decide +kernel) (Nat.le_of_ble_eq_true rfl) (Nat.le_of_ble_eq_true rfl) rfl (by decide) (lk_Checker_isMade hγ this (0 : Int32) a1 _ M10 h) (fun _ _ => Qi_r) (fun v M13 hp => Qi_k (R := fun st => E γ k_Checker_wants3 4 41 [some (vr (some (4, this))), some (vi a1), some (vi a2), some (vi a3)] st M13 (Qi Q)) hp (fun r14 h => ?_))
          refine E_if_eq (off := 25) (tgt := 66) (by decide +kernel) (by decide) (fun b15 => ?_) (fun b15 => ?_)
          · rw [if_pos b15] at h
            refine E_blk (lv' := [some (vr (some (4, this))), some (vi a1), some (vi a2), some (vi a3)]) (st' := [vi (0 : Int32)]) (M1 := M13) (pc' := 67) (tb_Checker hγ) [.iconst 0] (by decide +kernel) rfl rfl trivial ?_
            exact E_zret rfl (Or.inl rfl) (by decide +kernel) h
          · rw [if_neg b15] at h
            refine E_blk (lv' := [some (vr (some (4, this))), some (vi a1), some (vi a2), some (vi a3)]) (st' := [vi a2, vi (1 : Int32), vr (some (4, this))]) (M1 := M13) (pc' := 47) (tb_Checker hγ) [.aload_n 0, .iconst 1, .iload_n 2] (by decide +kernel) rfl rfl trivial ?_
            refine E_callV (κ' := k_Checker_isMade) (As := [vi (1 : Int32), vi a2]) (st := []) mv_Checker_isMade (Or.inl (tbk_mem (j := 7) (k := 224) rfl)) rfl (by decide +kernel) (Nat.le_of_ble_eq_true rfl) (Nat.le_of_ble_eq_true rfl) rfl (by decide) (lk_Checker_isMade hγ this (1 : Int32) a2 _ M13 h) (fun _ _ => Qi_r) (fun v M16 hp => Qi_k (R := fun st => E γ k_Checker_wants3 4 50 [some (vr (some (4, this))), some (vi a1), some (vi a2), some (vi a3)] st M16 (Qi Q)) hp (fun r17 h => ?_))
            refine E_if_eq (off := 16) (tgt := 66) (by decide +kernel) (by decide) (fun b18 => ?_) (fun b18 => ?_)
            · rw [if_pos b18] at h
              refine E_blk (lv' := [some (vr (some (4, this))), some (vi a1), some (vi a2), some (vi a3)]) (st' := [vi (0 : Int32)]) (M1 := M16) (pc' := 67) (tb_Checker hγ) [.iconst 0] (by decide +kernel) rfl rfl trivial ?_
              exact E_zret rfl (Or.inl rfl) (by decide +kernel) h
            · rw [if_neg b18] at h
              refine E_blk (lv' := [some (vr (some (4, this))), some (vi a1), some (vi a2), some (vi a3)]) (st' := [vi a3, vi (2 : Int32), vr (some (4, this))]) (M1 := M16) (pc' := 56) (tb_Checker hγ) [.aload_n 0, .iconst 2, .iload_n 3] (by decide +kernel) rfl rfl trivial ?_
              refine E_callV (κ' := k_Checker_isMade) (As := [vi (2 : Int32), vi a3]) (st := []) mv_Checker_isMade (Or.inl (tbk_mem (j := 7) (k := 224) rfl)) rfl (by decide +kernel) (Nat.le_of_ble_eq_true rfl) (Nat.le_of_ble_eq_true rfl) rfl (by decide) (lk_Checker_isMade hγ this (2 : Int32) a3 _ M16 h) (fun _ _ => Qi_r) (fun v M19 hp => Qi_k (R := fun st => E γ k_Checker_wants3 4 59 [some (vr (some (4, this))), some (vi a1), some (vi a2), some (vi a3)] st M19 (Qi Q)) hp (fun r20 h => ?_))
              refine E_if_eq (off := 7) (tgt := 66) (by decide +kernel) (by decide) (fun b21 => ?_) (fun b21 => ?_)
              · rw [if_pos b21] at h
                refine E_blk (lv' := [some (vr (some (4, this))), some (vi a1), some (vi a2), some (vi a3)]) (st' := [vi (0 : Int32)]) (M1 := M19) (pc' := 67) (tb_Checker hγ) [.iconst 0] (by decide +kernel) rfl rfl trivial ?_
                exact E_zret rfl (Or.inl rfl) (by decide +kernel) h
              · rw [if_neg b21] at h
                refine E_blk (lv' := [some (vr (some (4, this))), some (vi a1), some (vi a2), some (vi a3)]) (st' := [vi (1 : Int32)]) (M1 := M19) (pc' := 63) (tb_Checker hγ) [.iconst 1] (by decide +kernel) rfl rfl trivial ?_
                refine E_goto (off := 4) (tgt := 67) (by decide +kernel) (by decide) ?_
                exact E_zret rfl (Or.inr rfl) (by decide +kernel) h
def w_Checker_hasUnmade_j72 (this : Nat) (Q : Int32 → Mem → Prop) (k47 : Int32 → Int32 → Mem → Prop) (v2 : Int32) (s0 : Int32) (s1 : Int32) (M : Mem) : Prop :=
  k47 (s1 ||| s0) (v2 + (1 : Int32)) M
def w_Checker_hasUnmade_L47 (this : Nat) (Q : Int32 → Mem → Prop) : Nat → Int32 → Int32 → Mem → Prop
  | 0, _, _, _ => False
  | n + 1, v1, v2, M => if (mI M 4 this 2) ≤ v2 then ((v1 = 0 ∨ v1 = 1) ∧ Q v1 M) else (vp_in v2 (mL M 32 this) ∧ if (mI M 32 this v2.toNatClampNeg) = (-3 : Int32) then (w_Checker_hasUnmade_j72 this Q (w_Checker_hasUnmade_L47 this Q n) v2 (1 : Int32) v1 M) else (w_Checker_hasUnmade_j72 this Q (w_Checker_hasUnmade_L47 this Q n) v2 (0 : Int32) v1 M))
def w_Checker_hasUnmade_j37 (this : Nat) (Q : Int32 → Mem → Prop) (k4 : Int32 → Int32 → Mem → Prop) (v2 : Int32) (s0 : Int32) (s1 : Int32) (M : Mem) : Prop :=
  k4 (s1 ||| s0) (v2 + (1 : Int32)) M
def w_Checker_hasUnmade_L4 (this : Nat) (Q : Int32 → Mem → Prop) : Nat → Int32 → Int32 → Mem → Prop
  | 0, _, _, _ => False
  | n + 1, v1, v2, M => ∃ i1, (mR M 4 this 4) = some (5, i1) ∧ vp_in (mI M 4 this 6) (mL M 61 i1) ∧ if (mI M 61 i1 (mI M 4 this 6).toNatClampNeg) ≤ v2 then (∃ n7 : Nat, w_Checker_hasUnmade_L47 this Q n7 v1 (0 : Int32) M) else (vp_in v2 (mL M 31 this) ∧ if (mI M 31 this v2.toNatClampNeg) = (-3 : Int32) then (w_Checker_hasUnmade_j37 this Q (w_Checker_hasUnmade_L4 this Q n) v2 (1 : Int32) v1 M) else (w_Checker_hasUnmade_j37 this Q (w_Checker_hasUnmade_L4 this Q n) v2 (0 : Int32) v1 M))
def w_Checker_hasUnmade (this : Nat) (Q : Int32 → Mem → Prop) (M : Mem) : Prop :=
  ∃ n10 : Nat, w_Checker_hasUnmade_L4 this Q n10 (0 : Int32) (0 : Int32) M
set_option maxRecDepth 4096 in
theorem lk_Checker_hasUnmade_j72 {γ : Gm} (hγ : Gk γ) (this : Nat) (Q : Int32 → Mem → Prop) (k47 : Int32 → Int32 → Mem → Prop) (hk47 : ∀ (v1 : Int32) (v2 : Int32) (M : Mem), k47 v1 v2 M → E γ k_Checker_hasUnmade 0 47 [some (vr (some (4, this))), some (vi v1), some (vi v2)] [] M (Qi Q)) (v2 : Int32) (s0 : Int32) (s1 : Int32) (M : Mem) (h : w_Checker_hasUnmade_j72 this Q k47 v2 s0 s1 M) : E γ k_Checker_hasUnmade 0 72 [some (vr (some (4, this))), none, some (vi v2)] [vi s0, vi s1] M (Qi Q) := by
  unfold w_Checker_hasUnmade_j72 at h
  refine E_blk (lv' := [some (vr (some (4, this))), some (vi (s1 ||| s0)), some (vi (v2 + (1 : Int32)))]) (st' := []) (M1 := M) (pc' := 77) (tb_Checker hγ) [.ior, .istore_n 1, .iinc 2 1] (by decide +kernel) rfl rfl trivial ?_
  refine E_goto (off := -30) (tgt := 47) (by decide +kernel) (by decide) ?_
  refine E_mask [true, true, true] rfl ?_
  exact hk47 (s1 ||| s0) (v2 + (1 : Int32)) M h
set_option maxRecDepth 4096 in
theorem lk_Checker_hasUnmade_L47 {γ : Gm} (hγ : Gk γ) (this : Nat) (Q : Int32 → Mem → Prop) : ∀ (n : Nat) (v1 : Int32) (v2 : Int32) (M : Mem), w_Checker_hasUnmade_L47 this Q n v1 v2 M → E γ k_Checker_hasUnmade 0 47 [some (vr (some (4, this))), some (vi v1), some (vi v2)] [] M (Qi Q) := by
  intro n
  induction n with
  | zero => intro v1 v2 M h; exact h.elim
  | succ n ih =>
    intro v1 v2 M h
    unfold w_Checker_hasUnmade_L47 at h
    refine E_blk (lv' := [some (vr (some (4, this))), some (vi v1), some (vi v2)]) (st' := [vi (mI M 4 this 2), vi v2]) (M1 := M) (pc' := 52) (tb_Checker hγ) [.iload_n 2, .aload_n 0, .getfield 102] (by decide +kernel) rfl rfl trivial ?_
    refine E_icmp_ge (off := 28) (tgt := 80) (by decide +kernel) (by decide) (fun b4 => ?_) (fun b4 => ?_)
    · rw [if_pos b4] at h
      refine E_blk (lv' := [some (vr (some (4, this))), some (vi v1), some (vi v2)]) (st' := [vi v1]) (M1 := M) (pc' := 81) (tb_Checker hγ) [.iload_n 1] (by decide +kernel) rfl rfl trivial ?_
      exact E_zret rfl h.1 (by decide +kernel) h.2
    · rw [if_neg b4] at h
      obtain ⟨c5, h⟩ := h
      refine E_blk (lv' := [some (vr (some (4, this))), some (vi v1), some (vi v2)]) (st' := [vi (-3 : Int32), vi (mI M 32 this v2.toNatClampNeg), vi v1]) (M1 := M) (pc' := 64) (tb_Checker hγ) [.iload_n 1, .aload_n 0, .getfield 19, .iload_n 2, .iaload, .bipush (.negSucc 2)] (by decide +kernel) rfl rfl ⟨c5, trivial⟩ ?_
      refine E_icmp_ne (off := 7) (tgt := 71) (by decide +kernel) (by decide) (fun b6 => ?_) (fun b6 => ?_)
      · rw [if_pos b6] at h
        refine E_blk (lv' := [some (vr (some (4, this))), some (vi v1), some (vi v2)]) (st' := [vi (1 : Int32), vi v1]) (M1 := M) (pc' := 68) (tb_Checker hγ) [.iconst 1] (by decide +kernel) rfl rfl trivial ?_
        refine E_goto (off := 4) (tgt := 72) (by decide +kernel) (by decide) ?_
        refine E_mask [true, false, true] rfl ?_
        exact lk_Checker_hasUnmade_j72 hγ this Q (w_Checker_hasUnmade_L47 this Q n) ih v2 (1 : Int32) v1 M h
      · rw [if_neg b6] at h
        refine E_blk (lv' := [some (vr (some (4, this))), some (vi v1), some (vi v2)]) (st' := [vi (0 : Int32), vi v1]) (M1 := M) (pc' := 72) (tb_Checker hγ) [.iconst 0] (by decide +kernel) rfl rfl trivial ?_
        refine E_mask [true, false, true] rfl ?_
        exact lk_Checker_hasUnmade_j72 hγ this Q (w_Checker_hasUnmade_L47 this Q n) ih v2 (0 : Int32) v1 M h
set_option maxRecDepth 4096 in
theorem lk_Checker_hasUnmade_j37 {γ : Gm} (hγ : Gk γ) (this : Nat) (Q : Int32 → Mem → Prop) (k4 : Int32 → Int32 → Mem → Prop) (hk4 : ∀ (v1 : Int32) (v2 : Int32) (M : Mem), k4 v1 v2 M → E γ k_Checker_hasUnmade 0 4 [some (vr (some (4, this))), some (vi v1), some (vi v2)] [] M (Qi Q)) (v2 : Int32) (s0 : Int32) (s1 : Int32) (M : Mem) (h : w_Checker_hasUnmade_j37 this Q k4 v2 s0 s1 M) : E γ k_Checker_hasUnmade 0 37 [some (vr (some (4, this))), none, some (vi v2)] [vi s0, vi s1] M (Qi Q) := by
  unfold w_Checker_hasUnmade_j37 at h
  refine E_blk (lv' := [some (vr (some (4, this))), some (vi (s1 ||| s0)), some (vi (v2 + (1 : Int32)))]) (st' := []) (M1 := M) (pc' := 42) (tb_Checker hγ) [.ior, .istore_n 1, .iinc 2 1] (by decide +kernel) rfl rfl trivial ?_
  refine E_goto (off := -38) (tgt := 4) (by decide +kernel) (by decide) ?_
  refine E_mask [true, true, true] rfl ?_
  exact hk4 (s1 ||| s0) (v2 + (1 : Int32)) M h
set_option maxRecDepth 4096 in
theorem lk_Checker_hasUnmade_L4 {γ : Gm} (hγ : Gk γ) (this : Nat) (Q : Int32 → Mem → Prop) : ∀ (n : Nat) (v1 : Int32) (v2 : Int32) (M : Mem), w_Checker_hasUnmade_L4 this Q n v1 v2 M → E γ k_Checker_hasUnmade 0 4 [some (vr (some (4, this))), some (vi v1), some (vi v2)] [] M (Qi Q) := by
  intro n
  induction n with
  | zero => intro v1 v2 M h; exact h.elim
  | succ n ih =>
    intro v1 v2 M h
    unfold w_Checker_hasUnmade_L4 at h
    refine E_blk (lv' := [some (vr (some (4, this))), some (vi v1), some (vi v2)]) (st' := [vr (mR M 4 this 4), vi v2]) (M1 := M) (pc' := 9) (tb_Checker hγ) [.iload_n 2, .aload_n 0, .getfield 35] (by decide +kernel) rfl rfl trivial ?_
    obtain ⟨i1, ei1, h⟩ := h
    rw [ei1]
    obtain ⟨c2, h⟩ := h
    refine E_blk (lv' := [some (vr (some (4, this))), some (vi v1), some (vi v2)]) (st' := [vi (mI M 61 i1 (mI M 4 this 6).toNatClampNeg), vi v2]) (M1 := M) (pc' := 17) (tb_Checker hγ) [.getfield 85, .aload_n 0, .getfield 54, .iaload] (by decide +kernel) rfl rfl ⟨c2, trivial⟩ ?_
    refine E_icmp_ge (off := 28) (tgt := 45) (by decide +kernel) (by decide) (fun b3 => ?_) (fun b3 => ?_)
    · rw [if_pos b3] at h
      refine E_blk (lv' := [some (vr (some (4, this))), some (vi v1), some (vi (0 : Int32))]) (st' := []) (M1 := M) (pc' := 47) (tb_Checker hγ) [.iconst 0, .istore_n 2] (by decide +kernel) rfl rfl trivial ?_
      obtain ⟨n7, h⟩ := h
      refine E_mask [true, true, true] rfl ?_
      exact lk_Checker_hasUnmade_L47 hγ this Q n7 v1 (0 : Int32) M h
    · rw [if_neg b3] at h
      obtain ⟨c8, h⟩ := h
      refine E_blk (lv' := [some (vr (some (4, this))), some (vi v1), some (vi v2)]) (st' := [vi (-3 : Int32), vi (mI M 31 this v2.toNatClampNeg), vi v1]) (M1 := M) (pc' := 29) (tb_Checker hγ) [.iload_n 1, .aload_n 0, .getfield 15, .iload_n 2, .iaload, .bipush (.negSucc 2)] (by decide +kernel) rfl rfl ⟨c8, trivial⟩ ?_
      refine E_icmp_ne (off := 7) (tgt := 36) (by decide +kernel) (by decide) (fun b9 => ?_) (fun b9 => ?_)
      · rw [if_pos b9] at h
        refine E_blk (lv' := [some (vr (some (4, this))), some (vi v1), some (vi v2)]) (st' := [vi (1 : Int32), vi v1]) (M1 := M) (pc' := 33) (tb_Checker hγ) [.iconst 1] (by decide +kernel) rfl rfl trivial ?_
        refine E_goto (off := 4) (tgt := 37) (by decide +kernel) (by decide) ?_
        refine E_mask [true, false, true] rfl ?_
        exact lk_Checker_hasUnmade_j37 hγ this Q (w_Checker_hasUnmade_L4 this Q n) ih v2 (1 : Int32) v1 M h
      · rw [if_neg b9] at h
        refine E_blk (lv' := [some (vr (some (4, this))), some (vi v1), some (vi v2)]) (st' := [vi (0 : Int32), vi v1]) (M1 := M) (pc' := 37) (tb_Checker hγ) [.iconst 0] (by decide +kernel) rfl rfl trivial ?_
        refine E_mask [true, false, true] rfl ?_
        exact lk_Checker_hasUnmade_j37 hγ this Q (w_Checker_hasUnmade_L4 this Q n) ih v2 (0 : Int32) v1 M h
set_option maxRecDepth 4096 in
theorem lk_Checker_hasUnmade {γ : Gm} (hγ : Gk γ) (this : Nat) (Q : Int32 → Mem → Prop) (M : Mem) (h : w_Checker_hasUnmade this Q M) : E γ k_Checker_hasUnmade 0 0 [some (vr (some (4, this))), none, none] [] M (Qi Q) := by
  unfold w_Checker_hasUnmade at h
  refine E_blk (lv' := [some (vr (some (4, this))), some (vi (0 : Int32)), some (vi (0 : Int32))]) (st' := []) (M1 := M) (pc' := 4) (tb_Checker hγ) [.iconst 0, .istore_n 1, .iconst 0, .istore_n 2] (by decide +kernel) rfl rfl trivial ?_
  obtain ⟨n10, h⟩ := h
  refine E_mask [true, true, true] rfl ?_
  exact lk_Checker_hasUnmade_L4 hγ this Q n10 (0 : Int32) (0 : Int32) M h
def w_Checker_leaves_j124 (this : Nat) (Q : Int32 → Mem → Prop)  (M : Mem) : Prop :=
  w_Checker_breaks this (41 : Int32) (fun r20 M19 => if r20 = 0 then (Q (0 : Int32) M19) else (Q (1 : Int32) M19)) M
def w_Checker_leaves_j92 (this : Nat) (Q : Int32 → Mem → Prop) (v1 : Int32) (v2 : Int32) (v3 : Int32) (M : Mem) : Prop :=
  if v1 = (57 : Int32) then (if v2 = (-4 : Int32) then (Q (1 : Int32) M) else (w_Checker_leaves_j124 this Q  M)) else (if v1 = (58 : Int32) then (if v2 = 0 then (Q (1 : Int32) M) else (w_Checker_leaves_j124 this Q  M)) else (if v3 = 0 then (w_Checker_leaves_j124 this Q  M) else (Q (1 : Int32) M)))
def w_Checker_leaves_j65 (this : Nat) (Q : Int32 → Mem → Prop) (v1 : Int32) (v2 : Int32) (v3 : Int32) (M : Mem) : Prop :=
  if v1 = (57 : Int32) then (w_Checker_isMaker this (fun r15 M14 => if r15 = 0 then (w_Checker_leaves_j92 this Q v1 v2 v3 M14) else (w_Checker_hasUnmade this (fun r26 M25 => if r26 = 0 then (w_Checker_leaves_j92 this Q v1 v2 v3 M25) else (w_Checker_breaks this (40 : Int32) (fun r29 M28 => (r29 = 0 ∨ r29 = 1) ∧ Q r29 M28) M25)) M14)) M) else (w_Checker_leaves_j92 this Q v1 v2 v3 M)
def w_Checker_leaves_j57 (this : Nat) (Q : Int32 → Mem → Prop) (v1 : Int32) (v2 : Int32) (v3 : Int32) (s0 : Int32) (M : Mem) : Prop :=
  w_Checker_wants1 this s0 (fun r11 M10 => if r11 = 0 then (Q (0 : Int32) M10) else (w_Checker_leaves_j65 this Q v1 v2 v3 M10)) M
def w_Checker_leaves_j40 (this : Nat) (Q : Int32 → Mem → Prop) (v1 : Int32) (v2 : Int32) (v3 : Int32) (M : Mem) : Prop :=
  if v1 = (59 : Int32) then (if v3 = 0 then (w_Checker_leaves_j57 this Q v1 v2 v3 (-5 : Int32) M) else (w_Checker_leaves_j57 this Q v1 v2 v3 v2 M)) else (w_Checker_leaves_j65 this Q v1 v2 v3 M)
def w_Checker_leaves_j23 (this : Nat) (Q : Int32 → Mem → Prop) (v1 : Int32) (v2 : Int32) (s0 : Int32) (M : Mem) : Prop :=
  if v1 = (58 : Int32) then (w_Checker_wants1 this (0 : Int32) (fun r6 M5 => if r6 = 0 then (Q (0 : Int32) M5) else (w_Checker_leaves_j40 this Q v1 v2 s0 M5)) M) else (w_Checker_leaves_j40 this Q v1 v2 s0 M)
def w_Checker_leaves (this : Nat) (a1 : Int32) (Q : Int32 → Mem → Prop) (M : Mem) : Prop :=
  ∃ i1, (mR M 4 this 4) = some (5, i1) ∧ vp_in (mI M 4 this 6) (mL M 59 i1) ∧ if (mI M 59 i1 (mI M 4 this 6).toNatClampNeg) < (1 : Int32) then (w_Checker_leaves_j23 this Q a1 (mI M 59 i1 (mI M 4 this 6).toNatClampNeg) (0 : Int32) M) else (w_Checker_leaves_j23 this Q a1 (mI M 59 i1 (mI M 4 this 6).toNatClampNeg) (1 : Int32) M)
set_option maxRecDepth 4096 in
theorem lk_Checker_leaves_j124 {γ : Gm} (hγ : Gk γ) (this : Nat) (Q : Int32 → Mem → Prop)  (M : Mem) (h : w_Checker_leaves_j124 this Q  M) : E γ k_Checker_leaves 5 124 [some (vr (some (4, this))), none, none, none] [] M (Qi Q) := by
  unfold w_Checker_leaves_j124 at h
  refine E_blk (lv' := [some (vr (some (4, this))), none, none, none]) (st' := [vi (41 : Int32), vr (some (4, this))]) (M1 := M) (pc' := 127) (tb_Checker hγ) [.aload_n 0, .bipush 41] (by decide +kernel) rfl rfl trivial ?_
  refine E_callV (κ' := k_Checker_breaks) (As := [vi (41 : Int32)]) (st := []) mv_Checker_breaks (Or.inl (tbk_mem (j := 7) (k := 147) rfl)) rfl (by decide +kernel) (Nat.le_of_ble_eq_true rfl) (Nat.le_of_ble_eq_true rfl) rfl (by decide) (lk_Checker_breaks hγ this (41 : Int32) _ M h) (fun _ _ => Qi_r) (fun v M19 hp => Qi_k (R := fun st => E γ k_Checker_leaves 5 130 [some (vr (some (4, this))), none, none, none] st M19 (Qi Q)) hp (fun r20 h => ?_))
  refine E_if_eq (off := 7) (tgt := 137) (by decide +kernel) (by decide) (fun b21 => ?_) (fun b21 => ?_)
  · rw [if_pos b21] at h
    refine E_blk (lv' := [some (vr (some (4, this))), none, none, none]) (st' := [vi (0 : Int32)]) (M1 := M19) (pc' := 138) (tb_Checker hγ) [.iconst 0] (by decide +kernel) rfl rfl trivial ?_
    exact E_zret rfl (Or.inl rfl) (by decide +kernel) h
  · rw [if_neg b21] at h
    refine E_blk (lv' := [some (vr (some (4, this))), none, none, none]) (st' := [vi (1 : Int32)]) (M1 := M19) (pc' := 134) (tb_Checker hγ) [.iconst 1] (by decide +kernel) rfl rfl trivial ?_
    refine E_goto (off := 4) (tgt := 138) (by decide +kernel) (by decide) ?_
    exact E_zret rfl (Or.inr rfl) (by decide +kernel) h
set_option maxRecDepth 4096 in
theorem lk_Checker_leaves_j92 {γ : Gm} (hγ : Gk γ) (this : Nat) (Q : Int32 → Mem → Prop) (v1 : Int32) (v2 : Int32) (v3 : Int32) (M : Mem) (h : w_Checker_leaves_j92 this Q v1 v2 v3 M) : E γ k_Checker_leaves 5 92 [some (vr (some (4, this))), some (vi v1), some (vi v2), some (vi v3)] [] M (Qi Q) := by
  unfold w_Checker_leaves_j92 at h
  refine E_blk (lv' := [some (vr (some (4, this))), some (vi v1), some (vi v2), some (vi v3)]) (st' := [vi (57 : Int32), vi v1]) (M1 := M) (pc' := 95) (tb_Checker hγ) [.iload_n 1, .bipush 57] (by decide +kernel) rfl rfl trivial ?_
  refine E_icmp_ne (off := 12) (tgt := 107) (by decide +kernel) (by decide) (fun b17 => ?_) (fun b17 => ?_)
  · rw [if_pos b17] at h
    refine E_blk (lv' := [some (vr (some (4, this))), some (vi v1), some (vi v2), some (vi v3)]) (st' := [vi (-4 : Int32), vi v2]) (M1 := M) (pc' := 101) (tb_Checker hγ) [.iload_n 2, .bipush (.negSucc 3)] (by decide +kernel) rfl rfl trivial ?_
    refine E_icmp_ne (off := 23) (tgt := 124) (by decide +kernel) (by decide) (fun b18 => ?_) (fun b18 => ?_)
    · rw [if_pos b18] at h
      refine E_goto (off := 29) (tgt := 133) (by decide +kernel) (by decide) ?_
      refine E_blk (lv' := [some (vr (some (4, this))), some (vi v1), some (vi v2), some (vi v3)]) (st' := [vi (1 : Int32)]) (M1 := M) (pc' := 134) (tb_Checker hγ) [.iconst 1] (by decide +kernel) rfl rfl trivial ?_
      refine E_goto (off := 4) (tgt := 138) (by decide +kernel) (by decide) ?_
      exact E_zret rfl (Or.inr rfl) (by decide +kernel) h
    · rw [if_neg b18] at h
      refine E_mask [true, false, false, false] rfl ?_
      exact lk_Checker_leaves_j124 hγ this Q  M h
  · rw [if_neg b17] at h
    refine E_blk (lv' := [some (vr (some (4, this))), some (vi v1), some (vi v2), some (vi v3)]) (st' := [vi (58 : Int32), vi v1]) (M1 := M) (pc' := 110) (tb_Checker hγ) [.iload_n 1, .bipush 58] (by decide +kernel) rfl rfl trivial ?_
    refine E_icmp_ne (off := 10) (tgt := 120) (by decide +kernel) (by decide) (fun b22 => ?_) (fun b22 => ?_)
    · rw [if_pos b22] at h
      refine E_blk (lv' := [some (vr (some (4, this))), some (vi v1), some (vi v2), some (vi v3)]) (st' := [vi v2]) (M1 := M) (pc' := 114) (tb_Checker hγ) [.iload_n 2] (by decide +kernel) rfl rfl trivial ?_
      refine E_if_ne (off := 10) (tgt := 124) (by decide +kernel) (by decide) (fun b23 => ?_) (fun b23 => ?_)
      · rw [if_pos b23] at h
        refine E_goto (off := 16) (tgt := 133) (by decide +kernel) (by decide) ?_
        refine E_blk (lv' := [some (vr (some (4, this))), some (vi v1), some (vi v2), some (vi v3)]) (st' := [vi (1 : Int32)]) (M1 := M) (pc' := 134) (tb_Checker hγ) [.iconst 1] (by decide +kernel) rfl rfl trivial ?_
        refine E_goto (off := 4) (tgt := 138) (by decide +kernel) (by decide) ?_
        exact E_zret rfl (Or.inr rfl) (by decide +kernel) h
      · rw [if_neg b23] at h
        refine E_mask [true, false, false, false] rfl ?_
        exact lk_Checker_leaves_j124 hγ this Q  M h
    · rw [if_neg b22] at h
      refine E_blk (lv' := [some (vr (some (4, this))), some (vi v1), some (vi v2), some (vi v3)]) (st' := [vi v3]) (M1 := M) (pc' := 121) (tb_Checker hγ) [.iload_n 3] (by decide +kernel) rfl rfl trivial ?_
      refine E_if_ne (off := 12) (tgt := 133) (by decide +kernel) (by decide) (fun b24 => ?_) (fun b24 => ?_)
      · rw [if_pos b24] at h
        refine E_mask [true, false, false, false] rfl ?_
        exact lk_Checker_leaves_j124 hγ this Q  M h
      · rw [if_neg b24] at h
        refine E_blk (lv' := [some (vr (some (4, this))), some (vi v1), some (vi v2), some (vi v3)]) (st' := [vi (1 : Int32)]) (M1 := M) (pc' := 134) (tb_Checker hγ) [.iconst 1] (by decide +kernel) rfl rfl trivial ?_
        refine E_goto (off := 4) (tgt := 138) (by decide +kernel) (by decide) ?_
        exact E_zret rfl (Or.inr rfl) (by decide +kernel) h
set_option maxRecDepth 4096 in
theorem lk_Checker_leaves_j65 {γ : Gm} (hγ : Gk γ) (this : Nat) (Q : Int32 → Mem → Prop) (v1 : Int32) (v2 : Int32) (v3 : Int32) (M : Mem) (h : w_Checker_leaves_j65 this Q v1 v2 v3 M) : E γ k_Checker_leaves 5 65 [some (vr (some (4, this))), some (vi v1), some (vi v2), some (vi v3)] [] M (Qi Q) := by
  unfold w_Checker_leaves_j65 at h
  refine E_blk (lv' := [some (vr (some (4, this))), some (vi v1), some (vi v2), some (vi v3)]) (st' := [vi (57 : Int32), vi v1]) (M1 := M) (pc' := 68) (tb_Checker hγ) [.iload_n 1, .bipush 57] (by decide +kernel) rfl rfl trivial ?_
  refine E_icmp_ne (off := 24) (tgt := 92) (by decide +kernel) (by decide) (fun b13 => ?_) (fun b13 => ?_)
  · rw [if_pos b13] at h
    refine E_blk (lv' := [some (vr (some (4, this))), some (vi v1), some (vi v2), some (vi v3)]) (st' := [vr (some (4, this))]) (M1 := M) (pc' := 72) (tb_Checker hγ) [.aload_n 0] (by decide +kernel) rfl rfl trivial ?_
    refine E_callV (κ' := k_Checker_isMaker) (As := []) (st := []) mv_Checker_isMaker (Or.inl (tbk_mem (j := 7) (k := 122) rfl)) rfl (by decide +kernel) (Nat.le_of_ble_eq_true rfl) (Nat.le_of_ble_eq_true rfl) rfl (by decide) (lk_Checker_isMaker hγ this _ M h) (fun _ _ => Qi_r) (fun v M14 hp => Qi_k (R := fun st => E γ k_Checker_leaves 5 75 [some (vr (some (4, this))), some (vi v1), some (vi v2), some (vi v3)] st M14 (Qi Q)) hp (fun r15 h => ?_))
    refine E_if_eq (off := 17) (tgt := 92) (by decide +kernel) (by decide) (fun b16 => ?_) (fun b16 => ?_)
    · rw [if_pos b16] at h
      refine E_mask [true, true, true, true] rfl ?_
      exact lk_Checker_leaves_j92 hγ this Q v1 v2 v3 M14 h
    · rw [if_neg b16] at h
      refine E_blk (lv' := [some (vr (some (4, this))), some (vi v1), some (vi v2), some (vi v3)]) (st' := [vr (some (4, this))]) (M1 := M14) (pc' := 79) (tb_Checker hγ) [.aload_n 0] (by decide +kernel) rfl rfl trivial ?_
      refine E_callV (κ' := k_Checker_hasUnmade) (As := []) (st := []) mv_Checker_hasUnmade (Or.inl (tbk_mem (j := 8) (k := 60) rfl)) rfl (by decide +kernel) (Nat.le_of_ble_eq_true rfl) (Nat.le_of_ble_eq_true rfl) rfl (by decide) (lk_Checker_hasUnmade hγ this _ M14 h) (fun _ _ => Qi_r) (fun v M25 hp => Qi_k (R := fun st => E γ k_Checker_leaves 5 82 [some (vr (some (4, this))), some (vi v1), some (vi v2), some (vi v3)] st M25 (Qi Q)) hp (fun r26 h => ?_))
      refine E_if_eq (off := 10) (tgt := 92) (by decide +kernel) (by decide) (fun b27 => ?_) (fun b27 => ?_)
      · rw [if_pos b27] at h
        refine E_mask [true, true, true, true] rfl ?_
        exact lk_Checker_leaves_j92 hγ this Q v1 v2 v3 M25 h
      · rw [if_neg b27] at h
        refine E_blk (lv' := [some (vr (some (4, this))), some (vi v1), some (vi v2), some (vi v3)]) (st' := [vi (40 : Int32), vr (some (4, this))]) (M1 := M25) (pc' := 88) (tb_Checker hγ) [.aload_n 0, .bipush 40] (by decide +kernel) rfl rfl trivial ?_
        refine E_callV (κ' := k_Checker_breaks) (As := [vi (40 : Int32)]) (st := []) mv_Checker_breaks (Or.inl (tbk_mem (j := 7) (k := 147) rfl)) rfl (by decide +kernel) (Nat.le_of_ble_eq_true rfl) (Nat.le_of_ble_eq_true rfl) rfl (by decide) (lk_Checker_breaks hγ this (40 : Int32) _ M25 h) (fun _ _ => Qi_r) (fun v M28 hp => Qi_k (R := fun st => E γ k_Checker_leaves 5 91 [some (vr (some (4, this))), some (vi v1), some (vi v2), some (vi v3)] st M28 (Qi Q)) hp (fun r29 h => ?_))
        exact E_zret rfl h.1 (by decide +kernel) h.2
  · rw [if_neg b13] at h
    refine E_mask [true, true, true, true] rfl ?_
    exact lk_Checker_leaves_j92 hγ this Q v1 v2 v3 M h
set_option maxRecDepth 4096 in
theorem lk_Checker_leaves_j57 {γ : Gm} (hγ : Gk γ) (this : Nat) (Q : Int32 → Mem → Prop) (v1 : Int32) (v2 : Int32) (v3 : Int32) (s0 : Int32) (M : Mem) (h : w_Checker_leaves_j57 this Q v1 v2 v3 s0 M) : E γ k_Checker_leaves 5 57 [some (vr (some (4, this))), some (vi v1), some (vi v2), some (vi v3)] [vi s0, vr (some (4, this))] M (Qi Q) := by
  unfold w_Checker_leaves_j57 at h
  refine E_callV (κ' := k_Checker_wants1) (As := [vi s0]) (st := []) mv_Checker_wants1 (Or.inl (tbk_mem (j := 7) (k := 236) rfl)) rfl (by decide +kernel) (Nat.le_of_ble_eq_true rfl) (Nat.le_of_ble_eq_true rfl) rfl (by decide) (lk_Checker_wants1 hγ this s0 _ M h) (fun _ _ => Qi_r) (fun v M10 hp => Qi_k (R := fun st => E γ k_Checker_leaves 5 60 [some (vr (some (4, this))), some (vi v1), some (vi v2), some (vi v3)] st M10 (Qi Q)) hp (fun r11 h => ?_))
  refine E_if_ne (off := 5) (tgt := 65) (by decide +kernel) (by decide) (fun b12 => ?_) (fun b12 => ?_)
  · rw [if_pos b12] at h
    refine E_blk (lv' := [some (vr (some (4, this))), some (vi v1), some (vi v2), some (vi v3)]) (st' := [vi (0 : Int32)]) (M1 := M10) (pc' := 64) (tb_Checker hγ) [.iconst 0] (by decide +kernel) rfl rfl trivial ?_
    exact E_zret rfl (Or.inl rfl) (by decide +kernel) h
  · rw [if_neg b12] at h
    refine E_mask [true, true, true, true] rfl ?_
    exact lk_Checker_leaves_j65 hγ this Q v1 v2 v3 M10 h
set_option maxRecDepth 4096 in
theorem lk_Checker_leaves_j40 {γ : Gm} (hγ : Gk γ) (this : Nat) (Q : Int32 → Mem → Prop) (v1 : Int32) (v2 : Int32) (v3 : Int32) (M : Mem) (h : w_Checker_leaves_j40 this Q v1 v2 v3 M) : E γ k_Checker_leaves 5 40 [some (vr (some (4, this))), some (vi v1), some (vi v2), some (vi v3)] [] M (Qi Q) := by
  unfold w_Checker_leaves_j40 at h
  refine E_blk (lv' := [some (vr (some (4, this))), some (vi v1), some (vi v2), some (vi v3)]) (st' := [vi (59 : Int32), vi v1]) (M1 := M) (pc' := 43) (tb_Checker hγ) [.iload_n 1, .bipush 59] (by decide +kernel) rfl rfl trivial ?_
  refine E_icmp_ne (off := 22) (tgt := 65) (by decide +kernel) (by decide) (fun b8 => ?_) (fun b8 => ?_)
  · rw [if_pos b8] at h
    refine E_blk (lv' := [some (vr (some (4, this))), some (vi v1), some (vi v2), some (vi v3)]) (st' := [vi v3, vr (some (4, this))]) (M1 := M) (pc' := 48) (tb_Checker hγ) [.aload_n 0, .iload_n 3] (by decide +kernel) rfl rfl trivial ?_
    refine E_if_eq (off := 7) (tgt := 55) (by decide +kernel) (by decide) (fun b9 => ?_) (fun b9 => ?_)
    · rw [if_pos b9] at h
      refine E_blk (lv' := [some (vr (some (4, this))), some (vi v1), some (vi v2), some (vi v3)]) (st' := [vi (-5 : Int32), vr (some (4, this))]) (M1 := M) (pc' := 57) (tb_Checker hγ) [.bipush (.negSucc 4)] (by decide +kernel) rfl rfl trivial ?_
      refine E_mask [true, true, true, true] rfl ?_
      exact lk_Checker_leaves_j57 hγ this Q v1 v2 v3 (-5 : Int32) M h
    · rw [if_neg b9] at h
      refine E_blk (lv' := [some (vr (some (4, this))), some (vi v1), some (vi v2), some (vi v3)]) (st' := [vi v2, vr (some (4, this))]) (M1 := M) (pc' := 52) (tb_Checker hγ) [.iload_n 2] (by decide +kernel) rfl rfl trivial ?_
      refine E_goto (off := 5) (tgt := 57) (by decide +kernel) (by decide) ?_
      refine E_mask [true, true, true, true] rfl ?_
      exact lk_Checker_leaves_j57 hγ this Q v1 v2 v3 v2 M h
  · rw [if_neg b8] at h
    refine E_mask [true, true, true, true] rfl ?_
    exact lk_Checker_leaves_j65 hγ this Q v1 v2 v3 M h
set_option maxRecDepth 4096 in
theorem lk_Checker_leaves_j23 {γ : Gm} (hγ : Gk γ) (this : Nat) (Q : Int32 → Mem → Prop) (v1 : Int32) (v2 : Int32) (s0 : Int32) (M : Mem) (h : w_Checker_leaves_j23 this Q v1 v2 s0 M) : E γ k_Checker_leaves 5 23 [some (vr (some (4, this))), some (vi v1), some (vi v2), none] [vi s0] M (Qi Q) := by
  unfold w_Checker_leaves_j23 at h
  refine E_blk (lv' := [some (vr (some (4, this))), some (vi v1), some (vi v2), some (vi s0)]) (st' := [vi (58 : Int32), vi v1]) (M1 := M) (pc' := 27) (tb_Checker hγ) [.istore_n 3, .iload_n 1, .bipush 58] (by decide +kernel) rfl rfl trivial ?_
  refine E_icmp_ne (off := 13) (tgt := 40) (by decide +kernel) (by decide) (fun b4 => ?_) (fun b4 => ?_)
  · rw [if_pos b4] at h
    refine E_blk (lv' := [some (vr (some (4, this))), some (vi v1), some (vi v2), some (vi s0)]) (st' := [vi (0 : Int32), vr (some (4, this))]) (M1 := M) (pc' := 32) (tb_Checker hγ) [.aload_n 0, .iconst 0] (by decide +kernel) rfl rfl trivial ?_
    refine E_callV (κ' := k_Checker_wants1) (As := [vi (0 : Int32)]) (st := []) mv_Checker_wants1 (Or.inl (tbk_mem (j := 7) (k := 236) rfl)) rfl (by decide +kernel) (Nat.le_of_ble_eq_true rfl) (Nat.le_of_ble_eq_true rfl) rfl (by decide) (lk_Checker_wants1 hγ this (0 : Int32) _ M h) (fun _ _ => Qi_r) (fun v M5 hp => Qi_k (R := fun st => E γ k_Checker_leaves 5 35 [some (vr (some (4, this))), some (vi v1), some (vi v2), some (vi s0)] st M5 (Qi Q)) hp (fun r6 h => ?_))
    refine E_if_ne (off := 5) (tgt := 40) (by decide +kernel) (by decide) (fun b7 => ?_) (fun b7 => ?_)
    · rw [if_pos b7] at h
      refine E_blk (lv' := [some (vr (some (4, this))), some (vi v1), some (vi v2), some (vi s0)]) (st' := [vi (0 : Int32)]) (M1 := M5) (pc' := 39) (tb_Checker hγ) [.iconst 0] (by decide +kernel) rfl rfl trivial ?_
      exact E_zret rfl (Or.inl rfl) (by decide +kernel) h
    · rw [if_neg b7] at h
      refine E_mask [true, true, true, true] rfl ?_
      exact lk_Checker_leaves_j40 hγ this Q v1 v2 s0 M5 h
  · rw [if_neg b4] at h
    refine E_mask [true, true, true, true] rfl ?_
    exact lk_Checker_leaves_j40 hγ this Q v1 v2 s0 M h
set_option maxRecDepth 4096 in
theorem lk_Checker_leaves {γ : Gm} (hγ : Gk γ) (this : Nat) (a1 : Int32) (Q : Int32 → Mem → Prop) (M : Mem) (h : w_Checker_leaves this a1 Q M) : E γ k_Checker_leaves 5 0 [some (vr (some (4, this))), some (vi a1), none, none] [] M (Qi Q) := by
  unfold w_Checker_leaves at h
  refine E_blk (lv' := [some (vr (some (4, this))), some (vi a1), none, none]) (st' := [vr (mR M 4 this 4)]) (M1 := M) (pc' := 4) (tb_Checker hγ) [.aload_n 0, .getfield 35] (by decide +kernel) rfl rfl trivial ?_
  obtain ⟨i1, ei1, h⟩ := h
  rw [ei1]
  obtain ⟨c2, h⟩ := h
  refine E_blk (lv' := [some (vr (some (4, this))), some (vi a1), some (vi (mI M 59 i1 (mI M 4 this 6).toNatClampNeg)), none]) (st' := [vi (1 : Int32), vi (mI M 59 i1 (mI M 4 this 6).toNatClampNeg)]) (M1 := M) (pc' := 15) (tb_Checker hγ) [.getfield 323, .aload_n 0, .getfield 54, .iaload, .istore_n 2, .iload_n 2, .iconst 1] (by decide +kernel) rfl rfl ⟨c2, trivial⟩ ?_
  refine E_icmp_lt (off := 7) (tgt := 22) (by decide +kernel) (by decide) (fun b3 => ?_) (fun b3 => ?_)
  · rw [if_pos b3] at h
    refine E_blk (lv' := [some (vr (some (4, this))), some (vi a1), some (vi (mI M 59 i1 (mI M 4 this 6).toNatClampNeg)), none]) (st' := [vi (0 : Int32)]) (M1 := M) (pc' := 23) (tb_Checker hγ) [.iconst 0] (by decide +kernel) rfl rfl trivial ?_
    refine E_mask [true, true, true, false] rfl ?_
    exact lk_Checker_leaves_j23 hγ this Q a1 (mI M 59 i1 (mI M 4 this 6).toNatClampNeg) (0 : Int32) M h
  · rw [if_neg b3] at h
    refine E_blk (lv' := [some (vr (some (4, this))), some (vi a1), some (vi (mI M 59 i1 (mI M 4 this 6).toNatClampNeg)), none]) (st' := [vi (1 : Int32)]) (M1 := M) (pc' := 19) (tb_Checker hγ) [.iconst 1] (by decide +kernel) rfl rfl trivial ?_
    refine E_goto (off := 4) (tgt := 23) (by decide +kernel) (by decide) ?_
    refine E_mask [true, true, true, false] rfl ?_
    exact lk_Checker_leaves_j23 hγ this Q a1 (mI M 59 i1 (mI M 4 this 6).toNatClampNeg) (1 : Int32) M h
def w_Checker_act_j78 (this : Nat) (Q : Int32 → Mem → Prop)  (M : Mem) : Prop :=
  w_Checker_wants1 this (0 : Int32) (fun r13 M12 => if r13 = 0 then (Q (0 : Int32) M12) else (w_Checker_comes this (1 : Int32) (-4 : Int32) (fun r16 M15 => if r16 = 0 then (Q (0 : Int32) M15) else (Q (1 : Int32) M15)) M12)) M
def w_Checker_act_j657 (this : Nat) (Q : Int32 → Mem → Prop) (v3 : Int32) (M : Mem) : Prop :=
  w_Checker_store this v3 (fun r296 M295 => if r296 = 0 then (Q (0 : Int32) M295) else (Q (1 : Int32) M295)) M
def w_Checker_act_j564 (this : Nat) (Q : Int32 → Mem → Prop) (v3 : Int32) (M : Mem) : Prop :=
  vp_in v3 (mL M 31 this) ∧ w_Checker_push this (mI M 31 this v3.toNatClampNeg) (fun r323 M322 => if r323 = 0 then (Q (0 : Int32) M322) else (Q (1 : Int32) M322)) M
def w_Checker_act_j476 (this : Nat) (Q : Int32 → Mem → Prop)  (M : Mem) : Prop :=
  w_Checker_push this (0 : Int32) (fun r331 M330 => if r331 = 0 then (Q (0 : Int32) M330) else (Q (1 : Int32) M330)) M
def w_Checker_act_j61 (this : Nat) (Q : Int32 → Mem → Prop) (v2 : Int32) (v3 : Int32) (M : Mem) : Prop :=
  w_Works_isIn v2 (24 : Int32) (29 : Int32) (fun r9 M8 => if r9 = 0 then (if v2 = (40 : Int32) then (w_Checker_act_j78 this Q  M8) else (w_Works_isIn v2 (30 : Int32) (35 : Int32) (fun r19 M18 => if r19 = 0 then (w_Works_isIn v2 (46 : Int32) (49 : Int32) (fun r22 M21 => if r22 = 0 then (w_Works_isIn v2 (50 : Int32) (53 : Int32) (fun r25 M24 => if r25 = 0 then (if v2 = (0 : Int32) then (Q (1 : Int32) M24) else (if v2 = (1 : Int32) then (w_Checker_push this (0 : Int32) (fun r339 M338 => (r339 = 0 ∨ r339 = 1) ∧ Q r339 M338) M24) else (if v2 = (2 : Int32) then (w_Checker_push this (-1 : Int32) (fun r337 M336 => (r337 = 0 ∨ r337 = 1) ∧ Q r337 M336) M24) else (if v2 = (3 : Int32) then (w_Checker_isThere this v3 (fun r326 M325 => if r326 = 0 then (Q (0 : Int32) M325) else (vp_in v3 (mL M325 31 this) ∧ if (mI M325 31 this v3.toNatClampNeg) = 0 then (w_Checker_act_j476 this Q  M325) else (w_Checker_breaks this (34 : Int32) (fun r334 M333 => if r334 = 0 then (Q (0 : Int32) M333) else (w_Checker_act_j476 this Q  M333)) M325))) M24) else (if v2 = (4 : Int32) then (w_Checker_isThere this v3 (fun r308 M307 => if r308 = 0 then (Q (0 : Int32) M307) else (vp_in v3 (mL M307 31 this) ∧ w_Works_isReference (mI M307 31 this v3.toNatClampNeg) (fun r312 M311 => if r312 = 0 then (vp_in v3 (mL M311 31 this) ∧ w_Checker_isUnmade this (mI M311 31 this v3.toNatClampNeg) (fun r316 M315 => if r316 = 0 then (w_Checker_breaks this (34 : Int32) (fun r319 M318 => if r319 = 0 then (Q (0 : Int32) M318) else (w_Checker_act_j564 this Q v3 M318)) M315) else (w_Checker_act_j564 this Q v3 M315)) M311) else (w_Checker_act_j564 this Q v3 M311)) M307)) M24) else (if v2 = (5 : Int32) then (w_Checker_isThere this v3 (fun r299 M298 => if r299 = 0 then (Q (0 : Int32) M298) else (w_Checker_wants1 this (0 : Int32) (fun r302 M301 => if r302 = 0 then (Q (0 : Int32) M301) else (w_Checker_store this v3 (fun r305 M304 => if r305 = 0 then (Q (0 : Int32) M304) else (Q (1 : Int32) M304)) M301)) M298)) M24) else (if v2 = (6 : Int32) then (w_Checker_isThere this v3 (fun r283 M282 => if r283 = 0 then (Q (0 : Int32) M282) else (w_Checker_needs this (1 : Int32) (fun r286 M285 => if r286 = 0 then (Q (0 : Int32) M285) else (vp_in ((mI M285 4 this 2) - (1 : Int32)) (mL M285 32 this) ∧ w_Checker_isUnmade this (mI M285 32 this ((mI M285 4 this 2) - (1 : Int32)).toNatClampNeg) (fun r290 M289 => if r290 = 0 then (w_Checker_is this (0 : Int32) (-5 : Int32) (fun r293 M292 => if r293 = 0 then (Q (0 : Int32) M292) else (w_Checker_act_j657 this Q v3 M292)) M289) else (w_Checker_act_j657 this Q v3 M289)) M285)) M282)) M24) else (if v2 = (7 : Int32) then (w_Checker_isThere this v3 (fun r275 M274 => if r275 = 0 then (Q (0 : Int32) M274) else (vp_in v3 (mL M274 31 this) ∧ if (mI M274 31 this v3.toNatClampNeg) = 0 then (Q (1 : Int32) M274) else (w_Checker_breaks this (34 : Int32) (fun r280 M279 => if r280 = 0 then (Q (0 : Int32) M279) else (Q (1 : Int32) M279)) M274))) M24) else (if v2 = (8 : Int32) then (w_Checker_leaves this v2 (fun r273 M272 => (r273 = 0 ∨ r273 = 1) ∧ Q r273 M272) M24) else (if v2 = (9 : Int32) then (w_Checker_leaves this v2 (fun r271 M270 => (r271 = 0 ∨ r271 = 1) ∧ Q r271 M270) M24) else (if v2 = (10 : Int32) then (w_Checker_leaves this v2 (fun r269 M268 => (r269 = 0 ∨ r269 = 1) ∧ Q r269 M268) M24) else (if v2 = (11 : Int32) then (w_Checker_leaves this v2 (fun r267 M266 => (r267 = 0 ∨ r267 = 1) ∧ Q r267 M266) M24) else (if v2 = (12 : Int32) then (w_Checker_leaves this v2 (fun r265 M264 => (r265 = 0 ∨ r265 = 1) ∧ Q r265 M264) M24) else (if v2 = (13 : Int32) then (w_Checker_wants1 this (0 : Int32) (fun r259 M258 => if r259 = 0 then (Q (0 : Int32) M258) else (w_Checker_comes this (1 : Int32) (0 : Int32) (fun r262 M261 => if r262 = 0 then (Q (0 : Int32) M261) else (Q (1 : Int32) M261)) M258)) M24) else (if v2 = (14 : Int32) then (w_Checker_leaves this v2 (fun r257 M256 => (r257 = 0 ∨ r257 = 1) ∧ Q r257 M256) M24) else (if v2 = (15 : Int32) then (w_Checker_leaves this v2 (fun r255 M254 => (r255 = 0 ∨ r255 = 1) ∧ Q r255 M254) M24) else (if v2 = (16 : Int32) then (w_Checker_leaves this v2 (fun r253 M252 => (r253 = 0 ∨ r253 = 1) ∧ Q r253 M252) M24) else (if v2 = (17 : Int32) then (w_Checker_leaves this v2 (fun r251 M250 => (r251 = 0 ∨ r251 = 1) ∧ Q r251 M250) M24) else (if v2 = (18 : Int32) then (w_Checker_leaves this v2 (fun r249 M248 => (r249 = 0 ∨ r249 = 1) ∧ Q r249 M248) M24) else (if v2 = (19 : Int32) then (w_Checker_needs this (1 : Int32) (fun r243 M242 => if r243 = 0 then (Q (0 : Int32) M242) else (w_Checker_comes this (1 : Int32) (-4 : Int32) (fun r246 M245 => if r246 = 0 then (Q (0 : Int32) M245) else (Q (1 : Int32) M245)) M242)) M24) else (if v2 = (20 : Int32) then (w_Checker_needs this (1 : Int32) (fun r236 M235 => if r236 = 0 then (Q (0 : Int32) M235) else (vp_in ((mI M235 4 this 2) - (1 : Int32)) (mL M235 32 this) ∧ w_Checker_push this (mI M235 32 this ((mI M235 4 this 2) - (1 : Int32)).toNatClampNeg) (fun r240 M239 => if r240 = 0 then (Q (0 : Int32) M239) else (Q (1 : Int32) M239)) M235)) M24) else (if v2 = (21 : Int32) then (w_Checker_needs this (2 : Int32) (fun r230 M229 => if r230 = 0 then (Q (0 : Int32) M229) else (w_Checker_under this (fun r233 M232 => if r233 = 0 then (Q (0 : Int32) M232) else (Q (1 : Int32) M232)) M229)) M24) else (if v2 = (22 : Int32) then (w_Checker_needs this (2 : Int32) (fun r224 M223 => if r224 = 0 then (Q (0 : Int32) M223) else (w_Checker_swap this (fun r227 M226 => if r227 = 0 then (Q (0 : Int32) M226) else (Q (1 : Int32) M226)) M223)) M24) else (if v2 = (23 : Int32) then (Q (1 : Int32) M24) else (if v2 = (24 : Int32) then (w_Checker_leaves this v2 (fun r222 M221 => (r222 = 0 ∨ r222 = 1) ∧ Q r222 M221) M24) else (if v2 = (25 : Int32) then (w_Checker_leaves this v2 (fun r220 M219 => (r220 = 0 ∨ r220 = 1) ∧ Q r220 M219) M24) else (if v2 = (26 : Int32) then (w_Checker_leaves this v2 (fun r218 M217 => (r218 = 0 ∨ r218 = 1) ∧ Q r218 M217) M24) else (if v2 = (27 : Int32) then (w_Checker_leaves this v2 (fun r216 M215 => (r216 = 0 ∨ r216 = 1) ∧ Q r216 M215) M24) else (if v2 = (28 : Int32) then (w_Checker_leaves this v2 (fun r214 M213 => (r214 = 0 ∨ r214 = 1) ∧ Q r214 M213) M24) else (if v2 = (29 : Int32) then (w_Checker_leaves this v2 (fun r212 M211 => (r212 = 0 ∨ r212 = 1) ∧ Q r212 M211) M24) else (if v2 = (30 : Int32) then (w_Checker_leaves this v2 (fun r210 M209 => (r210 = 0 ∨ r210 = 1) ∧ Q r210 M209) M24) else (if v2 = (31 : Int32) then (w_Checker_leaves this v2 (fun r208 M207 => (r208 = 0 ∨ r208 = 1) ∧ Q r208 M207) M24) else (if v2 = (32 : Int32) then (w_Checker_leaves this v2 (fun r206 M205 => (r206 = 0 ∨ r206 = 1) ∧ Q r206 M205) M24) else (if v2 = (33 : Int32) then (w_Checker_leaves this v2 (fun r204 M203 => (r204 = 0 ∨ r204 = 1) ∧ Q r204 M203) M24) else (if v2 = (34 : Int32) then (w_Checker_leaves this v2 (fun r202 M201 => (r202 = 0 ∨ r202 = 1) ∧ Q r202 M201) M24) else (if v2 = (35 : Int32) then (w_Checker_leaves this v2 (fun r200 M199 => (r200 = 0 ∨ r200 = 1) ∧ Q r200 M199) M24) else (if v2 = (36 : Int32) then (w_Checker_wants1 this (-5 : Int32) (fun r194 M193 => if r194 = 0 then (Q (0 : Int32) M193) else (w_Checker_comes this (1 : Int32) (-4 : Int32) (fun r197 M196 => if r197 = 0 then (Q (0 : Int32) M196) else (Q (1 : Int32) M196)) M193)) M24) else (if v2 = (37 : Int32) then (w_Checker_wants1 this (-5 : Int32) (fun r188 M187 => if r188 = 0 then (Q (0 : Int32) M187) else (w_Checker_comes this (1 : Int32) (-4 : Int32) (fun r191 M190 => if r191 = 0 then (Q (0 : Int32) M190) else (Q (1 : Int32) M190)) M187)) M24) else (if v2 = (38 : Int32) then (w_Checker_wants2 this (-5 : Int32) (-5 : Int32) (fun r182 M181 => if r182 = 0 then (Q (0 : Int32) M181) else (w_Checker_comes this (2 : Int32) (-4 : Int32) (fun r185 M184 => if r185 = 0 then (Q (0 : Int32) M184) else (Q (1 : Int32) M184)) M181)) M24) else (if v2 = (39 : Int32) then (w_Checker_wants2 this (-5 : Int32) (-5 : Int32) (fun r176 M175 => if r176 = 0 then (Q (0 : Int32) M175) else (w_Checker_comes this (2 : Int32) (-4 : Int32) (fun r179 M178 => if r179 = 0 then (Q (0 : Int32) M178) else (Q (1 : Int32) M178)) M175)) M24) else (if v2 = (40 : Int32) then (w_Checker_leaves this v2 (fun r174 M173 => (r174 = 0 ∨ r174 = 1) ∧ Q r174 M173) M24) else (if v2 = (41 : Int32) then (w_Checker_push this ((-10 : Int32) - (mI M24 4 this 7)) (fun r172 M171 => (r172 = 0 ∨ r172 = 1) ∧ Q r172 M171) M24) else (if v2 = (42 : Int32) then (w_Checker_wants1 this (0 : Int32) (fun r166 M165 => if r166 = 0 then (Q (0 : Int32) M165) else (w_Checker_comes this (1 : Int32) (1 : Int32) (fun r169 M168 => if r169 = 0 then (Q (0 : Int32) M168) else (Q (1 : Int32) M168)) M165)) M24) else (if v2 = (43 : Int32) then (w_Checker_wants2 this (0 : Int32) (1 : Int32) (fun r160 M159 => if r160 = 0 then (Q (0 : Int32) M159) else (w_Checker_comes this (2 : Int32) (0 : Int32) (fun r163 M162 => if r163 = 0 then (Q (0 : Int32) M162) else (Q (1 : Int32) M162)) M159)) M24) else (if v2 = (44 : Int32) then (w_Checker_wants3 this (0 : Int32) (0 : Int32) (1 : Int32) (fun r154 M153 => if r154 = 0 then (Q (0 : Int32) M153) else (w_Checker_comes this (3 : Int32) (-4 : Int32) (fun r157 M156 => if r157 = 0 then (Q (0 : Int32) M156) else (Q (1 : Int32) M156)) M153)) M24) else (if v2 = (45 : Int32) then (w_Checker_wants1 this (1 : Int32) (fun r148 M147 => if r148 = 0 then (Q (0 : Int32) M147) else (w_Checker_comes this (1 : Int32) (0 : Int32) (fun r151 M150 => if r151 = 0 then (Q (0 : Int32) M150) else (Q (1 : Int32) M150)) M147)) M24) else (if v2 = (46 : Int32) then (w_Checker_leaves this v2 (fun r146 M145 => (r146 = 0 ∨ r146 = 1) ∧ Q r146 M145) M24) else (if v2 = (47 : Int32) then (w_Checker_leaves this v2 (fun r144 M143 => (r144 = 0 ∨ r144 = 1) ∧ Q r144 M143) M24) else (if v2 = (48 : Int32) then (w_Checker_leaves this v2 (fun r142 M141 => (r142 = 0 ∨ r142 = 1) ∧ Q r142 M141) M24) else (if v2 = (49 : Int32) then (w_Checker_leaves this v2 (fun r140 M139 => (r140 = 0 ∨ r140 = 1) ∧ Q r140 M139) M24) else (if v2 = (50 : Int32) then (w_Checker_leaves this v2 (fun r138 M137 => (r138 = 0 ∨ r138 = 1) ∧ Q r138 M137) M24) else (if v2 = (51 : Int32) then (w_Checker_leaves this v2 (fun r136 M135 => (r136 = 0 ∨ r136 = 1) ∧ Q r136 M135) M24) else (if v2 = (52 : Int32) then (w_Checker_leaves this v2 (fun r134 M133 => (r134 = 0 ∨ r134 = 1) ∧ Q r134 M133) M24) else (if v2 = (53 : Int32) then (w_Checker_leaves this v2 (fun r132 M131 => (r132 = 0 ∨ r132 = 1) ∧ Q r132 M131) M24) else (if v2 = (54 : Int32) then (w_Checker_wants1 this (-5 : Int32) (fun r124 M123 => if r124 = 0 then (Q (0 : Int32) M123) else (w_Works_kindOf v3 (fun r127 M126 => w_Checker_comes this (1 : Int32) r127 (fun r129 M128 => if r129 = 0 then (Q (0 : Int32) M128) else (Q (1 : Int32) M128)) M126) M123)) M24) else (if v2 = (55 : Int32) then (w_Checker_wants1 this (-5 : Int32) (fun r118 M117 => if r118 = 0 then (Q (0 : Int32) M117) else (w_Checker_comes this (1 : Int32) (0 : Int32) (fun r121 M120 => if r121 = 0 then (Q (0 : Int32) M120) else (Q (1 : Int32) M120)) M117)) M24) else (if v2 = (56 : Int32) then (w_Works_kindOf (82 : Int32) (fun r110 M109 => w_Checker_wants1 this r110 (fun r112 M111 => if r112 = 0 then (Q (0 : Int32) M111) else (w_Checker_comes this (1 : Int32) (-4 : Int32) (fun r115 M114 => if r115 = 0 then (Q (0 : Int32) M114) else (Q (1 : Int32) M114)) M111)) M109) M24) else (if v2 = (57 : Int32) then (w_Checker_leaves this v2 (fun r108 M107 => (r108 = 0 ∨ r108 = 1) ∧ Q r108 M107) M24) else (if v2 = (58 : Int32) then (w_Checker_leaves this v2 (fun r106 M105 => (r106 = 0 ∨ r106 = 1) ∧ Q r106 M105) M24) else (if v2 = (59 : Int32) then (w_Checker_leaves this v2 (fun r104 M103 => (r104 = 0 ∨ r104 = 1) ∧ Q r104 M103) M24) else (if v2 = (60 : Int32) then (w_Checker_wants1 this (-5 : Int32) (fun r98 M97 => if r98 = 0 then (Q (0 : Int32) M97) else (w_Checker_comes this (1 : Int32) (-4 : Int32) (fun r101 M100 => if r101 = 0 then (Q (0 : Int32) M100) else (Q (1 : Int32) M100)) M97)) M24) else (if v2 = (61 : Int32) then (w_Checker_wants1 this (-5 : Int32) (fun r92 M91 => if r92 = 0 then (Q (0 : Int32) M91) else (w_Checker_comes this (1 : Int32) (-4 : Int32) (fun r95 M94 => if r95 = 0 then (Q (0 : Int32) M94) else (Q (1 : Int32) M94)) M91)) M24) else (w_Checker_leaves this v2 (fun r28 M27 => (r28 = 0 ∨ r28 = 1) ∧ Q r28 M27) M24))))))))))))))))))))))))))))))))))))))))))))))))))))))))))))))) else (w_Checker_call this v2 v3 (fun r341 M340 => (r341 = 0 ∨ r341 = 1) ∧ Q r341 M340) M24)) M21) else (w_Checker_field this v2 v3 (fun r343 M342 => (r343 = 0 ∨ r343 = 1) ∧ Q r343 M342) M21)) M18) else (w_Checker_wants2 this (0 : Int32) (0 : Int32) (fun r345 M344 => if r345 = 0 then (Q (0 : Int32) M344) else (w_Checker_comes this (2 : Int32) (-4 : Int32) (fun r348 M347 => if r348 = 0 then (Q (0 : Int32) M347) else (Q (1 : Int32) M347)) M344)) M18)) M8)) else (w_Checker_act_j78 this Q  M8)) M
def w_Checker_act (this : Nat) (a1 : Int32) (Q : Int32 → Mem → Prop) (M : Mem) : Prop :=
  ∃ i1, (mR M 4 this 4) = some (5, i1) ∧ vp_in a1 (mL M 66 i1) ∧ ∃ i3, (mR M 4 this 4) = some (5, i3) ∧ vp_in a1 (mL M 67 i3) ∧ w_Works_isIn (mI M 66 i1 a1.toNatClampNeg) (8 : Int32) (18 : Int32) (fun r6 M5 => if r6 = 0 then (w_Checker_act_j61 this Q (mI M 66 i1 a1.toNatClampNeg) (mI M 67 i3 a1.toNatClampNeg) M5) else (if (mI M 66 i1 a1.toNatClampNeg) = (13 : Int32) then (w_Checker_act_j61 this Q (mI M 66 i1 a1.toNatClampNeg) (mI M 67 i3 a1.toNatClampNeg) M5) else (w_Checker_wants2 this (0 : Int32) (0 : Int32) (fun r352 M351 => if r352 = 0 then (Q (0 : Int32) M351) else (w_Checker_comes this (2 : Int32) (0 : Int32) (fun r355 M354 => if r355 = 0 then (Q (0 : Int32) M354) else (Q (1 : Int32) M354)) M351)) M5))) M
set_option maxRecDepth 4096 in
theorem lk_Checker_act_j78 {γ : Gm} (hγ : Gk γ) (this : Nat) (Q : Int32 → Mem → Prop)  (M : Mem) (h : w_Checker_act_j78 this Q  M) : E γ k_Checker_act 8 78 [some (vr (some (4, this))), none, none, none] [] M (Qi Q) := by
  unfold w_Checker_act_j78 at h
  refine E_blk (lv' := [some (vr (some (4, this))), none, none, none]) (st' := [vi (0 : Int32), vr (some (4, this))]) (M1 := M) (pc' := 80) (tb_Checker hγ) [.aload_n 0, .iconst 0] (by decide +kernel) rfl rfl trivial ?_
  refine E_callV (κ' := k_Checker_wants1) (As := [vi (0 : Int32)]) (st := []) mv_Checker_wants1 (Or.inl (tbk_mem (j := 7) (k := 236) rfl)) rfl (by decide +kernel) (Nat.le_of_ble_eq_true rfl) (Nat.le_of_ble_eq_true rfl) rfl (by decide) (lk_Checker_wants1 hγ this (0 : Int32) _ M h) (fun _ _ => Qi_r) (fun v M12 hp => Qi_k (R := fun st => E γ k_Checker_act 8 83 [some (vr (some (4, this))), none, none, none] st M12 (Qi Q)) hp (fun r13 h => ?_))
  refine E_if_eq (off := 17) (tgt := 100) (by decide +kernel) (by decide) (fun b14 => ?_) (fun b14 => ?_)
  · rw [if_pos b14] at h
    refine E_blk (lv' := [some (vr (some (4, this))), none, none, none]) (st' := [vi (0 : Int32)]) (M1 := M12) (pc' := 101) (tb_Checker hγ) [.iconst 0] (by decide +kernel) rfl rfl trivial ?_
    exact E_zret rfl (Or.inl rfl) (by decide +kernel) h
  · rw [if_neg b14] at h
    refine E_blk (lv' := [some (vr (some (4, this))), none, none, none]) (st' := [vi (-4 : Int32), vi (1 : Int32), vr (some (4, this))]) (M1 := M12) (pc' := 90) (tb_Checker hγ) [.aload_n 0, .iconst 1, .bipush (.negSucc 3)] (by decide +kernel) rfl rfl trivial ?_
    refine E_callV (κ' := k_Checker_comes) (As := [vi (1 : Int32), vi (-4 : Int32)]) (st := []) mv_Checker_comes (Or.inl (tbk_mem (j := 7) (k := 228) rfl)) rfl (by decide +kernel) (Nat.le_of_ble_eq_true rfl) (Nat.le_of_ble_eq_true rfl) rfl (by decide) (lk_Checker_comes hγ this (1 : Int32) (-4 : Int32) _ M12 h) (fun _ _ => Qi_r) (fun v M15 hp => Qi_k (R := fun st => E γ k_Checker_act 8 93 [some (vr (some (4, this))), none, none, none] st M15 (Qi Q)) hp (fun r16 h => ?_))
    refine E_if_eq (off := 7) (tgt := 100) (by decide +kernel) (by decide) (fun b17 => ?_) (fun b17 => ?_)
    · rw [if_pos b17] at h
      refine E_blk (lv' := [some (vr (some (4, this))), none, none, none]) (st' := [vi (0 : Int32)]) (M1 := M15) (pc' := 101) (tb_Checker hγ) [.iconst 0] (by decide +kernel) rfl rfl trivial ?_
      exact E_zret rfl (Or.inl rfl) (by decide +kernel) h
    · rw [if_neg b17] at h
      refine E_blk (lv' := [some (vr (some (4, this))), none, none, none]) (st' := [vi (1 : Int32)]) (M1 := M15) (pc' := 97) (tb_Checker hγ) [.iconst 1] (by decide +kernel) rfl rfl trivial ?_
      refine E_goto (off := 4) (tgt := 101) (by decide +kernel) (by decide) ?_
      exact E_zret rfl (Or.inr rfl) (by decide +kernel) h
set_option maxRecDepth 4096 in
theorem lk_Checker_act_j657 {γ : Gm} (hγ : Gk γ) (this : Nat) (Q : Int32 → Mem → Prop) (v3 : Int32) (M : Mem) (h : w_Checker_act_j657 this Q v3 M) : E γ k_Checker_act 8 657 [some (vr (some (4, this))), none, none, some (vi v3)] [] M (Qi Q) := by
  unfold w_Checker_act_j657 at h
  refine E_blk (lv' := [some (vr (some (4, this))), none, none, some (vi v3)]) (st' := [vi v3, vr (some (4, this))]) (M1 := M) (pc' := 659) (tb_Checker hγ) [.aload_n 0, .iload_n 3] (by decide +kernel) rfl rfl trivial ?_
  refine E_callV (κ' := k_Checker_store) (As := [vi v3]) (st := []) mv_Checker_store (Or.inl (tbk_mem (j := 8) (k := 40) rfl)) rfl (by decide +kernel) (Nat.le_of_ble_eq_true rfl) (Nat.le_of_ble_eq_true rfl) rfl (by decide) (lk_Checker_store hγ this v3 _ M h) (fun _ _ => Qi_r) (fun v M295 hp => Qi_k (R := fun st => E γ k_Checker_act 8 662 [some (vr (some (4, this))), none, none, some (vi v3)] st M295 (Qi Q)) hp (fun r296 h => ?_))
  refine E_if_eq (off := 7) (tgt := 669) (by decide +kernel) (by decide) (fun b297 => ?_) (fun b297 => ?_)
  · rw [if_pos b297] at h
    refine E_blk (lv' := [some (vr (some (4, this))), none, none, some (vi v3)]) (st' := [vi (0 : Int32)]) (M1 := M295) (pc' := 670) (tb_Checker hγ) [.iconst 0] (by decide +kernel) rfl rfl trivial ?_
    exact E_zret rfl (Or.inl rfl) (by decide +kernel) h
  · rw [if_neg b297] at h
    refine E_blk (lv' := [some (vr (some (4, this))), none, none, some (vi v3)]) (st' := [vi (1 : Int32)]) (M1 := M295) (pc' := 666) (tb_Checker hγ) [.iconst 1] (by decide +kernel) rfl rfl trivial ?_
    refine E_goto (off := 4) (tgt := 670) (by decide +kernel) (by decide) ?_
    exact E_zret rfl (Or.inr rfl) (by decide +kernel) h
set_option maxRecDepth 4096 in
theorem lk_Checker_act_j564 {γ : Gm} (hγ : Gk γ) (this : Nat) (Q : Int32 → Mem → Prop) (v3 : Int32) (M : Mem) (h : w_Checker_act_j564 this Q v3 M) : E γ k_Checker_act 8 564 [some (vr (some (4, this))), none, none, some (vi v3)] [] M (Qi Q) := by
  unfold w_Checker_act_j564 at h
  obtain ⟨c321, h⟩ := h
  refine E_blk (lv' := [some (vr (some (4, this))), none, none, some (vi v3)]) (st' := [vi (mI M 31 this v3.toNatClampNeg), vr (some (4, this))]) (M1 := M) (pc' := 571) (tb_Checker hγ) [.aload_n 0, .aload_n 0, .getfield 15, .iload_n 3, .iaload] (by decide +kernel) rfl rfl ⟨c321, trivial⟩ ?_
  refine E_callV (κ' := k_Checker_push) (As := [vi (mI M 31 this v3.toNatClampNeg)]) (st := []) mv_Checker_push (Or.inl (tbk_mem (j := 7) (k := 232) rfl)) rfl (by decide +kernel) (Nat.le_of_ble_eq_true rfl) (Nat.le_of_ble_eq_true rfl) rfl (by decide) (lk_Checker_push hγ this (mI M 31 this v3.toNatClampNeg) _ M h) (fun _ _ => Qi_r) (fun v M322 hp => Qi_k (R := fun st => E γ k_Checker_act 8 574 [some (vr (some (4, this))), none, none, some (vi v3)] st M322 (Qi Q)) hp (fun r323 h => ?_))
  refine E_if_eq (off := 7) (tgt := 581) (by decide +kernel) (by decide) (fun b324 => ?_) (fun b324 => ?_)
  · rw [if_pos b324] at h
    refine E_blk (lv' := [some (vr (some (4, this))), none, none, some (vi v3)]) (st' := [vi (0 : Int32)]) (M1 := M322) (pc' := 582) (tb_Checker hγ) [.iconst 0] (by decide +kernel) rfl rfl trivial ?_
    exact E_zret rfl (Or.inl rfl) (by decide +kernel) h
  · rw [if_neg b324] at h
    refine E_blk (lv' := [some (vr (some (4, this))), none, none, some (vi v3)]) (st' := [vi (1 : Int32)]) (M1 := M322) (pc' := 578) (tb_Checker hγ) [.iconst 1] (by decide +kernel) rfl rfl trivial ?_
    refine E_goto (off := 4) (tgt := 582) (by decide +kernel) (by decide) ?_
    exact E_zret rfl (Or.inr rfl) (by decide +kernel) h
set_option maxRecDepth 4096 in
theorem lk_Checker_act_j476 {γ : Gm} (hγ : Gk γ) (this : Nat) (Q : Int32 → Mem → Prop)  (M : Mem) (h : w_Checker_act_j476 this Q  M) : E γ k_Checker_act 8 476 [some (vr (some (4, this))), none, none, none] [] M (Qi Q) := by
  unfold w_Checker_act_j476 at h
  refine E_blk (lv' := [some (vr (some (4, this))), none, none, none]) (st' := [vi (0 : Int32), vr (some (4, this))]) (M1 := M) (pc' := 478) (tb_Checker hγ) [.aload_n 0, .iconst 0] (by decide +kernel) rfl rfl trivial ?_
  refine E_callV (κ' := k_Checker_push) (As := [vi (0 : Int32)]) (st := []) mv_Checker_push (Or.inl (tbk_mem (j := 7) (k := 232) rfl)) rfl (by decide +kernel) (Nat.le_of_ble_eq_true rfl) (Nat.le_of_ble_eq_true rfl) rfl (by decide) (lk_Checker_push hγ this (0 : Int32) _ M h) (fun _ _ => Qi_r) (fun v M330 hp => Qi_k (R := fun st => E γ k_Checker_act 8 481 [some (vr (some (4, this))), none, none, none] st M330 (Qi Q)) hp (fun r331 h => ?_))
  refine E_if_eq (off := 7) (tgt := 488) (by decide +kernel) (by decide) (fun b332 => ?_) (fun b332 => ?_)
  · rw [if_pos b332] at h
    refine E_blk (lv' := [some (vr (some (4, this))), none, none, none]) (st' := [vi (0 : Int32)]) (M1 := M330) (pc' := 489) (tb_Checker hγ) [.iconst 0] (by decide +kernel) rfl rfl trivial ?_
    exact E_zret rfl (Or.inl rfl) (by decide +kernel) h
  · rw [if_neg b332] at h
    refine E_blk (lv' := [some (vr (some (4, this))), none, none, none]) (st' := [vi (1 : Int32)]) (M1 := M330) (pc' := 485) (tb_Checker hγ) [.iconst 1] (by decide +kernel) rfl rfl trivial ?_
    refine E_goto (off := 4) (tgt := 489) (by decide +kernel) (by decide) ?_
    exact E_zret rfl (Or.inr rfl) (by decide +kernel) h
set_option maxRecDepth 4096 in
theorem lk_Checker_act_j61 {γ : Gm} (hγ : Gk γ) (this : Nat) (Q : Int32 → Mem → Prop) (v2 : Int32) (v3 : Int32) (M : Mem) (h : w_Checker_act_j61 this Q v2 v3 M) : E γ k_Checker_act 8 61 [some (vr (some (4, this))), none, some (vi v2), some (vi v3)] [] M (Qi Q) := by
  unfold w_Checker_act_j61 at h
  refine E_blk (lv' := [some (vr (some (4, this))), none, some (vi v2), some (vi v3)]) (st' := [vi (29 : Int32), vi (24 : Int32), vi v2]) (M1 := M) (pc' := 66) (tb_Checker hγ) [.iload_n 2, .bipush 24, .bipush 29] (by decide +kernel) rfl rfl trivial ?_
  refine E_callS (κ' := k_Works_isIn) (As := [vi v2, vi (24 : Int32), vi (29 : Int32)]) (st := []) ms_Works_isIn (Or.inr ⟨"ClassWorks", (tbk_mem (j := 7) (k := 207) rfl)⟩) rfl (by decide +kernel) (Nat.le_of_ble_eq_true rfl) (Nat.le_of_ble_eq_true rfl) rfl (by decide) (lk_Works_isIn hγ v2 (24 : Int32) (29 : Int32) _ M h) (fun _ _ => Qi_r) (fun v M8 hp => Qi_k (R := fun st => E γ k_Checker_act 8 69 [some (vr (some (4, this))), none, some (vi v2), some (vi v3)] st M8 (Qi Q)) hp (fun r9 h => ?_))
  refine E_if_ne (off := 9) (tgt := 78) (by decide +kernel) (by decide) (fun b10 => ?_) (fun b10 => ?_)
  · rw [if_pos b10] at h
    refine E_blk (lv' := [some (vr (some (4, this))), none, some (vi v2), some (vi v3)]) (st' := [vi (40 : Int32), vi v2]) (M1 := M8) (pc' := 75) (tb_Checker hγ) [.iload_n 2, .bipush 40] (by decide +kernel) rfl rfl trivial ?_
    refine E_icmp_ne (off := 27) (tgt := 102) (by decide +kernel) (by decide) (fun b11 => ?_) (fun b11 => ?_)
    · rw [if_pos b11] at h
      refine E_mask [true, false, false, false] rfl ?_
      exact lk_Checker_act_j78 hγ this Q  M8 h
    · rw [if_neg b11] at h
      refine E_blk (lv' := [some (vr (some (4, this))), none, some (vi v2), some (vi v3)]) (st' := [vi (35 : Int32), vi (30 : Int32), vi v2]) (M1 := M8) (pc' := 107) (tb_Checker hγ) [.iload_n 2, .bipush 30, .bipush 35] (by decide +kernel) rfl rfl trivial ?_
      refine E_callS (κ' := k_Works_isIn) (As := [vi v2, vi (30 : Int32), vi (35 : Int32)]) (st := []) ms_Works_isIn (Or.inr ⟨"ClassWorks", (tbk_mem (j := 7) (k := 207) rfl)⟩) rfl (by decide +kernel) (Nat.le_of_ble_eq_true rfl) (Nat.le_of_ble_eq_true rfl) rfl (by decide) (lk_Works_isIn hγ v2 (30 : Int32) (35 : Int32) _ M8 h) (fun _ _ => Qi_r) (fun v M18 hp => Qi_k (R := fun st => E γ k_Checker_act 8 110 [some (vr (some (4, this))), none, some (vi v2), some (vi v3)] st M18 (Qi Q)) hp (fun r19 h => ?_))
      refine E_if_eq (off := 28) (tgt := 138) (by decide +kernel) (by decide) (fun b20 => ?_) (fun b20 => ?_)
      · rw [if_pos b20] at h
        refine E_blk (lv' := [some (vr (some (4, this))), none, some (vi v2), some (vi v3)]) (st' := [vi (49 : Int32), vi (46 : Int32), vi v2]) (M1 := M18) (pc' := 143) (tb_Checker hγ) [.iload_n 2, .bipush 46, .bipush 49] (by decide +kernel) rfl rfl trivial ?_
        refine E_callS (κ' := k_Works_isIn) (As := [vi v2, vi (46 : Int32), vi (49 : Int32)]) (st := []) ms_Works_isIn (Or.inr ⟨"ClassWorks", (tbk_mem (j := 7) (k := 207) rfl)⟩) rfl (by decide +kernel) (Nat.le_of_ble_eq_true rfl) (Nat.le_of_ble_eq_true rfl) rfl (by decide) (lk_Works_isIn hγ v2 (46 : Int32) (49 : Int32) _ M18 h) (fun _ _ => Qi_r) (fun v M21 hp => Qi_k (R := fun st => E γ k_Checker_act 8 146 [some (vr (some (4, this))), none, some (vi v2), some (vi v3)] st M21 (Qi Q)) hp (fun r22 h => ?_))
        refine E_if_eq (off := 10) (tgt := 156) (by decide +kernel) (by decide) (fun b23 => ?_) (fun b23 => ?_)
        · rw [if_pos b23] at h
          refine E_blk (lv' := [some (vr (some (4, this))), none, some (vi v2), some (vi v3)]) (st' := [vi (53 : Int32), vi (50 : Int32), vi v2]) (M1 := M21) (pc' := 161) (tb_Checker hγ) [.iload_n 2, .bipush 50, .bipush 53] (by decide +kernel) rfl rfl trivial ?_
          refine E_callS (κ' := k_Works_isIn) (As := [vi v2, vi (50 : Int32), vi (53 : Int32)]) (st := []) ms_Works_isIn (Or.inr ⟨"ClassWorks", (tbk_mem (j := 7) (k := 207) rfl)⟩) rfl (by decide +kernel) (Nat.le_of_ble_eq_true rfl) (Nat.le_of_ble_eq_true rfl) rfl (by decide) (lk_Works_isIn hγ v2 (50 : Int32) (53 : Int32) _ M21 h) (fun _ _ => Qi_r) (fun v M24 hp => Qi_k (R := fun st => E γ k_Checker_act 8 164 [some (vr (some (4, this))), none, some (vi v2), some (vi v3)] st M24 (Qi Q)) hp (fun r25 h => ?_))
          refine E_if_eq (off := 10) (tgt := 174) (by decide +kernel) (by decide) (fun b26 => ?_) (fun b26 => ?_)
          · rw [if_pos b26] at h
            refine E_blk (lv' := [some (vr (some (4, this))), none, some (vi v2), some (vi v3)]) (st' := [vi v2]) (M1 := M24) (pc' := 175) (tb_Checker hγ) [.iload_n 2] (by decide +kernel) rfl rfl trivial ?_
            by_cases b29 : v2 = (0 : Int32)
            · rw [if_pos b29] at h
              refine E.up (fun _ _ hJ => J_tswI (len := 261) (dflt := 856) (lo := 0) (hi := 61) (offs := #[261, 263, 269, 275, 347, 408, 438, 315, 856, 856, 856, 856, 856, 496, 856, 856, 856, 856, 856, 519, 543, 575, 596, 261, 856, 856, 856, 856, 856, 856, 856, 856, 856, 856, 856, 856, 617, 617, 642, 642, 856, 669, 681, 704, 728, 754, 856, 856, 856, 856, 856, 856, 856, 856, 777, 804, 828, 856, 856, 856, 617, 617]) (off := 261) (tgt := 436) (by decide +kernel) (by rw [b29]; decide) (by rw [b29]; decide) (by rw [b29]; rfl) (by decide) hJ) ?_
              refine E_blk (lv' := [some (vr (some (4, this))), none, some (vi v2), some (vi v3)]) (st' := [vi (1 : Int32)]) (M1 := M24) (pc' := 437) (tb_Checker hγ) [.iconst 1] (by decide +kernel) rfl rfl trivial ?_
              exact E_zret rfl (Or.inr rfl) (by decide +kernel) h
            · rw [if_neg b29] at h
              by_cases b30 : v2 = (1 : Int32)
              · rw [if_pos b30] at h
                refine E.up (fun _ _ hJ => J_tswI (len := 261) (dflt := 856) (lo := 0) (hi := 61) (offs := #[261, 263, 269, 275, 347, 408, 438, 315, 856, 856, 856, 856, 856, 496, 856, 856, 856, 856, 856, 519, 543, 575, 596, 261, 856, 856, 856, 856, 856, 856, 856, 856, 856, 856, 856, 856, 617, 617, 642, 642, 856, 669, 681, 704, 728, 754, 856, 856, 856, 856, 856, 856, 856, 856, 777, 804, 828, 856, 856, 856, 617, 617]) (off := 263) (tgt := 438) (by decide +kernel) (by rw [b30]; decide) (by rw [b30]; decide) (by rw [b30]; rfl) (by decide) hJ) ?_
                refine E_blk (lv' := [some (vr (some (4, this))), none, some (vi v2), some (vi v3)]) (st' := [vi (0 : Int32), vr (some (4, this))]) (M1 := M24) (pc' := 440) (tb_Checker hγ) [.aload_n 0, .iconst 0] (by decide +kernel) rfl rfl trivial ?_
                refine E_callV (κ' := k_Checker_push) (As := [vi (0 : Int32)]) (st := []) mv_Checker_push (Or.inl (tbk_mem (j := 7) (k := 232) rfl)) rfl (by decide +kernel) (Nat.le_of_ble_eq_true rfl) (Nat.le_of_ble_eq_true rfl) rfl (by decide) (lk_Checker_push hγ this (0 : Int32) _ M24 h) (fun _ _ => Qi_r) (fun v M338 hp => Qi_k (R := fun st => E γ k_Checker_act 8 443 [some (vr (some (4, this))), none, some (vi v2), some (vi v3)] st M338 (Qi Q)) hp (fun r339 h => ?_))
                exact E_zret rfl h.1 (by decide +kernel) h.2
              · rw [if_neg b30] at h
                by_cases b31 : v2 = (2 : Int32)
                · rw [if_pos b31] at h
                  refine E.up (fun _ _ hJ => J_tswI (len := 261) (dflt := 856) (lo := 0) (hi := 61) (offs := #[261, 263, 269, 275, 347, 408, 438, 315, 856, 856, 856, 856, 856, 496, 856, 856, 856, 856, 856, 519, 543, 575, 596, 261, 856, 856, 856, 856, 856, 856, 856, 856, 856, 856, 856, 856, 617, 617, 642, 642, 856, 669, 681, 704, 728, 754, 856, 856, 856, 856, 856, 856, 856, 856, 777, 804, 828, 856, 856, 856, 617, 617]) (off := 269) (tgt := 444) (by decide +kernel) (by rw [b31]; decide) (by rw [b31]; decide) (by rw [b31]; rfl) (by decide) hJ) ?_
                  refine E_blk (lv' := [some (vr (some (4, this))), none, some (vi v2), some (vi v3)]) (st' := [vi (-1 : Int32), vr (some (4, this))]) (M1 := M24) (pc' := 446) (tb_Checker hγ) [.aload_n 0, .iconst (.negSucc 0)] (by decide +kernel) rfl rfl trivial ?_
                  refine E_callV (κ' := k_Checker_push) (As := [vi (-1 : Int32)]) (st := []) mv_Checker_push (Or.inl (tbk_mem (j := 7) (k := 232) rfl)) rfl (by decide +kernel) (Nat.le_of_ble_eq_true rfl) (Nat.le_of_ble_eq_true rfl) rfl (by decide) (lk_Checker_push hγ this (-1 : Int32) _ M24 h) (fun _ _ => Qi_r) (fun v M336 hp => Qi_k (R := fun st => E γ k_Checker_act 8 449 [some (vr (some (4, this))), none, some (vi v2), some (vi v3)] st M336 (Qi Q)) hp (fun r337 h => ?_))
                  exact E_zret rfl h.1 (by decide +kernel) h.2
                · rw [if_neg b31] at h
                  by_cases b32 : v2 = (3 : Int32)
                  · rw [if_pos b32] at h
                    refine E.up (fun _ _ hJ => J_tswI (len := 261) (dflt := 856) (lo := 0) (hi := 61) (offs := #[261, 263, 269, 275, 347, 408, 438, 315, 856, 856, 856, 856, 856, 496, 856, 856, 856, 856, 856, 519, 543, 575, 596, 261, 856, 856, 856, 856, 856, 856, 856, 856, 856, 856, 856, 856, 617, 617, 642, 642, 856, 669, 681, 704, 728, 754, 856, 856, 856, 856, 856, 856, 856, 856, 777, 804, 828, 856, 856, 856, 617, 617]) (off := 275) (tgt := 450) (by decide +kernel) (by rw [b32]; decide) (by rw [b32]; decide) (by rw [b32]; rfl) (by decide) hJ) ?_
                    refine E_blk (lv' := [some (vr (some (4, this))), none, some (vi v2), some (vi v3)]) (st' := [vi v3, vr (some (4, this))]) (M1 := M24) (pc' := 452) (tb_Checker hγ) [.aload_n 0, .iload_n 3] (by decide +kernel) rfl rfl trivial ?_
                    refine E_callV (κ' := k_Checker_isThere) (As := [vi v3]) (st := []) mv_Checker_isThere (Or.inl (tbk_mem (j := 8) (k := 36) rfl)) rfl (by decide +kernel) (Nat.le_of_ble_eq_true rfl) (Nat.le_of_ble_eq_true rfl) rfl (by decide) (lk_Checker_isThere hγ this v3 _ M24 h) (fun _ _ => Qi_r) (fun v M325 hp => Qi_k (R := fun st => E γ k_Checker_act 8 455 [some (vr (some (4, this))), none, some (vi v2), some (vi v3)] st M325 (Qi Q)) hp (fun r326 h => ?_))
                    refine E_if_eq (off := 33) (tgt := 488) (by decide +kernel) (by decide) (fun b327 => ?_) (fun b327 => ?_)
                    · rw [if_pos b327] at h
                      refine E_blk (lv' := [some (vr (some (4, this))), none, some (vi v2), some (vi v3)]) (st' := [vi (0 : Int32)]) (M1 := M325) (pc' := 489) (tb_Checker hγ) [.iconst 0] (by decide +kernel) rfl rfl trivial ?_
                      exact E_zret rfl (Or.inl rfl) (by decide +kernel) h
                    · rw [if_neg b327] at h
                      obtain ⟨c328, h⟩ := h
                      refine E_blk (lv' := [some (vr (some (4, this))), none, some (vi v2), some (vi v3)]) (st' := [vi (mI M325 31 this v3.toNatClampNeg)]) (M1 := M325) (pc' := 464) (tb_Checker hγ) [.aload_n 0, .getfield 15, .iload_n 3, .iaload] (by decide +kernel) rfl rfl ⟨c328, trivial⟩ ?_
                      refine E_if_eq (off := 12) (tgt := 476) (by decide +kernel) (by decide) (fun b329 => ?_) (fun b329 => ?_)
                      · rw [if_pos b329] at h
                        refine E_mask [true, false, false, false] rfl ?_
                        exact lk_Checker_act_j476 hγ this Q  M325 h
                      · rw [if_neg b329] at h
                        refine E_blk (lv' := [some (vr (some (4, this))), none, some (vi v2), some (vi v3)]) (st' := [vi (34 : Int32), vr (some (4, this))]) (M1 := M325) (pc' := 470) (tb_Checker hγ) [.aload_n 0, .bipush 34] (by decide +kernel) rfl rfl trivial ?_
                        refine E_callV (κ' := k_Checker_breaks) (As := [vi (34 : Int32)]) (st := []) mv_Checker_breaks (Or.inl (tbk_mem (j := 7) (k := 147) rfl)) rfl (by decide +kernel) (Nat.le_of_ble_eq_true rfl) (Nat.le_of_ble_eq_true rfl) rfl (by decide) (lk_Checker_breaks hγ this (34 : Int32) _ M325 h) (fun _ _ => Qi_r) (fun v M333 hp => Qi_k (R := fun st => E γ k_Checker_act 8 473 [some (vr (some (4, this))), none, some (vi v2), some (vi v3)] st M333 (Qi Q)) hp (fun r334 h => ?_))
                        refine E_if_eq (off := 15) (tgt := 488) (by decide +kernel) (by decide) (fun b335 => ?_) (fun b335 => ?_)
                        · rw [if_pos b335] at h
                          refine E_blk (lv' := [some (vr (some (4, this))), none, some (vi v2), some (vi v3)]) (st' := [vi (0 : Int32)]) (M1 := M333) (pc' := 489) (tb_Checker hγ) [.iconst 0] (by decide +kernel) rfl rfl trivial ?_
                          exact E_zret rfl (Or.inl rfl) (by decide +kernel) h
                        · rw [if_neg b335] at h
                          refine E_mask [true, false, false, false] rfl ?_
                          exact lk_Checker_act_j476 hγ this Q  M333 h
                  · rw [if_neg b32] at h
                    by_cases b33 : v2 = (4 : Int32)
                    · rw [if_pos b33] at h
                      refine E.up (fun _ _ hJ => J_tswI (len := 261) (dflt := 856) (lo := 0) (hi := 61) (offs := #[261, 263, 269, 275, 347, 408, 438, 315, 856, 856, 856, 856, 856, 496, 856, 856, 856, 856, 856, 519, 543, 575, 596, 261, 856, 856, 856, 856, 856, 856, 856, 856, 856, 856, 856, 856, 617, 617, 642, 642, 856, 669, 681, 704, 728, 754, 856, 856, 856, 856, 856, 856, 856, 856, 777, 804, 828, 856, 856, 856, 617, 617]) (off := 347) (tgt := 522) (by decide +kernel) (by rw [b33]; decide) (by rw [b33]; decide) (by rw [b33]; rfl) (by decide) hJ) ?_
                      refine E_blk (lv' := [some (vr (some (4, this))), none, some (vi v2), some (vi v3)]) (st' := [vi v3, vr (some (4, this))]) (M1 := M24) (pc' := 524) (tb_Checker hγ) [.aload_n 0, .iload_n 3] (by decide +kernel) rfl rfl trivial ?_
                      refine E_callV (κ' := k_Checker_isThere) (As := [vi v3]) (st := []) mv_Checker_isThere (Or.inl (tbk_mem (j := 8) (k := 36) rfl)) rfl (by decide +kernel) (Nat.le_of_ble_eq_true rfl) (Nat.le_of_ble_eq_true rfl) rfl (by decide) (lk_Checker_isThere hγ this v3 _ M24 h) (fun _ _ => Qi_r) (fun v M307 hp => Qi_k (R := fun st => E γ k_Checker_act 8 527 [some (vr (some (4, this))), none, some (vi v2), some (vi v3)] st M307 (Qi Q)) hp (fun r308 h => ?_))
                      refine E_if_eq (off := 54) (tgt := 581) (by decide +kernel) (by decide) (fun b309 => ?_) (fun b309 => ?_)
                      · rw [if_pos b309] at h
                        refine E_blk (lv' := [some (vr (some (4, this))), none, some (vi v2), some (vi v3)]) (st' := [vi (0 : Int32)]) (M1 := M307) (pc' := 582) (tb_Checker hγ) [.iconst 0] (by decide +kernel) rfl rfl trivial ?_
                        exact E_zret rfl (Or.inl rfl) (by decide +kernel) h
                      · rw [if_neg b309] at h
                        obtain ⟨c310, h⟩ := h
                        refine E_blk (lv' := [some (vr (some (4, this))), none, some (vi v2), some (vi v3)]) (st' := [vi (mI M307 31 this v3.toNatClampNeg)]) (M1 := M307) (pc' := 536) (tb_Checker hγ) [.aload_n 0, .getfield 15, .iload_n 3, .iaload] (by decide +kernel) rfl rfl ⟨c310, trivial⟩ ?_
                        refine E_callS (κ' := k_Works_isReference) (As := [vi (mI M307 31 this v3.toNatClampNeg)]) (st := []) ms_Works_isReference (Or.inr ⟨"ClassWorks", (tbk_mem (j := 7) (k := 192) rfl)⟩) rfl (by decide +kernel) (Nat.le_of_ble_eq_true rfl) (Nat.le_of_ble_eq_true rfl) rfl (by decide) (lk_Works_isReference hγ (mI M307 31 this v3.toNatClampNeg) _ M307 h) (fun _ _ => Qi_r) (fun v M311 hp => Qi_k (R := fun st => E γ k_Checker_act 8 539 [some (vr (some (4, this))), none, some (vi v2), some (vi v3)] st M311 (Qi Q)) hp (fun r312 h => ?_))
                        refine E_if_ne (off := 25) (tgt := 564) (by decide +kernel) (by decide) (fun b313 => ?_) (fun b313 => ?_)
                        · rw [if_pos b313] at h
                          obtain ⟨c314, h⟩ := h
                          refine E_blk (lv' := [some (vr (some (4, this))), none, some (vi v2), some (vi v3)]) (st' := [vi (mI M311 31 this v3.toNatClampNeg), vr (some (4, this))]) (M1 := M311) (pc' := 549) (tb_Checker hγ) [.aload_n 0, .aload_n 0, .getfield 15, .iload_n 3, .iaload] (by decide +kernel) rfl rfl ⟨c314, trivial⟩ ?_
                          refine E_callV (κ' := k_Checker_isUnmade) (As := [vi (mI M311 31 this v3.toNatClampNeg)]) (st := []) mv_Checker_isUnmade (Or.inl (tbk_mem (j := 7) (k := 220) rfl)) rfl (by decide +kernel) (Nat.le_of_ble_eq_true rfl) (Nat.le_of_ble_eq_true rfl) rfl (by decide) (lk_Checker_isUnmade hγ this (mI M311 31 this v3.toNatClampNeg) _ M311 h) (fun _ _ => Qi_r) (fun v M315 hp => Qi_k (R := fun st => E γ k_Checker_act 8 552 [some (vr (some (4, this))), none, some (vi v2), some (vi v3)] st M315 (Qi Q)) hp (fun r316 h => ?_))
                          refine E_if_ne (off := 12) (tgt := 564) (by decide +kernel) (by decide) (fun b317 => ?_) (fun b317 => ?_)
                          · rw [if_pos b317] at h
                            refine E_blk (lv' := [some (vr (some (4, this))), none, some (vi v2), some (vi v3)]) (st' := [vi (34 : Int32), vr (some (4, this))]) (M1 := M315) (pc' := 558) (tb_Checker hγ) [.aload_n 0, .bipush 34] (by decide +kernel) rfl rfl trivial ?_
                            refine E_callV (κ' := k_Checker_breaks) (As := [vi (34 : Int32)]) (st := []) mv_Checker_breaks (Or.inl (tbk_mem (j := 7) (k := 147) rfl)) rfl (by decide +kernel) (Nat.le_of_ble_eq_true rfl) (Nat.le_of_ble_eq_true rfl) rfl (by decide) (lk_Checker_breaks hγ this (34 : Int32) _ M315 h) (fun _ _ => Qi_r) (fun v M318 hp => Qi_k (R := fun st => E γ k_Checker_act 8 561 [some (vr (some (4, this))), none, some (vi v2), some (vi v3)] st M318 (Qi Q)) hp (fun r319 h => ?_))
                            refine E_if_eq (off := 20) (tgt := 581) (by decide +kernel) (by decide) (fun b320 => ?_) (fun b320 => ?_)
                            · rw [if_pos b320] at h
                              refine E_blk (lv' := [some (vr (some (4, this))), none, some (vi v2), some (vi v3)]) (st' := [vi (0 : Int32)]) (M1 := M318) (pc' := 582) (tb_Checker hγ) [.iconst 0] (by decide +kernel) rfl rfl trivial ?_
                              exact E_zret rfl (Or.inl rfl) (by decide +kernel) h
                            · rw [if_neg b320] at h
                              refine E_mask [true, false, false, true] rfl ?_
                              exact lk_Checker_act_j564 hγ this Q v3 M318 h
                          · rw [if_neg b317] at h
                            refine E_mask [true, false, false, true] rfl ?_
                            exact lk_Checker_act_j564 hγ this Q v3 M315 h
                        · rw [if_neg b313] at h
                          refine E_mask [true, false, false, true] rfl ?_
                          exact lk_Checker_act_j564 hγ this Q v3 M311 h
                    · rw [if_neg b33] at h
                      by_cases b34 : v2 = (5 : Int32)
                      · rw [if_pos b34] at h
                        refine E.up (fun _ _ hJ => J_tswI (len := 261) (dflt := 856) (lo := 0) (hi := 61) (offs := #[261, 263, 269, 275, 347, 408, 438, 315, 856, 856, 856, 856, 856, 496, 856, 856, 856, 856, 856, 519, 543, 575, 596, 261, 856, 856, 856, 856, 856, 856, 856, 856, 856, 856, 856, 856, 617, 617, 642, 642, 856, 669, 681, 704, 728, 754, 856, 856, 856, 856, 856, 856, 856, 856, 777, 804, 828, 856, 856, 856, 617, 617]) (off := 408) (tgt := 583) (by decide +kernel) (by rw [b34]; decide) (by rw [b34]; decide) (by rw [b34]; rfl) (by decide) hJ) ?_
                        refine E_blk (lv' := [some (vr (some (4, this))), none, some (vi v2), some (vi v3)]) (st' := [vi v3, vr (some (4, this))]) (M1 := M24) (pc' := 585) (tb_Checker hγ) [.aload_n 0, .iload_n 3] (by decide +kernel) rfl rfl trivial ?_
                        refine E_callV (κ' := k_Checker_isThere) (As := [vi v3]) (st := []) mv_Checker_isThere (Or.inl (tbk_mem (j := 8) (k := 36) rfl)) rfl (by decide +kernel) (Nat.le_of_ble_eq_true rfl) (Nat.le_of_ble_eq_true rfl) rfl (by decide) (lk_Checker_isThere hγ this v3 _ M24 h) (fun _ _ => Qi_r) (fun v M298 hp => Qi_k (R := fun st => E γ k_Checker_act 8 588 [some (vr (some (4, this))), none, some (vi v2), some (vi v3)] st M298 (Qi Q)) hp (fun r299 h => ?_))
                        refine E_if_eq (off := 23) (tgt := 611) (by decide +kernel) (by decide) (fun b300 => ?_) (fun b300 => ?_)
                        · rw [if_pos b300] at h
                          refine E_blk (lv' := [some (vr (some (4, this))), none, some (vi v2), some (vi v3)]) (st' := [vi (0 : Int32)]) (M1 := M298) (pc' := 612) (tb_Checker hγ) [.iconst 0] (by decide +kernel) rfl rfl trivial ?_
                          exact E_zret rfl (Or.inl rfl) (by decide +kernel) h
                        · rw [if_neg b300] at h
                          refine E_blk (lv' := [some (vr (some (4, this))), none, some (vi v2), some (vi v3)]) (st' := [vi (0 : Int32), vr (some (4, this))]) (M1 := M298) (pc' := 593) (tb_Checker hγ) [.aload_n 0, .iconst 0] (by decide +kernel) rfl rfl trivial ?_
                          refine E_callV (κ' := k_Checker_wants1) (As := [vi (0 : Int32)]) (st := []) mv_Checker_wants1 (Or.inl (tbk_mem (j := 7) (k := 236) rfl)) rfl (by decide +kernel) (Nat.le_of_ble_eq_true rfl) (Nat.le_of_ble_eq_true rfl) rfl (by decide) (lk_Checker_wants1 hγ this (0 : Int32) _ M298 h) (fun _ _ => Qi_r) (fun v M301 hp => Qi_k (R := fun st => E γ k_Checker_act 8 596 [some (vr (some (4, this))), none, some (vi v2), some (vi v3)] st M301 (Qi Q)) hp (fun r302 h => ?_))
                          refine E_if_eq (off := 15) (tgt := 611) (by decide +kernel) (by decide) (fun b303 => ?_) (fun b303 => ?_)
                          · rw [if_pos b303] at h
                            refine E_blk (lv' := [some (vr (some (4, this))), none, some (vi v2), some (vi v3)]) (st' := [vi (0 : Int32)]) (M1 := M301) (pc' := 612) (tb_Checker hγ) [.iconst 0] (by decide +kernel) rfl rfl trivial ?_
                            exact E_zret rfl (Or.inl rfl) (by decide +kernel) h
                          · rw [if_neg b303] at h
                            refine E_blk (lv' := [some (vr (some (4, this))), none, some (vi v2), some (vi v3)]) (st' := [vi v3, vr (some (4, this))]) (M1 := M301) (pc' := 601) (tb_Checker hγ) [.aload_n 0, .iload_n 3] (by decide +kernel) rfl rfl trivial ?_
                            refine E_callV (κ' := k_Checker_store) (As := [vi v3]) (st := []) mv_Checker_store (Or.inl (tbk_mem (j := 8) (k := 40) rfl)) rfl (by decide +kernel) (Nat.le_of_ble_eq_true rfl) (Nat.le_of_ble_eq_true rfl) rfl (by decide) (lk_Checker_store hγ this v3 _ M301 h) (fun _ _ => Qi_r) (fun v M304 hp => Qi_k (R := fun st => E γ k_Checker_act 8 604 [some (vr (some (4, this))), none, some (vi v2), some (vi v3)] st M304 (Qi Q)) hp (fun r305 h => ?_))
                            refine E_if_eq (off := 7) (tgt := 611) (by decide +kernel) (by decide) (fun b306 => ?_) (fun b306 => ?_)
                            · rw [if_pos b306] at h
                              refine E_blk (lv' := [some (vr (some (4, this))), none, some (vi v2), some (vi v3)]) (st' := [vi (0 : Int32)]) (M1 := M304) (pc' := 612) (tb_Checker hγ) [.iconst 0] (by decide +kernel) rfl rfl trivial ?_
                              exact E_zret rfl (Or.inl rfl) (by decide +kernel) h
                            · rw [if_neg b306] at h
                              refine E_blk (lv' := [some (vr (some (4, this))), none, some (vi v2), some (vi v3)]) (st' := [vi (1 : Int32)]) (M1 := M304) (pc' := 608) (tb_Checker hγ) [.iconst 1] (by decide +kernel) rfl rfl trivial ?_
                              refine E_goto (off := 4) (tgt := 612) (by decide +kernel) (by decide) ?_
                              exact E_zret rfl (Or.inr rfl) (by decide +kernel) h
                      · rw [if_neg b34] at h
                        by_cases b35 : v2 = (6 : Int32)
                        · rw [if_pos b35] at h
                          refine E.up (fun _ _ hJ => J_tswI (len := 261) (dflt := 856) (lo := 0) (hi := 61) (offs := #[261, 263, 269, 275, 347, 408, 438, 315, 856, 856, 856, 856, 856, 496, 856, 856, 856, 856, 856, 519, 543, 575, 596, 261, 856, 856, 856, 856, 856, 856, 856, 856, 856, 856, 856, 856, 617, 617, 642, 642, 856, 669, 681, 704, 728, 754, 856, 856, 856, 856, 856, 856, 856, 856, 777, 804, 828, 856, 856, 856, 617, 617]) (off := 438) (tgt := 613) (by decide +kernel) (by rw [b35]; decide) (by rw [b35]; decide) (by rw [b35]; rfl) (by decide) hJ) ?_
                          refine E_blk (lv' := [some (vr (some (4, this))), none, some (vi v2), some (vi v3)]) (st' := [vi v3, vr (some (4, this))]) (M1 := M24) (pc' := 615) (tb_Checker hγ) [.aload_n 0, .iload_n 3] (by decide +kernel) rfl rfl trivial ?_
                          refine E_callV (κ' := k_Checker_isThere) (As := [vi v3]) (st := []) mv_Checker_isThere (Or.inl (tbk_mem (j := 8) (k := 36) rfl)) rfl (by decide +kernel) (Nat.le_of_ble_eq_true rfl) (Nat.le_of_ble_eq_true rfl) rfl (by decide) (lk_Checker_isThere hγ this v3 _ M24 h) (fun _ _ => Qi_r) (fun v M282 hp => Qi_k (R := fun st => E γ k_Checker_act 8 618 [some (vr (some (4, this))), none, some (vi v2), some (vi v3)] st M282 (Qi Q)) hp (fun r283 h => ?_))
                          refine E_if_eq (off := 51) (tgt := 669) (by decide +kernel) (by decide) (fun b284 => ?_) (fun b284 => ?_)
                          · rw [if_pos b284] at h
                            refine E_blk (lv' := [some (vr (some (4, this))), none, some (vi v2), some (vi v3)]) (st' := [vi (0 : Int32)]) (M1 := M282) (pc' := 670) (tb_Checker hγ) [.iconst 0] (by decide +kernel) rfl rfl trivial ?_
                            exact E_zret rfl (Or.inl rfl) (by decide +kernel) h
                          · rw [if_neg b284] at h
                            refine E_blk (lv' := [some (vr (some (4, this))), none, some (vi v2), some (vi v3)]) (st' := [vi (1 : Int32), vr (some (4, this))]) (M1 := M282) (pc' := 623) (tb_Checker hγ) [.aload_n 0, .iconst 1] (by decide +kernel) rfl rfl trivial ?_
                            refine E_callV (κ' := k_Checker_needs) (As := [vi (1 : Int32)]) (st := []) mv_Checker_needs (Or.inl (tbk_mem (j := 7) (k := 212) rfl)) rfl (by decide +kernel) (Nat.le_of_ble_eq_true rfl) (Nat.le_of_ble_eq_true rfl) rfl (by decide) (lk_Checker_needs hγ this (1 : Int32) _ M282 h) (fun _ _ => Qi_r) (fun v M285 hp => Qi_k (R := fun st => E γ k_Checker_act 8 626 [some (vr (some (4, this))), none, some (vi v2), some (vi v3)] st M285 (Qi Q)) hp (fun r286 h => ?_))
                            refine E_if_eq (off := 43) (tgt := 669) (by decide +kernel) (by decide) (fun b287 => ?_) (fun b287 => ?_)
                            · rw [if_pos b287] at h
                              refine E_blk (lv' := [some (vr (some (4, this))), none, some (vi v2), some (vi v3)]) (st' := [vi (0 : Int32)]) (M1 := M285) (pc' := 670) (tb_Checker hγ) [.iconst 0] (by decide +kernel) rfl rfl trivial ?_
                              exact E_zret rfl (Or.inl rfl) (by decide +kernel) h
                            · rw [if_neg b287] at h
                              obtain ⟨c288, h⟩ := h
                              refine E_blk (lv' := [some (vr (some (4, this))), none, some (vi v2), some (vi v3)]) (st' := [vi (mI M285 32 this ((mI M285 4 this 2) - (1 : Int32)).toNatClampNeg), vr (some (4, this))]) (M1 := M285) (pc' := 641) (tb_Checker hγ) [.aload_n 0, .aload_n 0, .getfield 19, .aload_n 0, .getfield 102, .iconst 1, .isub, .iaload] (by decide +kernel) rfl rfl ⟨c288, trivial⟩ ?_
                              refine E_callV (κ' := k_Checker_isUnmade) (As := [vi (mI M285 32 this ((mI M285 4 this 2) - (1 : Int32)).toNatClampNeg)]) (st := []) mv_Checker_isUnmade (Or.inl (tbk_mem (j := 7) (k := 220) rfl)) rfl (by decide +kernel) (Nat.le_of_ble_eq_true rfl) (Nat.le_of_ble_eq_true rfl) rfl (by decide) (lk_Checker_isUnmade hγ this (mI M285 32 this ((mI M285 4 this 2) - (1 : Int32)).toNatClampNeg) _ M285 h) (fun _ _ => Qi_r) (fun v M289 hp => Qi_k (R := fun st => E γ k_Checker_act 8 644 [some (vr (some (4, this))), none, some (vi v2), some (vi v3)] st M289 (Qi Q)) hp (fun r290 h => ?_))
                              refine E_if_ne (off := 13) (tgt := 657) (by decide +kernel) (by decide) (fun b291 => ?_) (fun b291 => ?_)
                              · rw [if_pos b291] at h
                                refine E_blk (lv' := [some (vr (some (4, this))), none, some (vi v2), some (vi v3)]) (st' := [vi (-5 : Int32), vi (0 : Int32), vr (some (4, this))]) (M1 := M289) (pc' := 651) (tb_Checker hγ) [.aload_n 0, .iconst 0, .bipush (.negSucc 4)] (by decide +kernel) rfl rfl trivial ?_
                                refine E_callV (κ' := k_Checker_is) (As := [vi (0 : Int32), vi (-5 : Int32)]) (st := []) mv_Checker_is (Or.inl (tbk_mem (j := 7) (k := 216) rfl)) rfl (by decide +kernel) (Nat.le_of_ble_eq_true rfl) (Nat.le_of_ble_eq_true rfl) rfl (by decide) (lk_Checker_is hγ this (0 : Int32) (-5 : Int32) _ M289 h) (fun _ _ => Qi_r) (fun v M292 hp => Qi_k (R := fun st => E γ k_Checker_act 8 654 [some (vr (some (4, this))), none, some (vi v2), some (vi v3)] st M292 (Qi Q)) hp (fun r293 h => ?_))
                                refine E_if_eq (off := 15) (tgt := 669) (by decide +kernel) (by decide) (fun b294 => ?_) (fun b294 => ?_)
                                · rw [if_pos b294] at h
                                  refine E_blk (lv' := [some (vr (some (4, this))), none, some (vi v2), some (vi v3)]) (st' := [vi (0 : Int32)]) (M1 := M292) (pc' := 670) (tb_Checker hγ) [.iconst 0] (by decide +kernel) rfl rfl trivial ?_
                                  exact E_zret rfl (Or.inl rfl) (by decide +kernel) h
                                · rw [if_neg b294] at h
                                  refine E_mask [true, false, false, true] rfl ?_
                                  exact lk_Checker_act_j657 hγ this Q v3 M292 h
                              · rw [if_neg b291] at h
                                refine E_mask [true, false, false, true] rfl ?_
                                exact lk_Checker_act_j657 hγ this Q v3 M289 h
                        · rw [if_neg b35] at h
                          by_cases b36 : v2 = (7 : Int32)
                          · rw [if_pos b36] at h
                            refine E.up (fun _ _ hJ => J_tswI (len := 261) (dflt := 856) (lo := 0) (hi := 61) (offs := #[261, 263, 269, 275, 347, 408, 438, 315, 856, 856, 856, 856, 856, 496, 856, 856, 856, 856, 856, 519, 543, 575, 596, 261, 856, 856, 856, 856, 856, 856, 856, 856, 856, 856, 856, 856, 617, 617, 642, 642, 856, 669, 681, 704, 728, 754, 856, 856, 856, 856, 856, 856, 856, 856, 777, 804, 828, 856, 856, 856, 617, 617]) (off := 315) (tgt := 490) (by decide +kernel) (by rw [b36]; decide) (by rw [b36]; decide) (by rw [b36]; rfl) (by decide) hJ) ?_
                            refine E_blk (lv' := [some (vr (some (4, this))), none, some (vi v2), some (vi v3)]) (st' := [vi v3, vr (some (4, this))]) (M1 := M24) (pc' := 492) (tb_Checker hγ) [.aload_n 0, .iload_n 3] (by decide +kernel) rfl rfl trivial ?_
                            refine E_callV (κ' := k_Checker_isThere) (As := [vi v3]) (st := []) mv_Checker_isThere (Or.inl (tbk_mem (j := 8) (k := 36) rfl)) rfl (by decide +kernel) (Nat.le_of_ble_eq_true rfl) (Nat.le_of_ble_eq_true rfl) rfl (by decide) (lk_Checker_isThere hγ this v3 _ M24 h) (fun _ _ => Qi_r) (fun v M274 hp => Qi_k (R := fun st => E γ k_Checker_act 8 495 [some (vr (some (4, this))), none, some (vi v2), some (vi v3)] st M274 (Qi Q)) hp (fun r275 h => ?_))
                            refine E_if_eq (off := 25) (tgt := 520) (by decide +kernel) (by decide) (fun b276 => ?_) (fun b276 => ?_)
                            · rw [if_pos b276] at h
                              refine E_blk (lv' := [some (vr (some (4, this))), none, some (vi v2), some (vi v3)]) (st' := [vi (0 : Int32)]) (M1 := M274) (pc' := 521) (tb_Checker hγ) [.iconst 0] (by decide +kernel) rfl rfl trivial ?_
                              exact E_zret rfl (Or.inl rfl) (by decide +kernel) h
                            · rw [if_neg b276] at h
                              obtain ⟨c277, h⟩ := h
                              refine E_blk (lv' := [some (vr (some (4, this))), none, some (vi v2), some (vi v3)]) (st' := [vi (mI M274 31 this v3.toNatClampNeg)]) (M1 := M274) (pc' := 504) (tb_Checker hγ) [.aload_n 0, .getfield 15, .iload_n 3, .iaload] (by decide +kernel) rfl rfl ⟨c277, trivial⟩ ?_
                              refine E_if_eq (off := 12) (tgt := 516) (by decide +kernel) (by decide) (fun b278 => ?_) (fun b278 => ?_)
                              · rw [if_pos b278] at h
                                refine E_blk (lv' := [some (vr (some (4, this))), none, some (vi v2), some (vi v3)]) (st' := [vi (1 : Int32)]) (M1 := M274) (pc' := 517) (tb_Checker hγ) [.iconst 1] (by decide +kernel) rfl rfl trivial ?_
                                refine E_goto (off := 4) (tgt := 521) (by decide +kernel) (by decide) ?_
                                exact E_zret rfl (Or.inr rfl) (by decide +kernel) h
                              · rw [if_neg b278] at h
                                refine E_blk (lv' := [some (vr (some (4, this))), none, some (vi v2), some (vi v3)]) (st' := [vi (34 : Int32), vr (some (4, this))]) (M1 := M274) (pc' := 510) (tb_Checker hγ) [.aload_n 0, .bipush 34] (by decide +kernel) rfl rfl trivial ?_
                                refine E_callV (κ' := k_Checker_breaks) (As := [vi (34 : Int32)]) (st := []) mv_Checker_breaks (Or.inl (tbk_mem (j := 7) (k := 147) rfl)) rfl (by decide +kernel) (Nat.le_of_ble_eq_true rfl) (Nat.le_of_ble_eq_true rfl) rfl (by decide) (lk_Checker_breaks hγ this (34 : Int32) _ M274 h) (fun _ _ => Qi_r) (fun v M279 hp => Qi_k (R := fun st => E γ k_Checker_act 8 513 [some (vr (some (4, this))), none, some (vi v2), some (vi v3)] st M279 (Qi Q)) hp (fun r280 h => ?_))
                                refine E_if_eq (off := 7) (tgt := 520) (by decide +kernel) (by decide) (fun b281 => ?_) (fun b281 => ?_)
                                · rw [if_pos b281] at h
                                  refine E_blk (lv' := [some (vr (some (4, this))), none, some (vi v2), some (vi v3)]) (st' := [vi (0 : Int32)]) (M1 := M279) (pc' := 521) (tb_Checker hγ) [.iconst 0] (by decide +kernel) rfl rfl trivial ?_
                                  exact E_zret rfl (Or.inl rfl) (by decide +kernel) h
                                · rw [if_neg b281] at h
                                  refine E_blk (lv' := [some (vr (some (4, this))), none, some (vi v2), some (vi v3)]) (st' := [vi (1 : Int32)]) (M1 := M279) (pc' := 517) (tb_Checker hγ) [.iconst 1] (by decide +kernel) rfl rfl trivial ?_
                                  refine E_goto (off := 4) (tgt := 521) (by decide +kernel) (by decide) ?_
                                  exact E_zret rfl (Or.inr rfl) (by decide +kernel) h
                          · rw [if_neg b36] at h
                            by_cases b37 : v2 = (8 : Int32)
                            · rw [if_pos b37] at h
                              refine E.up (fun _ _ hJ => J_tswI (len := 261) (dflt := 856) (lo := 0) (hi := 61) (offs := #[261, 263, 269, 275, 347, 408, 438, 315, 856, 856, 856, 856, 856, 496, 856, 856, 856, 856, 856, 519, 543, 575, 596, 261, 856, 856, 856, 856, 856, 856, 856, 856, 856, 856, 856, 856, 617, 617, 642, 642, 856, 669, 681, 704, 728, 754, 856, 856, 856, 856, 856, 856, 856, 856, 777, 804, 828, 856, 856, 856, 617, 617]) (off := 856) (tgt := 1031) (by decide +kernel) (by rw [b37]; decide) (by rw [b37]; decide) (by rw [b37]; rfl) (by decide) hJ) ?_
                              refine E_blk (lv' := [some (vr (some (4, this))), none, some (vi v2), some (vi v3)]) (st' := [vi v2, vr (some (4, this))]) (M1 := M24) (pc' := 1033) (tb_Checker hγ) [.aload_n 0, .iload_n 2] (by decide +kernel) rfl rfl trivial ?_
                              refine E_callV (κ' := k_Checker_leaves) (As := [vi v2]) (st := []) mv_Checker_leaves (Or.inl (tbk_mem (j := 8) (k := 56) rfl)) rfl (by decide +kernel) (Nat.le_of_ble_eq_true rfl) (Nat.le_of_ble_eq_true rfl) rfl (by decide) (lk_Checker_leaves hγ this v2 _ M24 h) (fun _ _ => Qi_r) (fun v M272 hp => Qi_k (R := fun st => E γ k_Checker_act 8 1036 [some (vr (some (4, this))), none, some (vi v2), some (vi v3)] st M272 (Qi Q)) hp (fun r273 h => ?_))
                              exact E_zret rfl h.1 (by decide +kernel) h.2
                            · rw [if_neg b37] at h
                              by_cases b38 : v2 = (9 : Int32)
                              · rw [if_pos b38] at h
                                refine E.up (fun _ _ hJ => J_tswI (len := 261) (dflt := 856) (lo := 0) (hi := 61) (offs := #[261, 263, 269, 275, 347, 408, 438, 315, 856, 856, 856, 856, 856, 496, 856, 856, 856, 856, 856, 519, 543, 575, 596, 261, 856, 856, 856, 856, 856, 856, 856, 856, 856, 856, 856, 856, 617, 617, 642, 642, 856, 669, 681, 704, 728, 754, 856, 856, 856, 856, 856, 856, 856, 856, 777, 804, 828, 856, 856, 856, 617, 617]) (off := 856) (tgt := 1031) (by decide +kernel) (by rw [b38]; decide) (by rw [b38]; decide) (by rw [b38]; rfl) (by decide) hJ) ?_
                                refine E_blk (lv' := [some (vr (some (4, this))), none, some (vi v2), some (vi v3)]) (st' := [vi v2, vr (some (4, this))]) (M1 := M24) (pc' := 1033) (tb_Checker hγ) [.aload_n 0, .iload_n 2] (by decide +kernel) rfl rfl trivial ?_
                                refine E_callV (κ' := k_Checker_leaves) (As := [vi v2]) (st := []) mv_Checker_leaves (Or.inl (tbk_mem (j := 8) (k := 56) rfl)) rfl (by decide +kernel) (Nat.le_of_ble_eq_true rfl) (Nat.le_of_ble_eq_true rfl) rfl (by decide) (lk_Checker_leaves hγ this v2 _ M24 h) (fun _ _ => Qi_r) (fun v M270 hp => Qi_k (R := fun st => E γ k_Checker_act 8 1036 [some (vr (some (4, this))), none, some (vi v2), some (vi v3)] st M270 (Qi Q)) hp (fun r271 h => ?_))
                                exact E_zret rfl h.1 (by decide +kernel) h.2
                              · rw [if_neg b38] at h
                                by_cases b39 : v2 = (10 : Int32)
                                · rw [if_pos b39] at h
                                  refine E.up (fun _ _ hJ => J_tswI (len := 261) (dflt := 856) (lo := 0) (hi := 61) (offs := #[261, 263, 269, 275, 347, 408, 438, 315, 856, 856, 856, 856, 856, 496, 856, 856, 856, 856, 856, 519, 543, 575, 596, 261, 856, 856, 856, 856, 856, 856, 856, 856, 856, 856, 856, 856, 617, 617, 642, 642, 856, 669, 681, 704, 728, 754, 856, 856, 856, 856, 856, 856, 856, 856, 777, 804, 828, 856, 856, 856, 617, 617]) (off := 856) (tgt := 1031) (by decide +kernel) (by rw [b39]; decide) (by rw [b39]; decide) (by rw [b39]; rfl) (by decide) hJ) ?_
                                  refine E_blk (lv' := [some (vr (some (4, this))), none, some (vi v2), some (vi v3)]) (st' := [vi v2, vr (some (4, this))]) (M1 := M24) (pc' := 1033) (tb_Checker hγ) [.aload_n 0, .iload_n 2] (by decide +kernel) rfl rfl trivial ?_
                                  refine E_callV (κ' := k_Checker_leaves) (As := [vi v2]) (st := []) mv_Checker_leaves (Or.inl (tbk_mem (j := 8) (k := 56) rfl)) rfl (by decide +kernel) (Nat.le_of_ble_eq_true rfl) (Nat.le_of_ble_eq_true rfl) rfl (by decide) (lk_Checker_leaves hγ this v2 _ M24 h) (fun _ _ => Qi_r) (fun v M268 hp => Qi_k (R := fun st => E γ k_Checker_act 8 1036 [some (vr (some (4, this))), none, some (vi v2), some (vi v3)] st M268 (Qi Q)) hp (fun r269 h => ?_))
                                  exact E_zret rfl h.1 (by decide +kernel) h.2
                                · rw [if_neg b39] at h
                                  by_cases b40 : v2 = (11 : Int32)
                                  · rw [if_pos b40] at h
                                    refine E.up (fun _ _ hJ => J_tswI (len := 261) (dflt := 856) (lo := 0) (hi := 61) (offs := #[261, 263, 269, 275, 347, 408, 438, 315, 856, 856, 856, 856, 856, 496, 856, 856, 856, 856, 856, 519, 543, 575, 596, 261, 856, 856, 856, 856, 856, 856, 856, 856, 856, 856, 856, 856, 617, 617, 642, 642, 856, 669, 681, 704, 728, 754, 856, 856, 856, 856, 856, 856, 856, 856, 777, 804, 828, 856, 856, 856, 617, 617]) (off := 856) (tgt := 1031) (by decide +kernel) (by rw [b40]; decide) (by rw [b40]; decide) (by rw [b40]; rfl) (by decide) hJ) ?_
                                    refine E_blk (lv' := [some (vr (some (4, this))), none, some (vi v2), some (vi v3)]) (st' := [vi v2, vr (some (4, this))]) (M1 := M24) (pc' := 1033) (tb_Checker hγ) [.aload_n 0, .iload_n 2] (by decide +kernel) rfl rfl trivial ?_
                                    refine E_callV (κ' := k_Checker_leaves) (As := [vi v2]) (st := []) mv_Checker_leaves (Or.inl (tbk_mem (j := 8) (k := 56) rfl)) rfl (by decide +kernel) (Nat.le_of_ble_eq_true rfl) (Nat.le_of_ble_eq_true rfl) rfl (by decide) (lk_Checker_leaves hγ this v2 _ M24 h) (fun _ _ => Qi_r) (fun v M266 hp => Qi_k (R := fun st => E γ k_Checker_act 8 1036 [some (vr (some (4, this))), none, some (vi v2), some (vi v3)] st M266 (Qi Q)) hp (fun r267 h => ?_))
                                    exact E_zret rfl h.1 (by decide +kernel) h.2
                                  · rw [if_neg b40] at h
                                    by_cases b41 : v2 = (12 : Int32)
                                    · rw [if_pos b41] at h
                                      refine E.up (fun _ _ hJ => J_tswI (len := 261) (dflt := 856) (lo := 0) (hi := 61) (offs := #[261, 263, 269, 275, 347, 408, 438, 315, 856, 856, 856, 856, 856, 496, 856, 856, 856, 856, 856, 519, 543, 575, 596, 261, 856, 856, 856, 856, 856, 856, 856, 856, 856, 856, 856, 856, 617, 617, 642, 642, 856, 669, 681, 704, 728, 754, 856, 856, 856, 856, 856, 856, 856, 856, 777, 804, 828, 856, 856, 856, 617, 617]) (off := 856) (tgt := 1031) (by decide +kernel) (by rw [b41]; decide) (by rw [b41]; decide) (by rw [b41]; rfl) (by decide) hJ) ?_
                                      refine E_blk (lv' := [some (vr (some (4, this))), none, some (vi v2), some (vi v3)]) (st' := [vi v2, vr (some (4, this))]) (M1 := M24) (pc' := 1033) (tb_Checker hγ) [.aload_n 0, .iload_n 2] (by decide +kernel) rfl rfl trivial ?_
                                      refine E_callV (κ' := k_Checker_leaves) (As := [vi v2]) (st := []) mv_Checker_leaves (Or.inl (tbk_mem (j := 8) (k := 56) rfl)) rfl (by decide +kernel) (Nat.le_of_ble_eq_true rfl) (Nat.le_of_ble_eq_true rfl) rfl (by decide) (lk_Checker_leaves hγ this v2 _ M24 h) (fun _ _ => Qi_r) (fun v M264 hp => Qi_k (R := fun st => E γ k_Checker_act 8 1036 [some (vr (some (4, this))), none, some (vi v2), some (vi v3)] st M264 (Qi Q)) hp (fun r265 h => ?_))
                                      exact E_zret rfl h.1 (by decide +kernel) h.2
                                    · rw [if_neg b41] at h
                                      by_cases b42 : v2 = (13 : Int32)
                                      · rw [if_pos b42] at h
                                        refine E.up (fun _ _ hJ => J_tswI (len := 261) (dflt := 856) (lo := 0) (hi := 61) (offs := #[261, 263, 269, 275, 347, 408, 438, 315, 856, 856, 856, 856, 856, 496, 856, 856, 856, 856, 856, 519, 543, 575, 596, 261, 856, 856, 856, 856, 856, 856, 856, 856, 856, 856, 856, 856, 617, 617, 642, 642, 856, 669, 681, 704, 728, 754, 856, 856, 856, 856, 856, 856, 856, 856, 777, 804, 828, 856, 856, 856, 617, 617]) (off := 496) (tgt := 671) (by decide +kernel) (by rw [b42]; decide) (by rw [b42]; decide) (by rw [b42]; rfl) (by decide) hJ) ?_
                                        refine E_blk (lv' := [some (vr (some (4, this))), none, some (vi v2), some (vi v3)]) (st' := [vi (0 : Int32), vr (some (4, this))]) (M1 := M24) (pc' := 673) (tb_Checker hγ) [.aload_n 0, .iconst 0] (by decide +kernel) rfl rfl trivial ?_
                                        refine E_callV (κ' := k_Checker_wants1) (As := [vi (0 : Int32)]) (st := []) mv_Checker_wants1 (Or.inl (tbk_mem (j := 7) (k := 236) rfl)) rfl (by decide +kernel) (Nat.le_of_ble_eq_true rfl) (Nat.le_of_ble_eq_true rfl) rfl (by decide) (lk_Checker_wants1 hγ this (0 : Int32) _ M24 h) (fun _ _ => Qi_r) (fun v M258 hp => Qi_k (R := fun st => E γ k_Checker_act 8 676 [some (vr (some (4, this))), none, some (vi v2), some (vi v3)] st M258 (Qi Q)) hp (fun r259 h => ?_))
                                        refine E_if_eq (off := 16) (tgt := 692) (by decide +kernel) (by decide) (fun b260 => ?_) (fun b260 => ?_)
                                        · rw [if_pos b260] at h
                                          refine E_blk (lv' := [some (vr (some (4, this))), none, some (vi v2), some (vi v3)]) (st' := [vi (0 : Int32)]) (M1 := M258) (pc' := 693) (tb_Checker hγ) [.iconst 0] (by decide +kernel) rfl rfl trivial ?_
                                          exact E_zret rfl (Or.inl rfl) (by decide +kernel) h
                                        · rw [if_neg b260] at h
                                          refine E_blk (lv' := [some (vr (some (4, this))), none, some (vi v2), some (vi v3)]) (st' := [vi (0 : Int32), vi (1 : Int32), vr (some (4, this))]) (M1 := M258) (pc' := 682) (tb_Checker hγ) [.aload_n 0, .iconst 1, .iconst 0] (by decide +kernel) rfl rfl trivial ?_
                                          refine E_callV (κ' := k_Checker_comes) (As := [vi (1 : Int32), vi (0 : Int32)]) (st := []) mv_Checker_comes (Or.inl (tbk_mem (j := 7) (k := 228) rfl)) rfl (by decide +kernel) (Nat.le_of_ble_eq_true rfl) (Nat.le_of_ble_eq_true rfl) rfl (by decide) (lk_Checker_comes hγ this (1 : Int32) (0 : Int32) _ M258 h) (fun _ _ => Qi_r) (fun v M261 hp => Qi_k (R := fun st => E γ k_Checker_act 8 685 [some (vr (some (4, this))), none, some (vi v2), some (vi v3)] st M261 (Qi Q)) hp (fun r262 h => ?_))
                                          refine E_if_eq (off := 7) (tgt := 692) (by decide +kernel) (by decide) (fun b263 => ?_) (fun b263 => ?_)
                                          · rw [if_pos b263] at h
                                            refine E_blk (lv' := [some (vr (some (4, this))), none, some (vi v2), some (vi v3)]) (st' := [vi (0 : Int32)]) (M1 := M261) (pc' := 693) (tb_Checker hγ) [.iconst 0] (by decide +kernel) rfl rfl trivial ?_
                                            exact E_zret rfl (Or.inl rfl) (by decide +kernel) h
                                          · rw [if_neg b263] at h
                                            refine E_blk (lv' := [some (vr (some (4, this))), none, some (vi v2), some (vi v3)]) (st' := [vi (1 : Int32)]) (M1 := M261) (pc' := 689) (tb_Checker hγ) [.iconst 1] (by decide +kernel) rfl rfl trivial ?_
                                            refine E_goto (off := 4) (tgt := 693) (by decide +kernel) (by decide) ?_
                                            exact E_zret rfl (Or.inr rfl) (by decide +kernel) h
                                      · rw [if_neg b42] at h
                                        by_cases b43 : v2 = (14 : Int32)
                                        · rw [if_pos b43] at h
                                          refine E.up (fun _ _ hJ => J_tswI (len := 261) (dflt := 856) (lo := 0) (hi := 61) (offs := #[261, 263, 269, 275, 347, 408, 438, 315, 856, 856, 856, 856, 856, 496, 856, 856, 856, 856, 856, 519, 543, 575, 596, 261, 856, 856, 856, 856, 856, 856, 856, 856, 856, 856, 856, 856, 617, 617, 642, 642, 856, 669, 681, 704, 728, 754, 856, 856, 856, 856, 856, 856, 856, 856, 777, 804, 828, 856, 856, 856, 617, 617]) (off := 856) (tgt := 1031) (by decide +kernel) (by rw [b43]; decide) (by rw [b43]; decide) (by rw [b43]; rfl) (by decide) hJ) ?_
                                          refine E_blk (lv' := [some (vr (some (4, this))), none, some (vi v2), some (vi v3)]) (st' := [vi v2, vr (some (4, this))]) (M1 := M24) (pc' := 1033) (tb_Checker hγ) [.aload_n 0, .iload_n 2] (by decide +kernel) rfl rfl trivial ?_
                                          refine E_callV (κ' := k_Checker_leaves) (As := [vi v2]) (st := []) mv_Checker_leaves (Or.inl (tbk_mem (j := 8) (k := 56) rfl)) rfl (by decide +kernel) (Nat.le_of_ble_eq_true rfl) (Nat.le_of_ble_eq_true rfl) rfl (by decide) (lk_Checker_leaves hγ this v2 _ M24 h) (fun _ _ => Qi_r) (fun v M256 hp => Qi_k (R := fun st => E γ k_Checker_act 8 1036 [some (vr (some (4, this))), none, some (vi v2), some (vi v3)] st M256 (Qi Q)) hp (fun r257 h => ?_))
                                          exact E_zret rfl h.1 (by decide +kernel) h.2
                                        · rw [if_neg b43] at h
                                          by_cases b44 : v2 = (15 : Int32)
                                          · rw [if_pos b44] at h
                                            refine E.up (fun _ _ hJ => J_tswI (len := 261) (dflt := 856) (lo := 0) (hi := 61) (offs := #[261, 263, 269, 275, 347, 408, 438, 315, 856, 856, 856, 856, 856, 496, 856, 856, 856, 856, 856, 519, 543, 575, 596, 261, 856, 856, 856, 856, 856, 856, 856, 856, 856, 856, 856, 856, 617, 617, 642, 642, 856, 669, 681, 704, 728, 754, 856, 856, 856, 856, 856, 856, 856, 856, 777, 804, 828, 856, 856, 856, 617, 617]) (off := 856) (tgt := 1031) (by decide +kernel) (by rw [b44]; decide) (by rw [b44]; decide) (by rw [b44]; rfl) (by decide) hJ) ?_
                                            refine E_blk (lv' := [some (vr (some (4, this))), none, some (vi v2), some (vi v3)]) (st' := [vi v2, vr (some (4, this))]) (M1 := M24) (pc' := 1033) (tb_Checker hγ) [.aload_n 0, .iload_n 2] (by decide +kernel) rfl rfl trivial ?_
                                            refine E_callV (κ' := k_Checker_leaves) (As := [vi v2]) (st := []) mv_Checker_leaves (Or.inl (tbk_mem (j := 8) (k := 56) rfl)) rfl (by decide +kernel) (Nat.le_of_ble_eq_true rfl) (Nat.le_of_ble_eq_true rfl) rfl (by decide) (lk_Checker_leaves hγ this v2 _ M24 h) (fun _ _ => Qi_r) (fun v M254 hp => Qi_k (R := fun st => E γ k_Checker_act 8 1036 [some (vr (some (4, this))), none, some (vi v2), some (vi v3)] st M254 (Qi Q)) hp (fun r255 h => ?_))
                                            exact E_zret rfl h.1 (by decide +kernel) h.2
                                          · rw [if_neg b44] at h
                                            by_cases b45 : v2 = (16 : Int32)
                                            · rw [if_pos b45] at h
                                              refine E.up (fun _ _ hJ => J_tswI (len := 261) (dflt := 856) (lo := 0) (hi := 61) (offs := #[261, 263, 269, 275, 347, 408, 438, 315, 856, 856, 856, 856, 856, 496, 856, 856, 856, 856, 856, 519, 543, 575, 596, 261, 856, 856, 856, 856, 856, 856, 856, 856, 856, 856, 856, 856, 617, 617, 642, 642, 856, 669, 681, 704, 728, 754, 856, 856, 856, 856, 856, 856, 856, 856, 777, 804, 828, 856, 856, 856, 617, 617]) (off := 856) (tgt := 1031) (by decide +kernel) (by rw [b45]; decide) (by rw [b45]; decide) (by rw [b45]; rfl) (by decide) hJ) ?_
                                              refine E_blk (lv' := [some (vr (some (4, this))), none, some (vi v2), some (vi v3)]) (st' := [vi v2, vr (some (4, this))]) (M1 := M24) (pc' := 1033) (tb_Checker hγ) [.aload_n 0, .iload_n 2] (by decide +kernel) rfl rfl trivial ?_
                                              refine E_callV (κ' := k_Checker_leaves) (As := [vi v2]) (st := []) mv_Checker_leaves (Or.inl (tbk_mem (j := 8) (k := 56) rfl)) rfl (by decide +kernel) (Nat.le_of_ble_eq_true rfl) (Nat.le_of_ble_eq_true rfl) rfl (by decide) (lk_Checker_leaves hγ this v2 _ M24 h) (fun _ _ => Qi_r) (fun v M252 hp => Qi_k (R := fun st => E γ k_Checker_act 8 1036 [some (vr (some (4, this))), none, some (vi v2), some (vi v3)] st M252 (Qi Q)) hp (fun r253 h => ?_))
                                              exact E_zret rfl h.1 (by decide +kernel) h.2
                                            · rw [if_neg b45] at h
                                              by_cases b46 : v2 = (17 : Int32)
                                              · rw [if_pos b46] at h
                                                refine E.up (fun _ _ hJ => J_tswI (len := 261) (dflt := 856) (lo := 0) (hi := 61) (offs := #[261, 263, 269, 275, 347, 408, 438, 315, 856, 856, 856, 856, 856, 496, 856, 856, 856, 856, 856, 519, 543, 575, 596, 261, 856, 856, 856, 856, 856, 856, 856, 856, 856, 856, 856, 856, 617, 617, 642, 642, 856, 669, 681, 704, 728, 754, 856, 856, 856, 856, 856, 856, 856, 856, 777, 804, 828, 856, 856, 856, 617, 617]) (off := 856) (tgt := 1031) (by decide +kernel) (by rw [b46]; decide) (by rw [b46]; decide) (by rw [b46]; rfl) (by decide) hJ) ?_
                                                refine E_blk (lv' := [some (vr (some (4, this))), none, some (vi v2), some (vi v3)]) (st' := [vi v2, vr (some (4, this))]) (M1 := M24) (pc' := 1033) (tb_Checker hγ) [.aload_n 0, .iload_n 2] (by decide +kernel) rfl rfl trivial ?_
                                                refine E_callV (κ' := k_Checker_leaves) (As := [vi v2]) (st := []) mv_Checker_leaves (Or.inl (tbk_mem (j := 8) (k := 56) rfl)) rfl (by decide +kernel) (Nat.le_of_ble_eq_true rfl) (Nat.le_of_ble_eq_true rfl) rfl (by decide) (lk_Checker_leaves hγ this v2 _ M24 h) (fun _ _ => Qi_r) (fun v M250 hp => Qi_k (R := fun st => E γ k_Checker_act 8 1036 [some (vr (some (4, this))), none, some (vi v2), some (vi v3)] st M250 (Qi Q)) hp (fun r251 h => ?_))
                                                exact E_zret rfl h.1 (by decide +kernel) h.2
                                              · rw [if_neg b46] at h
                                                by_cases b47 : v2 = (18 : Int32)
                                                · rw [if_pos b47] at h
                                                  refine E.up (fun _ _ hJ => J_tswI (len := 261) (dflt := 856) (lo := 0) (hi := 61) (offs := #[261, 263, 269, 275, 347, 408, 438, 315, 856, 856, 856, 856, 856, 496, 856, 856, 856, 856, 856, 519, 543, 575, 596, 261, 856, 856, 856, 856, 856, 856, 856, 856, 856, 856, 856, 856, 617, 617, 642, 642, 856, 669, 681, 704, 728, 754, 856, 856, 856, 856, 856, 856, 856, 856, 777, 804, 828, 856, 856, 856, 617, 617]) (off := 856) (tgt := 1031) (by decide +kernel) (by rw [b47]; decide) (by rw [b47]; decide) (by rw [b47]; rfl) (by decide) hJ) ?_
                                                  refine E_blk (lv' := [some (vr (some (4, this))), none, some (vi v2), some (vi v3)]) (st' := [vi v2, vr (some (4, this))]) (M1 := M24) (pc' := 1033) (tb_Checker hγ) [.aload_n 0, .iload_n 2] (by decide +kernel) rfl rfl trivial ?_
                                                  refine E_callV (κ' := k_Checker_leaves) (As := [vi v2]) (st := []) mv_Checker_leaves (Or.inl (tbk_mem (j := 8) (k := 56) rfl)) rfl (by decide +kernel) (Nat.le_of_ble_eq_true rfl) (Nat.le_of_ble_eq_true rfl) rfl (by decide) (lk_Checker_leaves hγ this v2 _ M24 h) (fun _ _ => Qi_r) (fun v M248 hp => Qi_k (R := fun st => E γ k_Checker_act 8 1036 [some (vr (some (4, this))), none, some (vi v2), some (vi v3)] st M248 (Qi Q)) hp (fun r249 h => ?_))
                                                  exact E_zret rfl h.1 (by decide +kernel) h.2
                                                · rw [if_neg b47] at h
                                                  by_cases b48 : v2 = (19 : Int32)
                                                  · rw [if_pos b48] at h
                                                    refine E.up (fun _ _ hJ => J_tswI (len := 261) (dflt := 856) (lo := 0) (hi := 61) (offs := #[261, 263, 269, 275, 347, 408, 438, 315, 856, 856, 856, 856, 856, 496, 856, 856, 856, 856, 856, 519, 543, 575, 596, 261, 856, 856, 856, 856, 856, 856, 856, 856, 856, 856, 856, 856, 617, 617, 642, 642, 856, 669, 681, 704, 728, 754, 856, 856, 856, 856, 856, 856, 856, 856, 777, 804, 828, 856, 856, 856, 617, 617]) (off := 519) (tgt := 694) (by decide +kernel) (by rw [b48]; decide) (by rw [b48]; decide) (by rw [b48]; rfl) (by decide) hJ) ?_
                                                    refine E_blk (lv' := [some (vr (some (4, this))), none, some (vi v2), some (vi v3)]) (st' := [vi (1 : Int32), vr (some (4, this))]) (M1 := M24) (pc' := 696) (tb_Checker hγ) [.aload_n 0, .iconst 1] (by decide +kernel) rfl rfl trivial ?_
                                                    refine E_callV (κ' := k_Checker_needs) (As := [vi (1 : Int32)]) (st := []) mv_Checker_needs (Or.inl (tbk_mem (j := 7) (k := 212) rfl)) rfl (by decide +kernel) (Nat.le_of_ble_eq_true rfl) (Nat.le_of_ble_eq_true rfl) rfl (by decide) (lk_Checker_needs hγ this (1 : Int32) _ M24 h) (fun _ _ => Qi_r) (fun v M242 hp => Qi_k (R := fun st => E γ k_Checker_act 8 699 [some (vr (some (4, this))), none, some (vi v2), some (vi v3)] st M242 (Qi Q)) hp (fun r243 h => ?_))
                                                    refine E_if_eq (off := 17) (tgt := 716) (by decide +kernel) (by decide) (fun b244 => ?_) (fun b244 => ?_)
                                                    · rw [if_pos b244] at h
                                                      refine E_blk (lv' := [some (vr (some (4, this))), none, some (vi v2), some (vi v3)]) (st' := [vi (0 : Int32)]) (M1 := M242) (pc' := 717) (tb_Checker hγ) [.iconst 0] (by decide +kernel) rfl rfl trivial ?_
                                                      exact E_zret rfl (Or.inl rfl) (by decide +kernel) h
                                                    · rw [if_neg b244] at h
                                                      refine E_blk (lv' := [some (vr (some (4, this))), none, some (vi v2), some (vi v3)]) (st' := [vi (-4 : Int32), vi (1 : Int32), vr (some (4, this))]) (M1 := M242) (pc' := 706) (tb_Checker hγ) [.aload_n 0, .iconst 1, .bipush (.negSucc 3)] (by decide +kernel) rfl rfl trivial ?_
                                                      refine E_callV (κ' := k_Checker_comes) (As := [vi (1 : Int32), vi (-4 : Int32)]) (st := []) mv_Checker_comes (Or.inl (tbk_mem (j := 7) (k := 228) rfl)) rfl (by decide +kernel) (Nat.le_of_ble_eq_true rfl) (Nat.le_of_ble_eq_true rfl) rfl (by decide) (lk_Checker_comes hγ this (1 : Int32) (-4 : Int32) _ M242 h) (fun _ _ => Qi_r) (fun v M245 hp => Qi_k (R := fun st => E γ k_Checker_act 8 709 [some (vr (some (4, this))), none, some (vi v2), some (vi v3)] st M245 (Qi Q)) hp (fun r246 h => ?_))
                                                      refine E_if_eq (off := 7) (tgt := 716) (by decide +kernel) (by decide) (fun b247 => ?_) (fun b247 => ?_)
                                                      · rw [if_pos b247] at h
                                                        refine E_blk (lv' := [some (vr (some (4, this))), none, some (vi v2), some (vi v3)]) (st' := [vi (0 : Int32)]) (M1 := M245) (pc' := 717) (tb_Checker hγ) [.iconst 0] (by decide +kernel) rfl rfl trivial ?_
                                                        exact E_zret rfl (Or.inl rfl) (by decide +kernel) h
                                                      · rw [if_neg b247] at h
                                                        refine E_blk (lv' := [some (vr (some (4, this))), none, some (vi v2), some (vi v3)]) (st' := [vi (1 : Int32)]) (M1 := M245) (pc' := 713) (tb_Checker hγ) [.iconst 1] (by decide +kernel) rfl rfl trivial ?_
                                                        refine E_goto (off := 4) (tgt := 717) (by decide +kernel) (by decide) ?_
                                                        exact E_zret rfl (Or.inr rfl) (by decide +kernel) h
                                                  · rw [if_neg b48] at h
                                                    by_cases b49 : v2 = (20 : Int32)
                                                    · rw [if_pos b49] at h
                                                      refine E.up (fun _ _ hJ => J_tswI (len := 261) (dflt := 856) (lo := 0) (hi := 61) (offs := #[261, 263, 269, 275, 347, 408, 438, 315, 856, 856, 856, 856, 856, 496, 856, 856, 856, 856, 856, 519, 543, 575, 596, 261, 856, 856, 856, 856, 856, 856, 856, 856, 856, 856, 856, 856, 617, 617, 642, 642, 856, 669, 681, 704, 728, 754, 856, 856, 856, 856, 856, 856, 856, 856, 777, 804, 828, 856, 856, 856, 617, 617]) (off := 543) (tgt := 718) (by decide +kernel) (by rw [b49]; decide) (by rw [b49]; decide) (by rw [b49]; rfl) (by decide) hJ) ?_
                                                      refine E_blk (lv' := [some (vr (some (4, this))), none, some (vi v2), some (vi v3)]) (st' := [vi (1 : Int32), vr (some (4, this))]) (M1 := M24) (pc' := 720) (tb_Checker hγ) [.aload_n 0, .iconst 1] (by decide +kernel) rfl rfl trivial ?_
                                                      refine E_callV (κ' := k_Checker_needs) (As := [vi (1 : Int32)]) (st := []) mv_Checker_needs (Or.inl (tbk_mem (j := 7) (k := 212) rfl)) rfl (by decide +kernel) (Nat.le_of_ble_eq_true rfl) (Nat.le_of_ble_eq_true rfl) rfl (by decide) (lk_Checker_needs hγ this (1 : Int32) _ M24 h) (fun _ _ => Qi_r) (fun v M235 hp => Qi_k (R := fun st => E γ k_Checker_act 8 723 [some (vr (some (4, this))), none, some (vi v2), some (vi v3)] st M235 (Qi Q)) hp (fun r236 h => ?_))
                                                      refine E_if_eq (off := 25) (tgt := 748) (by decide +kernel) (by decide) (fun b237 => ?_) (fun b237 => ?_)
                                                      · rw [if_pos b237] at h
                                                        refine E_blk (lv' := [some (vr (some (4, this))), none, some (vi v2), some (vi v3)]) (st' := [vi (0 : Int32)]) (M1 := M235) (pc' := 749) (tb_Checker hγ) [.iconst 0] (by decide +kernel) rfl rfl trivial ?_
                                                        exact E_zret rfl (Or.inl rfl) (by decide +kernel) h
                                                      · rw [if_neg b237] at h
                                                        obtain ⟨c238, h⟩ := h
                                                        refine E_blk (lv' := [some (vr (some (4, this))), none, some (vi v2), some (vi v3)]) (st' := [vi (mI M235 32 this ((mI M235 4 this 2) - (1 : Int32)).toNatClampNeg), vr (some (4, this))]) (M1 := M235) (pc' := 738) (tb_Checker hγ) [.aload_n 0, .aload_n 0, .getfield 19, .aload_n 0, .getfield 102, .iconst 1, .isub, .iaload] (by decide +kernel) rfl rfl ⟨c238, trivial⟩ ?_
                                                        refine E_callV (κ' := k_Checker_push) (As := [vi (mI M235 32 this ((mI M235 4 this 2) - (1 : Int32)).toNatClampNeg)]) (st := []) mv_Checker_push (Or.inl (tbk_mem (j := 7) (k := 232) rfl)) rfl (by decide +kernel) (Nat.le_of_ble_eq_true rfl) (Nat.le_of_ble_eq_true rfl) rfl (by decide) (lk_Checker_push hγ this (mI M235 32 this ((mI M235 4 this 2) - (1 : Int32)).toNatClampNeg) _ M235 h) (fun _ _ => Qi_r) (fun v M239 hp => Qi_k (R := fun st => E γ k_Checker_act 8 741 [some (vr (some (4, this))), none, some (vi v2), some (vi v3)] st M239 (Qi Q)) hp (fun r240 h => ?_))
                                                        refine E_if_eq (off := 7) (tgt := 748) (by decide +kernel) (by decide) (fun b241 => ?_) (fun b241 => ?_)
                                                        · rw [if_pos b241] at h
                                                          refine E_blk (lv' := [some (vr (some (4, this))), none, some (vi v2), some (vi v3)]) (st' := [vi (0 : Int32)]) (M1 := M239) (pc' := 749) (tb_Checker hγ) [.iconst 0] (by decide +kernel) rfl rfl trivial ?_
                                                          exact E_zret rfl (Or.inl rfl) (by decide +kernel) h
                                                        · rw [if_neg b241] at h
                                                          refine E_blk (lv' := [some (vr (some (4, this))), none, some (vi v2), some (vi v3)]) (st' := [vi (1 : Int32)]) (M1 := M239) (pc' := 745) (tb_Checker hγ) [.iconst 1] (by decide +kernel) rfl rfl trivial ?_
                                                          refine E_goto (off := 4) (tgt := 749) (by decide +kernel) (by decide) ?_
                                                          exact E_zret rfl (Or.inr rfl) (by decide +kernel) h
                                                    · rw [if_neg b49] at h
                                                      by_cases b50 : v2 = (21 : Int32)
                                                      · rw [if_pos b50] at h
                                                        refine E.up (fun _ _ hJ => J_tswI (len := 261) (dflt := 856) (lo := 0) (hi := 61) (offs := #[261, 263, 269, 275, 347, 408, 438, 315, 856, 856, 856, 856, 856, 496, 856, 856, 856, 856, 856, 519, 543, 575, 596, 261, 856, 856, 856, 856, 856, 856, 856, 856, 856, 856, 856, 856, 617, 617, 642, 642, 856, 669, 681, 704, 728, 754, 856, 856, 856, 856, 856, 856, 856, 856, 777, 804, 828, 856, 856, 856, 617, 617]) (off := 575) (tgt := 750) (by decide +kernel) (by rw [b50]; decide) (by rw [b50]; decide) (by rw [b50]; rfl) (by decide) hJ) ?_
                                                        refine E_blk (lv' := [some (vr (some (4, this))), none, some (vi v2), some (vi v3)]) (st' := [vi (2 : Int32), vr (some (4, this))]) (M1 := M24) (pc' := 752) (tb_Checker hγ) [.aload_n 0, .iconst 2] (by decide +kernel) rfl rfl trivial ?_
                                                        refine E_callV (κ' := k_Checker_needs) (As := [vi (2 : Int32)]) (st := []) mv_Checker_needs (Or.inl (tbk_mem (j := 7) (k := 212) rfl)) rfl (by decide +kernel) (Nat.le_of_ble_eq_true rfl) (Nat.le_of_ble_eq_true rfl) rfl (by decide) (lk_Checker_needs hγ this (2 : Int32) _ M24 h) (fun _ _ => Qi_r) (fun v M229 hp => Qi_k (R := fun st => E γ k_Checker_act 8 755 [some (vr (some (4, this))), none, some (vi v2), some (vi v3)] st M229 (Qi Q)) hp (fun r230 h => ?_))
                                                        refine E_if_eq (off := 14) (tgt := 769) (by decide +kernel) (by decide) (fun b231 => ?_) (fun b231 => ?_)
                                                        · rw [if_pos b231] at h
                                                          refine E_blk (lv' := [some (vr (some (4, this))), none, some (vi v2), some (vi v3)]) (st' := [vi (0 : Int32)]) (M1 := M229) (pc' := 770) (tb_Checker hγ) [.iconst 0] (by decide +kernel) rfl rfl trivial ?_
                                                          exact E_zret rfl (Or.inl rfl) (by decide +kernel) h
                                                        · rw [if_neg b231] at h
                                                          refine E_blk (lv' := [some (vr (some (4, this))), none, some (vi v2), some (vi v3)]) (st' := [vr (some (4, this))]) (M1 := M229) (pc' := 759) (tb_Checker hγ) [.aload_n 0] (by decide +kernel) rfl rfl trivial ?_
                                                          refine E_callV (κ' := k_Checker_under) (As := []) (st := []) mv_Checker_under (Or.inl (tbk_mem (j := 8) (k := 44) rfl)) rfl (by decide +kernel) (Nat.le_of_ble_eq_true rfl) (Nat.le_of_ble_eq_true rfl) rfl (by decide) (lk_Checker_under hγ this _ M229 h) (fun _ _ => Qi_r) (fun v M232 hp => Qi_k (R := fun st => E γ k_Checker_act 8 762 [some (vr (some (4, this))), none, some (vi v2), some (vi v3)] st M232 (Qi Q)) hp (fun r233 h => ?_))
                                                          refine E_if_eq (off := 7) (tgt := 769) (by decide +kernel) (by decide) (fun b234 => ?_) (fun b234 => ?_)
                                                          · rw [if_pos b234] at h
                                                            refine E_blk (lv' := [some (vr (some (4, this))), none, some (vi v2), some (vi v3)]) (st' := [vi (0 : Int32)]) (M1 := M232) (pc' := 770) (tb_Checker hγ) [.iconst 0] (by decide +kernel) rfl rfl trivial ?_
                                                            exact E_zret rfl (Or.inl rfl) (by decide +kernel) h
                                                          · rw [if_neg b234] at h
                                                            refine E_blk (lv' := [some (vr (some (4, this))), none, some (vi v2), some (vi v3)]) (st' := [vi (1 : Int32)]) (M1 := M232) (pc' := 766) (tb_Checker hγ) [.iconst 1] (by decide +kernel) rfl rfl trivial ?_
                                                            refine E_goto (off := 4) (tgt := 770) (by decide +kernel) (by decide) ?_
                                                            exact E_zret rfl (Or.inr rfl) (by decide +kernel) h
                                                      · rw [if_neg b50] at h
                                                        by_cases b51 : v2 = (22 : Int32)
                                                        · rw [if_pos b51] at h
                                                          refine E.up (fun _ _ hJ => J_tswI (len := 261) (dflt := 856) (lo := 0) (hi := 61) (offs := #[261, 263, 269, 275, 347, 408, 438, 315, 856, 856, 856, 856, 856, 496, 856, 856, 856, 856, 856, 519, 543, 575, 596, 261, 856, 856, 856, 856, 856, 856, 856, 856, 856, 856, 856, 856, 617, 617, 642, 642, 856, 669, 681, 704, 728, 754, 856, 856, 856, 856, 856, 856, 856, 856, 777, 804, 828, 856, 856, 856, 617, 617]) (off := 596) (tgt := 771) (by decide +kernel) (by rw [b51]; decide) (by rw [b51]; decide) (by rw [b51]; rfl) (by decide) hJ) ?_
                                                          refine E_blk (lv' := [some (vr (some (4, this))), none, some (vi v2), some (vi v3)]) (st' := [vi (2 : Int32), vr (some (4, this))]) (M1 := M24) (pc' := 773) (tb_Checker hγ) [.aload_n 0, .iconst 2] (by decide +kernel) rfl rfl trivial ?_
                                                          refine E_callV (κ' := k_Checker_needs) (As := [vi (2 : Int32)]) (st := []) mv_Checker_needs (Or.inl (tbk_mem (j := 7) (k := 212) rfl)) rfl (by decide +kernel) (Nat.le_of_ble_eq_true rfl) (Nat.le_of_ble_eq_true rfl) rfl (by decide) (lk_Checker_needs hγ this (2 : Int32) _ M24 h) (fun _ _ => Qi_r) (fun v M223 hp => Qi_k (R := fun st => E γ k_Checker_act 8 776 [some (vr (some (4, this))), none, some (vi v2), some (vi v3)] st M223 (Qi Q)) hp (fun r224 h => ?_))
                                                          refine E_if_eq (off := 14) (tgt := 790) (by decide +kernel) (by decide) (fun b225 => ?_) (fun b225 => ?_)
                                                          · rw [if_pos b225] at h
                                                            refine E_blk (lv' := [some (vr (some (4, this))), none, some (vi v2), some (vi v3)]) (st' := [vi (0 : Int32)]) (M1 := M223) (pc' := 791) (tb_Checker hγ) [.iconst 0] (by decide +kernel) rfl rfl trivial ?_
                                                            exact E_zret rfl (Or.inl rfl) (by decide +kernel) h
                                                          · rw [if_neg b225] at h
                                                            refine E_blk (lv' := [some (vr (some (4, this))), none, some (vi v2), some (vi v3)]) (st' := [vr (some (4, this))]) (M1 := M223) (pc' := 780) (tb_Checker hγ) [.aload_n 0] (by decide +kernel) rfl rfl trivial ?_
                                                            refine E_callV (κ' := k_Checker_swap) (As := []) (st := []) mv_Checker_swap (Or.inl (tbk_mem (j := 8) (k := 48) rfl)) rfl (by decide +kernel) (Nat.le_of_ble_eq_true rfl) (Nat.le_of_ble_eq_true rfl) rfl (by decide) (lk_Checker_swap hγ this _ M223 h) (fun _ _ => Qi_r) (fun v M226 hp => Qi_k (R := fun st => E γ k_Checker_act 8 783 [some (vr (some (4, this))), none, some (vi v2), some (vi v3)] st M226 (Qi Q)) hp (fun r227 h => ?_))
                                                            refine E_if_eq (off := 7) (tgt := 790) (by decide +kernel) (by decide) (fun b228 => ?_) (fun b228 => ?_)
                                                            · rw [if_pos b228] at h
                                                              refine E_blk (lv' := [some (vr (some (4, this))), none, some (vi v2), some (vi v3)]) (st' := [vi (0 : Int32)]) (M1 := M226) (pc' := 791) (tb_Checker hγ) [.iconst 0] (by decide +kernel) rfl rfl trivial ?_
                                                              exact E_zret rfl (Or.inl rfl) (by decide +kernel) h
                                                            · rw [if_neg b228] at h
                                                              refine E_blk (lv' := [some (vr (some (4, this))), none, some (vi v2), some (vi v3)]) (st' := [vi (1 : Int32)]) (M1 := M226) (pc' := 787) (tb_Checker hγ) [.iconst 1] (by decide +kernel) rfl rfl trivial ?_
                                                              refine E_goto (off := 4) (tgt := 791) (by decide +kernel) (by decide) ?_
                                                              exact E_zret rfl (Or.inr rfl) (by decide +kernel) h
                                                        · rw [if_neg b51] at h
                                                          by_cases b52 : v2 = (23 : Int32)
                                                          · rw [if_pos b52] at h
                                                            refine E.up (fun _ _ hJ => J_tswI (len := 261) (dflt := 856) (lo := 0) (hi := 61) (offs := #[261, 263, 269, 275, 347, 408, 438, 315, 856, 856, 856, 856, 856, 496, 856, 856, 856, 856, 856, 519, 543, 575, 596, 261, 856, 856, 856, 856, 856, 856, 856, 856, 856, 856, 856, 856, 617, 617, 642, 642, 856, 669, 681, 704, 728, 754, 856, 856, 856, 856, 856, 856, 856, 856, 777, 804, 828, 856, 856, 856, 617, 617]) (off := 261) (tgt := 436) (by decide +kernel) (by rw [b52]; decide) (by rw [b52]; decide) (by rw [b52]; rfl) (by decide) hJ) ?_
                                                            refine E_blk (lv' := [some (vr (some (4, this))), none, some (vi v2), some (vi v3)]) (st' := [vi (1 : Int32)]) (M1 := M24) (pc' := 437) (tb_Checker hγ) [.iconst 1] (by decide +kernel) rfl rfl trivial ?_
                                                            exact E_zret rfl (Or.inr rfl) (by decide +kernel) h
                                                          · rw [if_neg b52] at h
                                                            by_cases b53 : v2 = (24 : Int32)
                                                            · rw [if_pos b53] at h
                                                              refine E.up (fun _ _ hJ => J_tswI (len := 261) (dflt := 856) (lo := 0) (hi := 61) (offs := #[261, 263, 269, 275, 347, 408, 438, 315, 856, 856, 856, 856, 856, 496, 856, 856, 856, 856, 856, 519, 543, 575, 596, 261, 856, 856, 856, 856, 856, 856, 856, 856, 856, 856, 856, 856, 617, 617, 642, 642, 856, 669, 681, 704, 728, 754, 856, 856, 856, 856, 856, 856, 856, 856, 777, 804, 828, 856, 856, 856, 617, 617]) (off := 856) (tgt := 1031) (by decide +kernel) (by rw [b53]; decide) (by rw [b53]; decide) (by rw [b53]; rfl) (by decide) hJ) ?_
                                                              refine E_blk (lv' := [some (vr (some (4, this))), none, some (vi v2), some (vi v3)]) (st' := [vi v2, vr (some (4, this))]) (M1 := M24) (pc' := 1033) (tb_Checker hγ) [.aload_n 0, .iload_n 2] (by decide +kernel) rfl rfl trivial ?_
                                                              refine E_callV (κ' := k_Checker_leaves) (As := [vi v2]) (st := []) mv_Checker_leaves (Or.inl (tbk_mem (j := 8) (k := 56) rfl)) rfl (by decide +kernel) (Nat.le_of_ble_eq_true rfl) (Nat.le_of_ble_eq_true rfl) rfl (by decide) (lk_Checker_leaves hγ this v2 _ M24 h) (fun _ _ => Qi_r) (fun v M221 hp => Qi_k (R := fun st => E γ k_Checker_act 8 1036 [some (vr (some (4, this))), none, some (vi v2), some (vi v3)] st M221 (Qi Q)) hp (fun r222 h => ?_))
                                                              exact E_zret rfl h.1 (by decide +kernel) h.2
                                                            · rw [if_neg b53] at h
                                                              by_cases b54 : v2 = (25 : Int32)
                                                              · rw [if_pos b54] at h
                                                                refine E.up (fun _ _ hJ => J_tswI (len := 261) (dflt := 856) (lo := 0) (hi := 61) (offs := #[261, 263, 269, 275, 347, 408, 438, 315, 856, 856, 856, 856, 856, 496, 856, 856, 856, 856, 856, 519, 543, 575, 596, 261, 856, 856, 856, 856, 856, 856, 856, 856, 856, 856, 856, 856, 617, 617, 642, 642, 856, 669, 681, 704, 728, 754, 856, 856, 856, 856, 856, 856, 856, 856, 777, 804, 828, 856, 856, 856, 617, 617]) (off := 856) (tgt := 1031) (by decide +kernel) (by rw [b54]; decide) (by rw [b54]; decide) (by rw [b54]; rfl) (by decide) hJ) ?_
                                                                refine E_blk (lv' := [some (vr (some (4, this))), none, some (vi v2), some (vi v3)]) (st' := [vi v2, vr (some (4, this))]) (M1 := M24) (pc' := 1033) (tb_Checker hγ) [.aload_n 0, .iload_n 2] (by decide +kernel) rfl rfl trivial ?_
                                                                refine E_callV (κ' := k_Checker_leaves) (As := [vi v2]) (st := []) mv_Checker_leaves (Or.inl (tbk_mem (j := 8) (k := 56) rfl)) rfl (by decide +kernel) (Nat.le_of_ble_eq_true rfl) (Nat.le_of_ble_eq_true rfl) rfl (by decide) (lk_Checker_leaves hγ this v2 _ M24 h) (fun _ _ => Qi_r) (fun v M219 hp => Qi_k (R := fun st => E γ k_Checker_act 8 1036 [some (vr (some (4, this))), none, some (vi v2), some (vi v3)] st M219 (Qi Q)) hp (fun r220 h => ?_))
                                                                exact E_zret rfl h.1 (by decide +kernel) h.2
                                                              · rw [if_neg b54] at h
                                                                by_cases b55 : v2 = (26 : Int32)
                                                                · rw [if_pos b55] at h
                                                                  refine E.up (fun _ _ hJ => J_tswI (len := 261) (dflt := 856) (lo := 0) (hi := 61) (offs := #[261, 263, 269, 275, 347, 408, 438, 315, 856, 856, 856, 856, 856, 496, 856, 856, 856, 856, 856, 519, 543, 575, 596, 261, 856, 856, 856, 856, 856, 856, 856, 856, 856, 856, 856, 856, 617, 617, 642, 642, 856, 669, 681, 704, 728, 754, 856, 856, 856, 856, 856, 856, 856, 856, 777, 804, 828, 856, 856, 856, 617, 617]) (off := 856) (tgt := 1031) (by decide +kernel) (by rw [b55]; decide) (by rw [b55]; decide) (by rw [b55]; rfl) (by decide) hJ) ?_
                                                                  refine E_blk (lv' := [some (vr (some (4, this))), none, some (vi v2), some (vi v3)]) (st' := [vi v2, vr (some (4, this))]) (M1 := M24) (pc' := 1033) (tb_Checker hγ) [.aload_n 0, .iload_n 2] (by decide +kernel) rfl rfl trivial ?_
                                                                  refine E_callV (κ' := k_Checker_leaves) (As := [vi v2]) (st := []) mv_Checker_leaves (Or.inl (tbk_mem (j := 8) (k := 56) rfl)) rfl (by decide +kernel) (Nat.le_of_ble_eq_true rfl) (Nat.le_of_ble_eq_true rfl) rfl (by decide) (lk_Checker_leaves hγ this v2 _ M24 h) (fun _ _ => Qi_r) (fun v M217 hp => Qi_k (R := fun st => E γ k_Checker_act 8 1036 [some (vr (some (4, this))), none, some (vi v2), some (vi v3)] st M217 (Qi Q)) hp (fun r218 h => ?_))
                                                                  exact E_zret rfl h.1 (by decide +kernel) h.2
                                                                · rw [if_neg b55] at h
                                                                  by_cases b56 : v2 = (27 : Int32)
                                                                  · rw [if_pos b56] at h
                                                                    refine E.up (fun _ _ hJ => J_tswI (len := 261) (dflt := 856) (lo := 0) (hi := 61) (offs := #[261, 263, 269, 275, 347, 408, 438, 315, 856, 856, 856, 856, 856, 496, 856, 856, 856, 856, 856, 519, 543, 575, 596, 261, 856, 856, 856, 856, 856, 856, 856, 856, 856, 856, 856, 856, 617, 617, 642, 642, 856, 669, 681, 704, 728, 754, 856, 856, 856, 856, 856, 856, 856, 856, 777, 804, 828, 856, 856, 856, 617, 617]) (off := 856) (tgt := 1031) (by decide +kernel) (by rw [b56]; decide) (by rw [b56]; decide) (by rw [b56]; rfl) (by decide) hJ) ?_
                                                                    refine E_blk (lv' := [some (vr (some (4, this))), none, some (vi v2), some (vi v3)]) (st' := [vi v2, vr (some (4, this))]) (M1 := M24) (pc' := 1033) (tb_Checker hγ) [.aload_n 0, .iload_n 2] (by decide +kernel) rfl rfl trivial ?_
                                                                    refine E_callV (κ' := k_Checker_leaves) (As := [vi v2]) (st := []) mv_Checker_leaves (Or.inl (tbk_mem (j := 8) (k := 56) rfl)) rfl (by decide +kernel) (Nat.le_of_ble_eq_true rfl) (Nat.le_of_ble_eq_true rfl) rfl (by decide) (lk_Checker_leaves hγ this v2 _ M24 h) (fun _ _ => Qi_r) (fun v M215 hp => Qi_k (R := fun st => E γ k_Checker_act 8 1036 [some (vr (some (4, this))), none, some (vi v2), some (vi v3)] st M215 (Qi Q)) hp (fun r216 h => ?_))
                                                                    exact E_zret rfl h.1 (by decide +kernel) h.2
                                                                  · rw [if_neg b56] at h
                                                                    by_cases b57 : v2 = (28 : Int32)
                                                                    · rw [if_pos b57] at h
                                                                      refine E.up (fun _ _ hJ => J_tswI (len := 261) (dflt := 856) (lo := 0) (hi := 61) (offs := #[261, 263, 269, 275, 347, 408, 438, 315, 856, 856, 856, 856, 856, 496, 856, 856, 856, 856, 856, 519, 543, 575, 596, 261, 856, 856, 856, 856, 856, 856, 856, 856, 856, 856, 856, 856, 617, 617, 642, 642, 856, 669, 681, 704, 728, 754, 856, 856, 856, 856, 856, 856, 856, 856, 777, 804, 828, 856, 856, 856, 617, 617]) (off := 856) (tgt := 1031) (by decide +kernel) (by rw [b57]; decide) (by rw [b57]; decide) (by rw [b57]; rfl) (by decide) hJ) ?_
                                                                      refine E_blk (lv' := [some (vr (some (4, this))), none, some (vi v2), some (vi v3)]) (st' := [vi v2, vr (some (4, this))]) (M1 := M24) (pc' := 1033) (tb_Checker hγ) [.aload_n 0, .iload_n 2] (by decide +kernel) rfl rfl trivial ?_
                                                                      refine E_callV (κ' := k_Checker_leaves) (As := [vi v2]) (st := []) mv_Checker_leaves (Or.inl (tbk_mem (j := 8) (k := 56) rfl)) rfl (by decide +kernel) (Nat.le_of_ble_eq_true rfl) (Nat.le_of_ble_eq_true rfl) rfl (by decide) (lk_Checker_leaves hγ this v2 _ M24 h) (fun _ _ => Qi_r) (fun v M213 hp => Qi_k (R := fun st => E γ k_Checker_act 8 1036 [some (vr (some (4, this))), none, some (vi v2), some (vi v3)] st M213 (Qi Q)) hp (fun r214 h => ?_))
                                                                      exact E_zret rfl h.1 (by decide +kernel) h.2
                                                                    · rw [if_neg b57] at h
                                                                      by_cases b58 : v2 = (29 : Int32)
                                                                      · rw [if_pos b58] at h
                                                                        refine E.up (fun _ _ hJ => J_tswI (len := 261) (dflt := 856) (lo := 0) (hi := 61) (offs := #[261, 263, 269, 275, 347, 408, 438, 315, 856, 856, 856, 856, 856, 496, 856, 856, 856, 856, 856, 519, 543, 575, 596, 261, 856, 856, 856, 856, 856, 856, 856, 856, 856, 856, 856, 856, 617, 617, 642, 642, 856, 669, 681, 704, 728, 754, 856, 856, 856, 856, 856, 856, 856, 856, 777, 804, 828, 856, 856, 856, 617, 617]) (off := 856) (tgt := 1031) (by decide +kernel) (by rw [b58]; decide) (by rw [b58]; decide) (by rw [b58]; rfl) (by decide) hJ) ?_
                                                                        refine E_blk (lv' := [some (vr (some (4, this))), none, some (vi v2), some (vi v3)]) (st' := [vi v2, vr (some (4, this))]) (M1 := M24) (pc' := 1033) (tb_Checker hγ) [.aload_n 0, .iload_n 2] (by decide +kernel) rfl rfl trivial ?_
                                                                        refine E_callV (κ' := k_Checker_leaves) (As := [vi v2]) (st := []) mv_Checker_leaves (Or.inl (tbk_mem (j := 8) (k := 56) rfl)) rfl (by decide +kernel) (Nat.le_of_ble_eq_true rfl) (Nat.le_of_ble_eq_true rfl) rfl (by decide) (lk_Checker_leaves hγ this v2 _ M24 h) (fun _ _ => Qi_r) (fun v M211 hp => Qi_k (R := fun st => E γ k_Checker_act 8 1036 [some (vr (some (4, this))), none, some (vi v2), some (vi v3)] st M211 (Qi Q)) hp (fun r212 h => ?_))
                                                                        exact E_zret rfl h.1 (by decide +kernel) h.2
                                                                      · rw [if_neg b58] at h
                                                                        by_cases b59 : v2 = (30 : Int32)
                                                                        · rw [if_pos b59] at h
                                                                          refine E.up (fun _ _ hJ => J_tswI (len := 261) (dflt := 856) (lo := 0) (hi := 61) (offs := #[261, 263, 269, 275, 347, 408, 438, 315, 856, 856, 856, 856, 856, 496, 856, 856, 856, 856, 856, 519, 543, 575, 596, 261, 856, 856, 856, 856, 856, 856, 856, 856, 856, 856, 856, 856, 617, 617, 642, 642, 856, 669, 681, 704, 728, 754, 856, 856, 856, 856, 856, 856, 856, 856, 777, 804, 828, 856, 856, 856, 617, 617]) (off := 856) (tgt := 1031) (by decide +kernel) (by rw [b59]; decide) (by rw [b59]; decide) (by rw [b59]; rfl) (by decide) hJ) ?_
                                                                          refine E_blk (lv' := [some (vr (some (4, this))), none, some (vi v2), some (vi v3)]) (st' := [vi v2, vr (some (4, this))]) (M1 := M24) (pc' := 1033) (tb_Checker hγ) [.aload_n 0, .iload_n 2] (by decide +kernel) rfl rfl trivial ?_
                                                                          refine E_callV (κ' := k_Checker_leaves) (As := [vi v2]) (st := []) mv_Checker_leaves (Or.inl (tbk_mem (j := 8) (k := 56) rfl)) rfl (by decide +kernel) (Nat.le_of_ble_eq_true rfl) (Nat.le_of_ble_eq_true rfl) rfl (by decide) (lk_Checker_leaves hγ this v2 _ M24 h) (fun _ _ => Qi_r) (fun v M209 hp => Qi_k (R := fun st => E γ k_Checker_act 8 1036 [some (vr (some (4, this))), none, some (vi v2), some (vi v3)] st M209 (Qi Q)) hp (fun r210 h => ?_))
                                                                          exact E_zret rfl h.1 (by decide +kernel) h.2
                                                                        · rw [if_neg b59] at h
                                                                          by_cases b60 : v2 = (31 : Int32)
                                                                          · rw [if_pos b60] at h
                                                                            refine E.up (fun _ _ hJ => J_tswI (len := 261) (dflt := 856) (lo := 0) (hi := 61) (offs := #[261, 263, 269, 275, 347, 408, 438, 315, 856, 856, 856, 856, 856, 496, 856, 856, 856, 856, 856, 519, 543, 575, 596, 261, 856, 856, 856, 856, 856, 856, 856, 856, 856, 856, 856, 856, 617, 617, 642, 642, 856, 669, 681, 704, 728, 754, 856, 856, 856, 856, 856, 856, 856, 856, 777, 804, 828, 856, 856, 856, 617, 617]) (off := 856) (tgt := 1031) (by decide +kernel) (by rw [b60]; decide) (by rw [b60]; decide) (by rw [b60]; rfl) (by decide) hJ) ?_
                                                                            refine E_blk (lv' := [some (vr (some (4, this))), none, some (vi v2), some (vi v3)]) (st' := [vi v2, vr (some (4, this))]) (M1 := M24) (pc' := 1033) (tb_Checker hγ) [.aload_n 0, .iload_n 2] (by decide +kernel) rfl rfl trivial ?_
                                                                            refine E_callV (κ' := k_Checker_leaves) (As := [vi v2]) (st := []) mv_Checker_leaves (Or.inl (tbk_mem (j := 8) (k := 56) rfl)) rfl (by decide +kernel) (Nat.le_of_ble_eq_true rfl) (Nat.le_of_ble_eq_true rfl) rfl (by decide) (lk_Checker_leaves hγ this v2 _ M24 h) (fun _ _ => Qi_r) (fun v M207 hp => Qi_k (R := fun st => E γ k_Checker_act 8 1036 [some (vr (some (4, this))), none, some (vi v2), some (vi v3)] st M207 (Qi Q)) hp (fun r208 h => ?_))
                                                                            exact E_zret rfl h.1 (by decide +kernel) h.2
                                                                          · rw [if_neg b60] at h
                                                                            by_cases b61 : v2 = (32 : Int32)
                                                                            · rw [if_pos b61] at h
                                                                              refine E.up (fun _ _ hJ => J_tswI (len := 261) (dflt := 856) (lo := 0) (hi := 61) (offs := #[261, 263, 269, 275, 347, 408, 438, 315, 856, 856, 856, 856, 856, 496, 856, 856, 856, 856, 856, 519, 543, 575, 596, 261, 856, 856, 856, 856, 856, 856, 856, 856, 856, 856, 856, 856, 617, 617, 642, 642, 856, 669, 681, 704, 728, 754, 856, 856, 856, 856, 856, 856, 856, 856, 777, 804, 828, 856, 856, 856, 617, 617]) (off := 856) (tgt := 1031) (by decide +kernel) (by rw [b61]; decide) (by rw [b61]; decide) (by rw [b61]; rfl) (by decide) hJ) ?_
                                                                              refine E_blk (lv' := [some (vr (some (4, this))), none, some (vi v2), some (vi v3)]) (st' := [vi v2, vr (some (4, this))]) (M1 := M24) (pc' := 1033) (tb_Checker hγ) [.aload_n 0, .iload_n 2] (by decide +kernel) rfl rfl trivial ?_
                                                                              refine E_callV (κ' := k_Checker_leaves) (As := [vi v2]) (st := []) mv_Checker_leaves (Or.inl (tbk_mem (j := 8) (k := 56) rfl)) rfl (by decide +kernel) (Nat.le_of_ble_eq_true rfl) (Nat.le_of_ble_eq_true rfl) rfl (by decide) (lk_Checker_leaves hγ this v2 _ M24 h) (fun _ _ => Qi_r) (fun v M205 hp => Qi_k (R := fun st => E γ k_Checker_act 8 1036 [some (vr (some (4, this))), none, some (vi v2), some (vi v3)] st M205 (Qi Q)) hp (fun r206 h => ?_))
                                                                              exact E_zret rfl h.1 (by decide +kernel) h.2
                                                                            · rw [if_neg b61] at h
                                                                              by_cases b62 : v2 = (33 : Int32)
                                                                              · rw [if_pos b62] at h
                                                                                refine E.up (fun _ _ hJ => J_tswI (len := 261) (dflt := 856) (lo := 0) (hi := 61) (offs := #[261, 263, 269, 275, 347, 408, 438, 315, 856, 856, 856, 856, 856, 496, 856, 856, 856, 856, 856, 519, 543, 575, 596, 261, 856, 856, 856, 856, 856, 856, 856, 856, 856, 856, 856, 856, 617, 617, 642, 642, 856, 669, 681, 704, 728, 754, 856, 856, 856, 856, 856, 856, 856, 856, 777, 804, 828, 856, 856, 856, 617, 617]) (off := 856) (tgt := 1031) (by decide +kernel) (by rw [b62]; decide) (by rw [b62]; decide) (by rw [b62]; rfl) (by decide) hJ) ?_
                                                                                refine E_blk (lv' := [some (vr (some (4, this))), none, some (vi v2), some (vi v3)]) (st' := [vi v2, vr (some (4, this))]) (M1 := M24) (pc' := 1033) (tb_Checker hγ) [.aload_n 0, .iload_n 2] (by decide +kernel) rfl rfl trivial ?_
                                                                                refine E_callV (κ' := k_Checker_leaves) (As := [vi v2]) (st := []) mv_Checker_leaves (Or.inl (tbk_mem (j := 8) (k := 56) rfl)) rfl (by decide +kernel) (Nat.le_of_ble_eq_true rfl) (Nat.le_of_ble_eq_true rfl) rfl (by decide) (lk_Checker_leaves hγ this v2 _ M24 h) (fun _ _ => Qi_r) (fun v M203 hp => Qi_k (R := fun st => E γ k_Checker_act 8 1036 [some (vr (some (4, this))), none, some (vi v2), some (vi v3)] st M203 (Qi Q)) hp (fun r204 h => ?_))
                                                                                exact E_zret rfl h.1 (by decide +kernel) h.2
                                                                              · rw [if_neg b62] at h
                                                                                by_cases b63 : v2 = (34 : Int32)
                                                                                · rw [if_pos b63] at h
                                                                                  refine E.up (fun _ _ hJ => J_tswI (len := 261) (dflt := 856) (lo := 0) (hi := 61) (offs := #[261, 263, 269, 275, 347, 408, 438, 315, 856, 856, 856, 856, 856, 496, 856, 856, 856, 856, 856, 519, 543, 575, 596, 261, 856, 856, 856, 856, 856, 856, 856, 856, 856, 856, 856, 856, 617, 617, 642, 642, 856, 669, 681, 704, 728, 754, 856, 856, 856, 856, 856, 856, 856, 856, 777, 804, 828, 856, 856, 856, 617, 617]) (off := 856) (tgt := 1031) (by decide +kernel) (by rw [b63]; decide) (by rw [b63]; decide) (by rw [b63]; rfl) (by decide) hJ) ?_
                                                                                  refine E_blk (lv' := [some (vr (some (4, this))), none, some (vi v2), some (vi v3)]) (st' := [vi v2, vr (some (4, this))]) (M1 := M24) (pc' := 1033) (tb_Checker hγ) [.aload_n 0, .iload_n 2] (by decide +kernel) rfl rfl trivial ?_
                                                                                  refine E_callV (κ' := k_Checker_leaves) (As := [vi v2]) (st := []) mv_Checker_leaves (Or.inl (tbk_mem (j := 8) (k := 56) rfl)) rfl (by decide +kernel) (Nat.le_of_ble_eq_true rfl) (Nat.le_of_ble_eq_true rfl) rfl (by decide) (lk_Checker_leaves hγ this v2 _ M24 h) (fun _ _ => Qi_r) (fun v M201 hp => Qi_k (R := fun st => E γ k_Checker_act 8 1036 [some (vr (some (4, this))), none, some (vi v2), some (vi v3)] st M201 (Qi Q)) hp (fun r202 h => ?_))
                                                                                  exact E_zret rfl h.1 (by decide +kernel) h.2
                                                                                · rw [if_neg b63] at h
                                                                                  by_cases b64 : v2 = (35 : Int32)
                                                                                  · rw [if_pos b64] at h
                                                                                    refine E.up (fun _ _ hJ => J_tswI (len := 261) (dflt := 856) (lo := 0) (hi := 61) (offs := #[261, 263, 269, 275, 347, 408, 438, 315, 856, 856, 856, 856, 856, 496, 856, 856, 856, 856, 856, 519, 543, 575, 596, 261, 856, 856, 856, 856, 856, 856, 856, 856, 856, 856, 856, 856, 617, 617, 642, 642, 856, 669, 681, 704, 728, 754, 856, 856, 856, 856, 856, 856, 856, 856, 777, 804, 828, 856, 856, 856, 617, 617]) (off := 856) (tgt := 1031) (by decide +kernel) (by rw [b64]; decide) (by rw [b64]; decide) (by rw [b64]; rfl) (by decide) hJ) ?_
                                                                                    refine E_blk (lv' := [some (vr (some (4, this))), none, some (vi v2), some (vi v3)]) (st' := [vi v2, vr (some (4, this))]) (M1 := M24) (pc' := 1033) (tb_Checker hγ) [.aload_n 0, .iload_n 2] (by decide +kernel) rfl rfl trivial ?_
                                                                                    refine E_callV (κ' := k_Checker_leaves) (As := [vi v2]) (st := []) mv_Checker_leaves (Or.inl (tbk_mem (j := 8) (k := 56) rfl)) rfl (by decide +kernel) (Nat.le_of_ble_eq_true rfl) (Nat.le_of_ble_eq_true rfl) rfl (by decide) (lk_Checker_leaves hγ this v2 _ M24 h) (fun _ _ => Qi_r) (fun v M199 hp => Qi_k (R := fun st => E γ k_Checker_act 8 1036 [some (vr (some (4, this))), none, some (vi v2), some (vi v3)] st M199 (Qi Q)) hp (fun r200 h => ?_))
                                                                                    exact E_zret rfl h.1 (by decide +kernel) h.2
                                                                                  · rw [if_neg b64] at h
                                                                                    by_cases b65 : v2 = (36 : Int32)
                                                                                    · rw [if_pos b65] at h
                                                                                      refine E.up (fun _ _ hJ => J_tswI (len := 261) (dflt := 856) (lo := 0) (hi := 61) (offs := #[261, 263, 269, 275, 347, 408, 438, 315, 856, 856, 856, 856, 856, 496, 856, 856, 856, 856, 856, 519, 543, 575, 596, 261, 856, 856, 856, 856, 856, 856, 856, 856, 856, 856, 856, 856, 617, 617, 642, 642, 856, 669, 681, 704, 728, 754, 856, 856, 856, 856, 856, 856, 856, 856, 777, 804, 828, 856, 856, 856, 617, 617]) (off := 617) (tgt := 792) (by decide +kernel) (by rw [b65]; decide) (by rw [b65]; decide) (by rw [b65]; rfl) (by decide) hJ) ?_
                                                                                      refine E_blk (lv' := [some (vr (some (4, this))), none, some (vi v2), some (vi v3)]) (st' := [vi (-5 : Int32), vr (some (4, this))]) (M1 := M24) (pc' := 795) (tb_Checker hγ) [.aload_n 0, .bipush (.negSucc 4)] (by decide +kernel) rfl rfl trivial ?_
                                                                                      refine E_callV (κ' := k_Checker_wants1) (As := [vi (-5 : Int32)]) (st := []) mv_Checker_wants1 (Or.inl (tbk_mem (j := 7) (k := 236) rfl)) rfl (by decide +kernel) (Nat.le_of_ble_eq_true rfl) (Nat.le_of_ble_eq_true rfl) rfl (by decide) (lk_Checker_wants1 hγ this (-5 : Int32) _ M24 h) (fun _ _ => Qi_r) (fun v M193 hp => Qi_k (R := fun st => E γ k_Checker_act 8 798 [some (vr (some (4, this))), none, some (vi v2), some (vi v3)] st M193 (Qi Q)) hp (fun r194 h => ?_))
                                                                                      refine E_if_eq (off := 17) (tgt := 815) (by decide +kernel) (by decide) (fun b195 => ?_) (fun b195 => ?_)
                                                                                      · rw [if_pos b195] at h
                                                                                        refine E_blk (lv' := [some (vr (some (4, this))), none, some (vi v2), some (vi v3)]) (st' := [vi (0 : Int32)]) (M1 := M193) (pc' := 816) (tb_Checker hγ) [.iconst 0] (by decide +kernel) rfl rfl trivial ?_
                                                                                        exact E_zret rfl (Or.inl rfl) (by decide +kernel) h
                                                                                      · rw [if_neg b195] at h
                                                                                        refine E_blk (lv' := [some (vr (some (4, this))), none, some (vi v2), some (vi v3)]) (st' := [vi (-4 : Int32), vi (1 : Int32), vr (some (4, this))]) (M1 := M193) (pc' := 805) (tb_Checker hγ) [.aload_n 0, .iconst 1, .bipush (.negSucc 3)] (by decide +kernel) rfl rfl trivial ?_
                                                                                        refine E_callV (κ' := k_Checker_comes) (As := [vi (1 : Int32), vi (-4 : Int32)]) (st := []) mv_Checker_comes (Or.inl (tbk_mem (j := 7) (k := 228) rfl)) rfl (by decide +kernel) (Nat.le_of_ble_eq_true rfl) (Nat.le_of_ble_eq_true rfl) rfl (by decide) (lk_Checker_comes hγ this (1 : Int32) (-4 : Int32) _ M193 h) (fun _ _ => Qi_r) (fun v M196 hp => Qi_k (R := fun st => E γ k_Checker_act 8 808 [some (vr (some (4, this))), none, some (vi v2), some (vi v3)] st M196 (Qi Q)) hp (fun r197 h => ?_))
                                                                                        refine E_if_eq (off := 7) (tgt := 815) (by decide +kernel) (by decide) (fun b198 => ?_) (fun b198 => ?_)
                                                                                        · rw [if_pos b198] at h
                                                                                          refine E_blk (lv' := [some (vr (some (4, this))), none, some (vi v2), some (vi v3)]) (st' := [vi (0 : Int32)]) (M1 := M196) (pc' := 816) (tb_Checker hγ) [.iconst 0] (by decide +kernel) rfl rfl trivial ?_
                                                                                          exact E_zret rfl (Or.inl rfl) (by decide +kernel) h
                                                                                        · rw [if_neg b198] at h
                                                                                          refine E_blk (lv' := [some (vr (some (4, this))), none, some (vi v2), some (vi v3)]) (st' := [vi (1 : Int32)]) (M1 := M196) (pc' := 812) (tb_Checker hγ) [.iconst 1] (by decide +kernel) rfl rfl trivial ?_
                                                                                          refine E_goto (off := 4) (tgt := 816) (by decide +kernel) (by decide) ?_
                                                                                          exact E_zret rfl (Or.inr rfl) (by decide +kernel) h
                                                                                    · rw [if_neg b65] at h
                                                                                      by_cases b66 : v2 = (37 : Int32)
                                                                                      · rw [if_pos b66] at h
                                                                                        refine E.up (fun _ _ hJ => J_tswI (len := 261) (dflt := 856) (lo := 0) (hi := 61) (offs := #[261, 263, 269, 275, 347, 408, 438, 315, 856, 856, 856, 856, 856, 496, 856, 856, 856, 856, 856, 519, 543, 575, 596, 261, 856, 856, 856, 856, 856, 856, 856, 856, 856, 856, 856, 856, 617, 617, 642, 642, 856, 669, 681, 704, 728, 754, 856, 856, 856, 856, 856, 856, 856, 856, 777, 804, 828, 856, 856, 856, 617, 617]) (off := 617) (tgt := 792) (by decide +kernel) (by rw [b66]; decide) (by rw [b66]; decide) (by rw [b66]; rfl) (by decide) hJ) ?_
                                                                                        refine E_blk (lv' := [some (vr (some (4, this))), none, some (vi v2), some (vi v3)]) (st' := [vi (-5 : Int32), vr (some (4, this))]) (M1 := M24) (pc' := 795) (tb_Checker hγ) [.aload_n 0, .bipush (.negSucc 4)] (by decide +kernel) rfl rfl trivial ?_
                                                                                        refine E_callV (κ' := k_Checker_wants1) (As := [vi (-5 : Int32)]) (st := []) mv_Checker_wants1 (Or.inl (tbk_mem (j := 7) (k := 236) rfl)) rfl (by decide +kernel) (Nat.le_of_ble_eq_true rfl) (Nat.le_of_ble_eq_true rfl) rfl (by decide) (lk_Checker_wants1 hγ this (-5 : Int32) _ M24 h) (fun _ _ => Qi_r) (fun v M187 hp => Qi_k (R := fun st => E γ k_Checker_act 8 798 [some (vr (some (4, this))), none, some (vi v2), some (vi v3)] st M187 (Qi Q)) hp (fun r188 h => ?_))
                                                                                        refine E_if_eq (off := 17) (tgt := 815) (by decide +kernel) (by decide) (fun b189 => ?_) (fun b189 => ?_)
                                                                                        · rw [if_pos b189] at h
                                                                                          refine E_blk (lv' := [some (vr (some (4, this))), none, some (vi v2), some (vi v3)]) (st' := [vi (0 : Int32)]) (M1 := M187) (pc' := 816) (tb_Checker hγ) [.iconst 0] (by decide +kernel) rfl rfl trivial ?_
                                                                                          exact E_zret rfl (Or.inl rfl) (by decide +kernel) h
                                                                                        · rw [if_neg b189] at h
                                                                                          refine E_blk (lv' := [some (vr (some (4, this))), none, some (vi v2), some (vi v3)]) (st' := [vi (-4 : Int32), vi (1 : Int32), vr (some (4, this))]) (M1 := M187) (pc' := 805) (tb_Checker hγ) [.aload_n 0, .iconst 1, .bipush (.negSucc 3)] (by decide +kernel) rfl rfl trivial ?_
                                                                                          refine E_callV (κ' := k_Checker_comes) (As := [vi (1 : Int32), vi (-4 : Int32)]) (st := []) mv_Checker_comes (Or.inl (tbk_mem (j := 7) (k := 228) rfl)) rfl (by decide +kernel) (Nat.le_of_ble_eq_true rfl) (Nat.le_of_ble_eq_true rfl) rfl (by decide) (lk_Checker_comes hγ this (1 : Int32) (-4 : Int32) _ M187 h) (fun _ _ => Qi_r) (fun v M190 hp => Qi_k (R := fun st => E γ k_Checker_act 8 808 [some (vr (some (4, this))), none, some (vi v2), some (vi v3)] st M190 (Qi Q)) hp (fun r191 h => ?_))
                                                                                          refine E_if_eq (off := 7) (tgt := 815) (by decide +kernel) (by decide) (fun b192 => ?_) (fun b192 => ?_)
                                                                                          · rw [if_pos b192] at h
                                                                                            refine E_blk (lv' := [some (vr (some (4, this))), none, some (vi v2), some (vi v3)]) (st' := [vi (0 : Int32)]) (M1 := M190) (pc' := 816) (tb_Checker hγ) [.iconst 0] (by decide +kernel) rfl rfl trivial ?_
                                                                                            exact E_zret rfl (Or.inl rfl) (by decide +kernel) h
                                                                                          · rw [if_neg b192] at h
                                                                                            refine E_blk (lv' := [some (vr (some (4, this))), none, some (vi v2), some (vi v3)]) (st' := [vi (1 : Int32)]) (M1 := M190) (pc' := 812) (tb_Checker hγ) [.iconst 1] (by decide +kernel) rfl rfl trivial ?_
                                                                                            refine E_goto (off := 4) (tgt := 816) (by decide +kernel) (by decide) ?_
                                                                                            exact E_zret rfl (Or.inr rfl) (by decide +kernel) h
                                                                                      · rw [if_neg b66] at h
                                                                                        by_cases b67 : v2 = (38 : Int32)
                                                                                        · rw [if_pos b67] at h
                                                                                          refine E.up (fun _ _ hJ => J_tswI (len := 261) (dflt := 856) (lo := 0) (hi := 61) (offs := #[261, 263, 269, 275, 347, 408, 438, 315, 856, 856, 856, 856, 856, 496, 856, 856, 856, 856, 856, 519, 543, 575, 596, 261, 856, 856, 856, 856, 856, 856, 856, 856, 856, 856, 856, 856, 617, 617, 642, 642, 856, 669, 681, 704, 728, 754, 856, 856, 856, 856, 856, 856, 856, 856, 777, 804, 828, 856, 856, 856, 617, 617]) (off := 642) (tgt := 817) (by decide +kernel) (by rw [b67]; decide) (by rw [b67]; decide) (by rw [b67]; rfl) (by decide) hJ) ?_
                                                                                          refine E_blk (lv' := [some (vr (some (4, this))), none, some (vi v2), some (vi v3)]) (st' := [vi (-5 : Int32), vi (-5 : Int32), vr (some (4, this))]) (M1 := M24) (pc' := 822) (tb_Checker hγ) [.aload_n 0, .bipush (.negSucc 4), .bipush (.negSucc 4)] (by decide +kernel) rfl rfl trivial ?_
                                                                                          refine E_callV (κ' := k_Checker_wants2) (As := [vi (-5 : Int32), vi (-5 : Int32)]) (st := []) mv_Checker_wants2 (Or.inl (tbk_mem (j := 7) (k := 208) rfl)) rfl (by decide +kernel) (Nat.le_of_ble_eq_true rfl) (Nat.le_of_ble_eq_true rfl) rfl (by decide) (lk_Checker_wants2 hγ this (-5 : Int32) (-5 : Int32) _ M24 h) (fun _ _ => Qi_r) (fun v M181 hp => Qi_k (R := fun st => E γ k_Checker_act 8 825 [some (vr (some (4, this))), none, some (vi v2), some (vi v3)] st M181 (Qi Q)) hp (fun r182 h => ?_))
                                                                                          refine E_if_eq (off := 17) (tgt := 842) (by decide +kernel) (by decide) (fun b183 => ?_) (fun b183 => ?_)
                                                                                          · rw [if_pos b183] at h
                                                                                            refine E_blk (lv' := [some (vr (some (4, this))), none, some (vi v2), some (vi v3)]) (st' := [vi (0 : Int32)]) (M1 := M181) (pc' := 843) (tb_Checker hγ) [.iconst 0] (by decide +kernel) rfl rfl trivial ?_
                                                                                            exact E_zret rfl (Or.inl rfl) (by decide +kernel) h
                                                                                          · rw [if_neg b183] at h
                                                                                            refine E_blk (lv' := [some (vr (some (4, this))), none, some (vi v2), some (vi v3)]) (st' := [vi (-4 : Int32), vi (2 : Int32), vr (some (4, this))]) (M1 := M181) (pc' := 832) (tb_Checker hγ) [.aload_n 0, .iconst 2, .bipush (.negSucc 3)] (by decide +kernel) rfl rfl trivial ?_
                                                                                            refine E_callV (κ' := k_Checker_comes) (As := [vi (2 : Int32), vi (-4 : Int32)]) (st := []) mv_Checker_comes (Or.inl (tbk_mem (j := 7) (k := 228) rfl)) rfl (by decide +kernel) (Nat.le_of_ble_eq_true rfl) (Nat.le_of_ble_eq_true rfl) rfl (by decide) (lk_Checker_comes hγ this (2 : Int32) (-4 : Int32) _ M181 h) (fun _ _ => Qi_r) (fun v M184 hp => Qi_k (R := fun st => E γ k_Checker_act 8 835 [some (vr (some (4, this))), none, some (vi v2), some (vi v3)] st M184 (Qi Q)) hp (fun r185 h => ?_))
                                                                                            refine E_if_eq (off := 7) (tgt := 842) (by decide +kernel) (by decide) (fun b186 => ?_) (fun b186 => ?_)
                                                                                            · rw [if_pos b186] at h
                                                                                              refine E_blk (lv' := [some (vr (some (4, this))), none, some (vi v2), some (vi v3)]) (st' := [vi (0 : Int32)]) (M1 := M184) (pc' := 843) (tb_Checker hγ) [.iconst 0] (by decide +kernel) rfl rfl trivial ?_
                                                                                              exact E_zret rfl (Or.inl rfl) (by decide +kernel) h
                                                                                            · rw [if_neg b186] at h
                                                                                              refine E_blk (lv' := [some (vr (some (4, this))), none, some (vi v2), some (vi v3)]) (st' := [vi (1 : Int32)]) (M1 := M184) (pc' := 839) (tb_Checker hγ) [.iconst 1] (by decide +kernel) rfl rfl trivial ?_
                                                                                              refine E_goto (off := 4) (tgt := 843) (by decide +kernel) (by decide) ?_
                                                                                              exact E_zret rfl (Or.inr rfl) (by decide +kernel) h
                                                                                        · rw [if_neg b67] at h
                                                                                          by_cases b68 : v2 = (39 : Int32)
                                                                                          · rw [if_pos b68] at h
                                                                                            refine E.up (fun _ _ hJ => J_tswI (len := 261) (dflt := 856) (lo := 0) (hi := 61) (offs := #[261, 263, 269, 275, 347, 408, 438, 315, 856, 856, 856, 856, 856, 496, 856, 856, 856, 856, 856, 519, 543, 575, 596, 261, 856, 856, 856, 856, 856, 856, 856, 856, 856, 856, 856, 856, 617, 617, 642, 642, 856, 669, 681, 704, 728, 754, 856, 856, 856, 856, 856, 856, 856, 856, 777, 804, 828, 856, 856, 856, 617, 617]) (off := 642) (tgt := 817) (by decide +kernel) (by rw [b68]; decide) (by rw [b68]; decide) (by rw [b68]; rfl) (by decide) hJ) ?_
                                                                                            refine E_blk (lv' := [some (vr (some (4, this))), none, some (vi v2), some (vi v3)]) (st' := [vi (-5 : Int32), vi (-5 : Int32), vr (some (4, this))]) (M1 := M24) (pc' := 822) (tb_Checker hγ) [.aload_n 0, .bipush (.negSucc 4), .bipush (.negSucc 4)] (by decide +kernel) rfl rfl trivial ?_
                                                                                            refine E_callV (κ' := k_Checker_wants2) (As := [vi (-5 : Int32), vi (-5 : Int32)]) (st := []) mv_Checker_wants2 (Or.inl (tbk_mem (j := 7) (k := 208) rfl)) rfl (by decide +kernel) (Nat.le_of_ble_eq_true rfl) (Nat.le_of_ble_eq_true rfl) rfl (by decide) (lk_Checker_wants2 hγ this (-5 : Int32) (-5 : Int32) _ M24 h) (fun _ _ => Qi_r) (fun v M175 hp => Qi_k (R := fun st => E γ k_Checker_act 8 825 [some (vr (some (4, this))), none, some (vi v2), some (vi v3)] st M175 (Qi Q)) hp (fun r176 h => ?_))
                                                                                            refine E_if_eq (off := 17) (tgt := 842) (by decide +kernel) (by decide) (fun b177 => ?_) (fun b177 => ?_)
                                                                                            · rw [if_pos b177] at h
                                                                                              refine E_blk (lv' := [some (vr (some (4, this))), none, some (vi v2), some (vi v3)]) (st' := [vi (0 : Int32)]) (M1 := M175) (pc' := 843) (tb_Checker hγ) [.iconst 0] (by decide +kernel) rfl rfl trivial ?_
                                                                                              exact E_zret rfl (Or.inl rfl) (by decide +kernel) h
                                                                                            · rw [if_neg b177] at h
                                                                                              refine E_blk (lv' := [some (vr (some (4, this))), none, some (vi v2), some (vi v3)]) (st' := [vi (-4 : Int32), vi (2 : Int32), vr (some (4, this))]) (M1 := M175) (pc' := 832) (tb_Checker hγ) [.aload_n 0, .iconst 2, .bipush (.negSucc 3)] (by decide +kernel) rfl rfl trivial ?_
                                                                                              refine E_callV (κ' := k_Checker_comes) (As := [vi (2 : Int32), vi (-4 : Int32)]) (st := []) mv_Checker_comes (Or.inl (tbk_mem (j := 7) (k := 228) rfl)) rfl (by decide +kernel) (Nat.le_of_ble_eq_true rfl) (Nat.le_of_ble_eq_true rfl) rfl (by decide) (lk_Checker_comes hγ this (2 : Int32) (-4 : Int32) _ M175 h) (fun _ _ => Qi_r) (fun v M178 hp => Qi_k (R := fun st => E γ k_Checker_act 8 835 [some (vr (some (4, this))), none, some (vi v2), some (vi v3)] st M178 (Qi Q)) hp (fun r179 h => ?_))
                                                                                              refine E_if_eq (off := 7) (tgt := 842) (by decide +kernel) (by decide) (fun b180 => ?_) (fun b180 => ?_)
                                                                                              · rw [if_pos b180] at h
                                                                                                refine E_blk (lv' := [some (vr (some (4, this))), none, some (vi v2), some (vi v3)]) (st' := [vi (0 : Int32)]) (M1 := M178) (pc' := 843) (tb_Checker hγ) [.iconst 0] (by decide +kernel) rfl rfl trivial ?_
                                                                                                exact E_zret rfl (Or.inl rfl) (by decide +kernel) h
                                                                                              · rw [if_neg b180] at h
                                                                                                refine E_blk (lv' := [some (vr (some (4, this))), none, some (vi v2), some (vi v3)]) (st' := [vi (1 : Int32)]) (M1 := M178) (pc' := 839) (tb_Checker hγ) [.iconst 1] (by decide +kernel) rfl rfl trivial ?_
                                                                                                refine E_goto (off := 4) (tgt := 843) (by decide +kernel) (by decide) ?_
                                                                                                exact E_zret rfl (Or.inr rfl) (by decide +kernel) h
                                                                                          · rw [if_neg b68] at h
                                                                                            by_cases b69 : v2 = (40 : Int32)
                                                                                            · rw [if_pos b69] at h
                                                                                              refine E.up (fun _ _ hJ => J_tswI (len := 261) (dflt := 856) (lo := 0) (hi := 61) (offs := #[261, 263, 269, 275, 347, 408, 438, 315, 856, 856, 856, 856, 856, 496, 856, 856, 856, 856, 856, 519, 543, 575, 596, 261, 856, 856, 856, 856, 856, 856, 856, 856, 856, 856, 856, 856, 617, 617, 642, 642, 856, 669, 681, 704, 728, 754, 856, 856, 856, 856, 856, 856, 856, 856, 777, 804, 828, 856, 856, 856, 617, 617]) (off := 856) (tgt := 1031) (by decide +kernel) (by rw [b69]; decide) (by rw [b69]; decide) (by rw [b69]; rfl) (by decide) hJ) ?_
                                                                                              refine E_blk (lv' := [some (vr (some (4, this))), none, some (vi v2), some (vi v3)]) (st' := [vi v2, vr (some (4, this))]) (M1 := M24) (pc' := 1033) (tb_Checker hγ) [.aload_n 0, .iload_n 2] (by decide +kernel) rfl rfl trivial ?_
                                                                                              refine E_callV (κ' := k_Checker_leaves) (As := [vi v2]) (st := []) mv_Checker_leaves (Or.inl (tbk_mem (j := 8) (k := 56) rfl)) rfl (by decide +kernel) (Nat.le_of_ble_eq_true rfl) (Nat.le_of_ble_eq_true rfl) rfl (by decide) (lk_Checker_leaves hγ this v2 _ M24 h) (fun _ _ => Qi_r) (fun v M173 hp => Qi_k (R := fun st => E γ k_Checker_act 8 1036 [some (vr (some (4, this))), none, some (vi v2), some (vi v3)] st M173 (Qi Q)) hp (fun r174 h => ?_))
                                                                                              exact E_zret rfl h.1 (by decide +kernel) h.2
                                                                                            · rw [if_neg b69] at h
                                                                                              by_cases b70 : v2 = (41 : Int32)
                                                                                              · rw [if_pos b70] at h
                                                                                                refine E.up (fun _ _ hJ => J_tswI (len := 261) (dflt := 856) (lo := 0) (hi := 61) (offs := #[261, 263, 269, 275, 347, 408, 438, 315, 856, 856, 856, 856, 856, 496, 856, 856, 856, 856, 856, 519, 543, 575, 596, 261, 856, 856, 856, 856, 856, 856, 856, 856, 856, 856, 856, 856, 617, 617, 642, 642, 856, 669, 681, 704, 728, 754, 856, 856, 856, 856, 856, 856, 856, 856, 777, 804, 828, 856, 856, 856, 617, 617]) (off := 669) (tgt := 844) (by decide +kernel) (by rw [b70]; decide) (by rw [b70]; decide) (by rw [b70]; rfl) (by decide) hJ) ?_
                                                                                                refine E_blk (lv' := [some (vr (some (4, this))), none, some (vi v2), some (vi v3)]) (st' := [vi ((-10 : Int32) - (mI M24 4 this 7)), vr (some (4, this))]) (M1 := M24) (pc' := 852) (tb_Checker hγ) [.aload_n 0, .bipush (.negSucc 9), .aload_n 0, .getfield 69, .isub] (by decide +kernel) rfl rfl trivial ?_
                                                                                                refine E_callV (κ' := k_Checker_push) (As := [vi ((-10 : Int32) - (mI M24 4 this 7))]) (st := []) mv_Checker_push (Or.inl (tbk_mem (j := 7) (k := 232) rfl)) rfl (by decide +kernel) (Nat.le_of_ble_eq_true rfl) (Nat.le_of_ble_eq_true rfl) rfl (by decide) (lk_Checker_push hγ this ((-10 : Int32) - (mI M24 4 this 7)) _ M24 h) (fun _ _ => Qi_r) (fun v M171 hp => Qi_k (R := fun st => E γ k_Checker_act 8 855 [some (vr (some (4, this))), none, some (vi v2), some (vi v3)] st M171 (Qi Q)) hp (fun r172 h => ?_))
                                                                                                exact E_zret rfl h.1 (by decide +kernel) h.2
                                                                                              · rw [if_neg b70] at h
                                                                                                by_cases b71 : v2 = (42 : Int32)
                                                                                                · rw [if_pos b71] at h
                                                                                                  refine E.up (fun _ _ hJ => J_tswI (len := 261) (dflt := 856) (lo := 0) (hi := 61) (offs := #[261, 263, 269, 275, 347, 408, 438, 315, 856, 856, 856, 856, 856, 496, 856, 856, 856, 856, 856, 519, 543, 575, 596, 261, 856, 856, 856, 856, 856, 856, 856, 856, 856, 856, 856, 856, 617, 617, 642, 642, 856, 669, 681, 704, 728, 754, 856, 856, 856, 856, 856, 856, 856, 856, 777, 804, 828, 856, 856, 856, 617, 617]) (off := 681) (tgt := 856) (by decide +kernel) (by rw [b71]; decide) (by rw [b71]; decide) (by rw [b71]; rfl) (by decide) hJ) ?_
                                                                                                  refine E_blk (lv' := [some (vr (some (4, this))), none, some (vi v2), some (vi v3)]) (st' := [vi (0 : Int32), vr (some (4, this))]) (M1 := M24) (pc' := 858) (tb_Checker hγ) [.aload_n 0, .iconst 0] (by decide +kernel) rfl rfl trivial ?_
                                                                                                  refine E_callV (κ' := k_Checker_wants1) (As := [vi (0 : Int32)]) (st := []) mv_Checker_wants1 (Or.inl (tbk_mem (j := 7) (k := 236) rfl)) rfl (by decide +kernel) (Nat.le_of_ble_eq_true rfl) (Nat.le_of_ble_eq_true rfl) rfl (by decide) (lk_Checker_wants1 hγ this (0 : Int32) _ M24 h) (fun _ _ => Qi_r) (fun v M165 hp => Qi_k (R := fun st => E γ k_Checker_act 8 861 [some (vr (some (4, this))), none, some (vi v2), some (vi v3)] st M165 (Qi Q)) hp (fun r166 h => ?_))
                                                                                                  refine E_if_eq (off := 16) (tgt := 877) (by decide +kernel) (by decide) (fun b167 => ?_) (fun b167 => ?_)
                                                                                                  · rw [if_pos b167] at h
                                                                                                    refine E_blk (lv' := [some (vr (some (4, this))), none, some (vi v2), some (vi v3)]) (st' := [vi (0 : Int32)]) (M1 := M165) (pc' := 878) (tb_Checker hγ) [.iconst 0] (by decide +kernel) rfl rfl trivial ?_
                                                                                                    exact E_zret rfl (Or.inl rfl) (by decide +kernel) h
                                                                                                  · rw [if_neg b167] at h
                                                                                                    refine E_blk (lv' := [some (vr (some (4, this))), none, some (vi v2), some (vi v3)]) (st' := [vi (1 : Int32), vi (1 : Int32), vr (some (4, this))]) (M1 := M165) (pc' := 867) (tb_Checker hγ) [.aload_n 0, .iconst 1, .iconst 1] (by decide +kernel) rfl rfl trivial ?_
                                                                                                    refine E_callV (κ' := k_Checker_comes) (As := [vi (1 : Int32), vi (1 : Int32)]) (st := []) mv_Checker_comes (Or.inl (tbk_mem (j := 7) (k := 228) rfl)) rfl (by decide +kernel) (Nat.le_of_ble_eq_true rfl) (Nat.le_of_ble_eq_true rfl) rfl (by decide) (lk_Checker_comes hγ this (1 : Int32) (1 : Int32) _ M165 h) (fun _ _ => Qi_r) (fun v M168 hp => Qi_k (R := fun st => E γ k_Checker_act 8 870 [some (vr (some (4, this))), none, some (vi v2), some (vi v3)] st M168 (Qi Q)) hp (fun r169 h => ?_))
                                                                                                    refine E_if_eq (off := 7) (tgt := 877) (by decide +kernel) (by decide) (fun b170 => ?_) (fun b170 => ?_)
                                                                                                    · rw [if_pos b170] at h
                                                                                                      refine E_blk (lv' := [some (vr (some (4, this))), none, some (vi v2), some (vi v3)]) (st' := [vi (0 : Int32)]) (M1 := M168) (pc' := 878) (tb_Checker hγ) [.iconst 0] (by decide +kernel) rfl rfl trivial ?_
                                                                                                      exact E_zret rfl (Or.inl rfl) (by decide +kernel) h
                                                                                                    · rw [if_neg b170] at h
                                                                                                      refine E_blk (lv' := [some (vr (some (4, this))), none, some (vi v2), some (vi v3)]) (st' := [vi (1 : Int32)]) (M1 := M168) (pc' := 874) (tb_Checker hγ) [.iconst 1] (by decide +kernel) rfl rfl trivial ?_
                                                                                                      refine E_goto (off := 4) (tgt := 878) (by decide +kernel) (by decide) ?_
                                                                                                      exact E_zret rfl (Or.inr rfl) (by decide +kernel) h
                                                                                                · rw [if_neg b71] at h
                                                                                                  by_cases b72 : v2 = (43 : Int32)
                                                                                                  · rw [if_pos b72] at h
                                                                                                    refine E.up (fun _ _ hJ => J_tswI (len := 261) (dflt := 856) (lo := 0) (hi := 61) (offs := #[261, 263, 269, 275, 347, 408, 438, 315, 856, 856, 856, 856, 856, 496, 856, 856, 856, 856, 856, 519, 543, 575, 596, 261, 856, 856, 856, 856, 856, 856, 856, 856, 856, 856, 856, 856, 617, 617, 642, 642, 856, 669, 681, 704, 728, 754, 856, 856, 856, 856, 856, 856, 856, 856, 777, 804, 828, 856, 856, 856, 617, 617]) (off := 704) (tgt := 879) (by decide +kernel) (by rw [b72]; decide) (by rw [b72]; decide) (by rw [b72]; rfl) (by decide) hJ) ?_
                                                                                                    refine E_blk (lv' := [some (vr (some (4, this))), none, some (vi v2), some (vi v3)]) (st' := [vi (1 : Int32), vi (0 : Int32), vr (some (4, this))]) (M1 := M24) (pc' := 882) (tb_Checker hγ) [.aload_n 0, .iconst 0, .iconst 1] (by decide +kernel) rfl rfl trivial ?_
                                                                                                    refine E_callV (κ' := k_Checker_wants2) (As := [vi (0 : Int32), vi (1 : Int32)]) (st := []) mv_Checker_wants2 (Or.inl (tbk_mem (j := 7) (k := 208) rfl)) rfl (by decide +kernel) (Nat.le_of_ble_eq_true rfl) (Nat.le_of_ble_eq_true rfl) rfl (by decide) (lk_Checker_wants2 hγ this (0 : Int32) (1 : Int32) _ M24 h) (fun _ _ => Qi_r) (fun v M159 hp => Qi_k (R := fun st => E γ k_Checker_act 8 885 [some (vr (some (4, this))), none, some (vi v2), some (vi v3)] st M159 (Qi Q)) hp (fun r160 h => ?_))
                                                                                                    refine E_if_eq (off := 16) (tgt := 901) (by decide +kernel) (by decide) (fun b161 => ?_) (fun b161 => ?_)
                                                                                                    · rw [if_pos b161] at h
                                                                                                      refine E_blk (lv' := [some (vr (some (4, this))), none, some (vi v2), some (vi v3)]) (st' := [vi (0 : Int32)]) (M1 := M159) (pc' := 902) (tb_Checker hγ) [.iconst 0] (by decide +kernel) rfl rfl trivial ?_
                                                                                                      exact E_zret rfl (Or.inl rfl) (by decide +kernel) h
                                                                                                    · rw [if_neg b161] at h
                                                                                                      refine E_blk (lv' := [some (vr (some (4, this))), none, some (vi v2), some (vi v3)]) (st' := [vi (0 : Int32), vi (2 : Int32), vr (some (4, this))]) (M1 := M159) (pc' := 891) (tb_Checker hγ) [.aload_n 0, .iconst 2, .iconst 0] (by decide +kernel) rfl rfl trivial ?_
                                                                                                      refine E_callV (κ' := k_Checker_comes) (As := [vi (2 : Int32), vi (0 : Int32)]) (st := []) mv_Checker_comes (Or.inl (tbk_mem (j := 7) (k := 228) rfl)) rfl (by decide +kernel) (Nat.le_of_ble_eq_true rfl) (Nat.le_of_ble_eq_true rfl) rfl (by decide) (lk_Checker_comes hγ this (2 : Int32) (0 : Int32) _ M159 h) (fun _ _ => Qi_r) (fun v M162 hp => Qi_k (R := fun st => E γ k_Checker_act 8 894 [some (vr (some (4, this))), none, some (vi v2), some (vi v3)] st M162 (Qi Q)) hp (fun r163 h => ?_))
                                                                                                      refine E_if_eq (off := 7) (tgt := 901) (by decide +kernel) (by decide) (fun b164 => ?_) (fun b164 => ?_)
                                                                                                      · rw [if_pos b164] at h
                                                                                                        refine E_blk (lv' := [some (vr (some (4, this))), none, some (vi v2), some (vi v3)]) (st' := [vi (0 : Int32)]) (M1 := M162) (pc' := 902) (tb_Checker hγ) [.iconst 0] (by decide +kernel) rfl rfl trivial ?_
                                                                                                        exact E_zret rfl (Or.inl rfl) (by decide +kernel) h
                                                                                                      · rw [if_neg b164] at h
                                                                                                        refine E_blk (lv' := [some (vr (some (4, this))), none, some (vi v2), some (vi v3)]) (st' := [vi (1 : Int32)]) (M1 := M162) (pc' := 898) (tb_Checker hγ) [.iconst 1] (by decide +kernel) rfl rfl trivial ?_
                                                                                                        refine E_goto (off := 4) (tgt := 902) (by decide +kernel) (by decide) ?_
                                                                                                        exact E_zret rfl (Or.inr rfl) (by decide +kernel) h
                                                                                                  · rw [if_neg b72] at h
                                                                                                    by_cases b73 : v2 = (44 : Int32)
                                                                                                    · rw [if_pos b73] at h
                                                                                                      refine E.up (fun _ _ hJ => J_tswI (len := 261) (dflt := 856) (lo := 0) (hi := 61) (offs := #[261, 263, 269, 275, 347, 408, 438, 315, 856, 856, 856, 856, 856, 496, 856, 856, 856, 856, 856, 519, 543, 575, 596, 261, 856, 856, 856, 856, 856, 856, 856, 856, 856, 856, 856, 856, 617, 617, 642, 642, 856, 669, 681, 704, 728, 754, 856, 856, 856, 856, 856, 856, 856, 856, 777, 804, 828, 856, 856, 856, 617, 617]) (off := 728) (tgt := 903) (by decide +kernel) (by rw [b73]; decide) (by rw [b73]; decide) (by rw [b73]; rfl) (by decide) hJ) ?_
                                                                                                      refine E_blk (lv' := [some (vr (some (4, this))), none, some (vi v2), some (vi v3)]) (st' := [vi (1 : Int32), vi (0 : Int32), vi (0 : Int32), vr (some (4, this))]) (M1 := M24) (pc' := 907) (tb_Checker hγ) [.aload_n 0, .iconst 0, .iconst 0, .iconst 1] (by decide +kernel) rfl rfl trivial ?_
                                                                                                      refine E_callV (κ' := k_Checker_wants3) (As := [vi (0 : Int32), vi (0 : Int32), vi (1 : Int32)]) (st := []) mv_Checker_wants3 (Or.inl (tbk_mem (j := 8) (k := 52) rfl)) rfl (by decide +kernel) (Nat.le_of_ble_eq_true rfl) (Nat.le_of_ble_eq_true rfl) rfl (by decide) (lk_Checker_wants3 hγ this (0 : Int32) (0 : Int32) (1 : Int32) _ M24 h) (fun _ _ => Qi_r) (fun v M153 hp => Qi_k (R := fun st => E γ k_Checker_act 8 910 [some (vr (some (4, this))), none, some (vi v2), some (vi v3)] st M153 (Qi Q)) hp (fun r154 h => ?_))
                                                                                                      refine E_if_eq (off := 17) (tgt := 927) (by decide +kernel) (by decide) (fun b155 => ?_) (fun b155 => ?_)
                                                                                                      · rw [if_pos b155] at h
                                                                                                        refine E_blk (lv' := [some (vr (some (4, this))), none, some (vi v2), some (vi v3)]) (st' := [vi (0 : Int32)]) (M1 := M153) (pc' := 928) (tb_Checker hγ) [.iconst 0] (by decide +kernel) rfl rfl trivial ?_
                                                                                                        exact E_zret rfl (Or.inl rfl) (by decide +kernel) h
                                                                                                      · rw [if_neg b155] at h
                                                                                                        refine E_blk (lv' := [some (vr (some (4, this))), none, some (vi v2), some (vi v3)]) (st' := [vi (-4 : Int32), vi (3 : Int32), vr (some (4, this))]) (M1 := M153) (pc' := 917) (tb_Checker hγ) [.aload_n 0, .iconst 3, .bipush (.negSucc 3)] (by decide +kernel) rfl rfl trivial ?_
                                                                                                        refine E_callV (κ' := k_Checker_comes) (As := [vi (3 : Int32), vi (-4 : Int32)]) (st := []) mv_Checker_comes (Or.inl (tbk_mem (j := 7) (k := 228) rfl)) rfl (by decide +kernel) (Nat.le_of_ble_eq_true rfl) (Nat.le_of_ble_eq_true rfl) rfl (by decide) (lk_Checker_comes hγ this (3 : Int32) (-4 : Int32) _ M153 h) (fun _ _ => Qi_r) (fun v M156 hp => Qi_k (R := fun st => E γ k_Checker_act 8 920 [some (vr (some (4, this))), none, some (vi v2), some (vi v3)] st M156 (Qi Q)) hp (fun r157 h => ?_))
                                                                                                        refine E_if_eq (off := 7) (tgt := 927) (by decide +kernel) (by decide) (fun b158 => ?_) (fun b158 => ?_)
                                                                                                        · rw [if_pos b158] at h
                                                                                                          refine E_blk (lv' := [some (vr (some (4, this))), none, some (vi v2), some (vi v3)]) (st' := [vi (0 : Int32)]) (M1 := M156) (pc' := 928) (tb_Checker hγ) [.iconst 0] (by decide +kernel) rfl rfl trivial ?_
                                                                                                          exact E_zret rfl (Or.inl rfl) (by decide +kernel) h
                                                                                                        · rw [if_neg b158] at h
                                                                                                          refine E_blk (lv' := [some (vr (some (4, this))), none, some (vi v2), some (vi v3)]) (st' := [vi (1 : Int32)]) (M1 := M156) (pc' := 924) (tb_Checker hγ) [.iconst 1] (by decide +kernel) rfl rfl trivial ?_
                                                                                                          refine E_goto (off := 4) (tgt := 928) (by decide +kernel) (by decide) ?_
                                                                                                          exact E_zret rfl (Or.inr rfl) (by decide +kernel) h
                                                                                                    · rw [if_neg b73] at h
                                                                                                      by_cases b74 : v2 = (45 : Int32)
                                                                                                      · rw [if_pos b74] at h
                                                                                                        refine E.up (fun _ _ hJ => J_tswI (len := 261) (dflt := 856) (lo := 0) (hi := 61) (offs := #[261, 263, 269, 275, 347, 408, 438, 315, 856, 856, 856, 856, 856, 496, 856, 856, 856, 856, 856, 519, 543, 575, 596, 261, 856, 856, 856, 856, 856, 856, 856, 856, 856, 856, 856, 856, 617, 617, 642, 642, 856, 669, 681, 704, 728, 754, 856, 856, 856, 856, 856, 856, 856, 856, 777, 804, 828, 856, 856, 856, 617, 617]) (off := 754) (tgt := 929) (by decide +kernel) (by rw [b74]; decide) (by rw [b74]; decide) (by rw [b74]; rfl) (by decide) hJ) ?_
                                                                                                        refine E_blk (lv' := [some (vr (some (4, this))), none, some (vi v2), some (vi v3)]) (st' := [vi (1 : Int32), vr (some (4, this))]) (M1 := M24) (pc' := 931) (tb_Checker hγ) [.aload_n 0, .iconst 1] (by decide +kernel) rfl rfl trivial ?_
                                                                                                        refine E_callV (κ' := k_Checker_wants1) (As := [vi (1 : Int32)]) (st := []) mv_Checker_wants1 (Or.inl (tbk_mem (j := 7) (k := 236) rfl)) rfl (by decide +kernel) (Nat.le_of_ble_eq_true rfl) (Nat.le_of_ble_eq_true rfl) rfl (by decide) (lk_Checker_wants1 hγ this (1 : Int32) _ M24 h) (fun _ _ => Qi_r) (fun v M147 hp => Qi_k (R := fun st => E γ k_Checker_act 8 934 [some (vr (some (4, this))), none, some (vi v2), some (vi v3)] st M147 (Qi Q)) hp (fun r148 h => ?_))
                                                                                                        refine E_if_eq (off := 16) (tgt := 950) (by decide +kernel) (by decide) (fun b149 => ?_) (fun b149 => ?_)
                                                                                                        · rw [if_pos b149] at h
                                                                                                          refine E_blk (lv' := [some (vr (some (4, this))), none, some (vi v2), some (vi v3)]) (st' := [vi (0 : Int32)]) (M1 := M147) (pc' := 951) (tb_Checker hγ) [.iconst 0] (by decide +kernel) rfl rfl trivial ?_
                                                                                                          exact E_zret rfl (Or.inl rfl) (by decide +kernel) h
                                                                                                        · rw [if_neg b149] at h
                                                                                                          refine E_blk (lv' := [some (vr (some (4, this))), none, some (vi v2), some (vi v3)]) (st' := [vi (0 : Int32), vi (1 : Int32), vr (some (4, this))]) (M1 := M147) (pc' := 940) (tb_Checker hγ) [.aload_n 0, .iconst 1, .iconst 0] (by decide +kernel) rfl rfl trivial ?_
                                                                                                          refine E_callV (κ' := k_Checker_comes) (As := [vi (1 : Int32), vi (0 : Int32)]) (st := []) mv_Checker_comes (Or.inl (tbk_mem (j := 7) (k := 228) rfl)) rfl (by decide +kernel) (Nat.le_of_ble_eq_true rfl) (Nat.le_of_ble_eq_true rfl) rfl (by decide) (lk_Checker_comes hγ this (1 : Int32) (0 : Int32) _ M147 h) (fun _ _ => Qi_r) (fun v M150 hp => Qi_k (R := fun st => E γ k_Checker_act 8 943 [some (vr (some (4, this))), none, some (vi v2), some (vi v3)] st M150 (Qi Q)) hp (fun r151 h => ?_))
                                                                                                          refine E_if_eq (off := 7) (tgt := 950) (by decide +kernel) (by decide) (fun b152 => ?_) (fun b152 => ?_)
                                                                                                          · rw [if_pos b152] at h
                                                                                                            refine E_blk (lv' := [some (vr (some (4, this))), none, some (vi v2), some (vi v3)]) (st' := [vi (0 : Int32)]) (M1 := M150) (pc' := 951) (tb_Checker hγ) [.iconst 0] (by decide +kernel) rfl rfl trivial ?_
                                                                                                            exact E_zret rfl (Or.inl rfl) (by decide +kernel) h
                                                                                                          · rw [if_neg b152] at h
                                                                                                            refine E_blk (lv' := [some (vr (some (4, this))), none, some (vi v2), some (vi v3)]) (st' := [vi (1 : Int32)]) (M1 := M150) (pc' := 947) (tb_Checker hγ) [.iconst 1] (by decide +kernel) rfl rfl trivial ?_
                                                                                                            refine E_goto (off := 4) (tgt := 951) (by decide +kernel) (by decide) ?_
                                                                                                            exact E_zret rfl (Or.inr rfl) (by decide +kernel) h
                                                                                                      · rw [if_neg b74] at h
                                                                                                        by_cases b75 : v2 = (46 : Int32)
                                                                                                        · rw [if_pos b75] at h
                                                                                                          refine E.up (fun _ _ hJ => J_tswI (len := 261) (dflt := 856) (lo := 0) (hi := 61) (offs := #[261, 263, 269, 275, 347, 408, 438, 315, 856, 856, 856, 856, 856, 496, 856, 856, 856, 856, 856, 519, 543, 575, 596, 261, 856, 856, 856, 856, 856, 856, 856, 856, 856, 856, 856, 856, 617, 617, 642, 642, 856, 669, 681, 704, 728, 754, 856, 856, 856, 856, 856, 856, 856, 856, 777, 804, 828, 856, 856, 856, 617, 617]) (off := 856) (tgt := 1031) (by decide +kernel) (by rw [b75]; decide) (by rw [b75]; decide) (by rw [b75]; rfl) (by decide) hJ) ?_
                                                                                                          refine E_blk (lv' := [some (vr (some (4, this))), none, some (vi v2), some (vi v3)]) (st' := [vi v2, vr (some (4, this))]) (M1 := M24) (pc' := 1033) (tb_Checker hγ) [.aload_n 0, .iload_n 2] (by decide +kernel) rfl rfl trivial ?_
                                                                                                          refine E_callV (κ' := k_Checker_leaves) (As := [vi v2]) (st := []) mv_Checker_leaves (Or.inl (tbk_mem (j := 8) (k := 56) rfl)) rfl (by decide +kernel) (Nat.le_of_ble_eq_true rfl) (Nat.le_of_ble_eq_true rfl) rfl (by decide) (lk_Checker_leaves hγ this v2 _ M24 h) (fun _ _ => Qi_r) (fun v M145 hp => Qi_k (R := fun st => E γ k_Checker_act 8 1036 [some (vr (some (4, this))), none, some (vi v2), some (vi v3)] st M145 (Qi Q)) hp (fun r146 h => ?_))
                                                                                                          exact E_zret rfl h.1 (by decide +kernel) h.2
                                                                                                        · rw [if_neg b75] at h
                                                                                                          by_cases b76 : v2 = (47 : Int32)
                                                                                                          · rw [if_pos b76] at h
                                                                                                            refine E.up (fun _ _ hJ => J_tswI (len := 261) (dflt := 856) (lo := 0) (hi := 61) (offs := #[261, 263, 269, 275, 347, 408, 438, 315, 856, 856, 856, 856, 856, 496, 856, 856, 856, 856, 856, 519, 543, 575, 596, 261, 856, 856, 856, 856, 856, 856, 856, 856, 856, 856, 856, 856, 617, 617, 642, 642, 856, 669, 681, 704, 728, 754, 856, 856, 856, 856, 856, 856, 856, 856, 777, 804, 828, 856, 856, 856, 617, 617]) (off := 856) (tgt := 1031) (by decide +kernel) (by rw [b76]; decide) (by rw [b76]; decide) (by rw [b76]; rfl) (by decide) hJ) ?_
                                                                                                            refine E_blk (lv' := [some (vr (some (4, this))), none, some (vi v2), some (vi v3)]) (st' := [vi v2, vr (some (4, this))]) (M1 := M24) (pc' := 1033) (tb_Checker hγ) [.aload_n 0, .iload_n 2] (by decide +kernel) rfl rfl trivial ?_
                                                                                                            refine E_callV (κ' := k_Checker_leaves) (As := [vi v2]) (st := []) mv_Checker_leaves (Or.inl (tbk_mem (j := 8) (k := 56) rfl)) rfl (by decide +kernel) (Nat.le_of_ble_eq_true rfl) (Nat.le_of_ble_eq_true rfl) rfl (by decide) (lk_Checker_leaves hγ this v2 _ M24 h) (fun _ _ => Qi_r) (fun v M143 hp => Qi_k (R := fun st => E γ k_Checker_act 8 1036 [some (vr (some (4, this))), none, some (vi v2), some (vi v3)] st M143 (Qi Q)) hp (fun r144 h => ?_))
                                                                                                            exact E_zret rfl h.1 (by decide +kernel) h.2
                                                                                                          · rw [if_neg b76] at h
                                                                                                            by_cases b77 : v2 = (48 : Int32)
                                                                                                            · rw [if_pos b77] at h
                                                                                                              refine E.up (fun _ _ hJ => J_tswI (len := 261) (dflt := 856) (lo := 0) (hi := 61) (offs := #[261, 263, 269, 275, 347, 408, 438, 315, 856, 856, 856, 856, 856, 496, 856, 856, 856, 856, 856, 519, 543, 575, 596, 261, 856, 856, 856, 856, 856, 856, 856, 856, 856, 856, 856, 856, 617, 617, 642, 642, 856, 669, 681, 704, 728, 754, 856, 856, 856, 856, 856, 856, 856, 856, 777, 804, 828, 856, 856, 856, 617, 617]) (off := 856) (tgt := 1031) (by decide +kernel) (by rw [b77]; decide) (by rw [b77]; decide) (by rw [b77]; rfl) (by decide) hJ) ?_
                                                                                                              refine E_blk (lv' := [some (vr (some (4, this))), none, some (vi v2), some (vi v3)]) (st' := [vi v2, vr (some (4, this))]) (M1 := M24) (pc' := 1033) (tb_Checker hγ) [.aload_n 0, .iload_n 2] (by decide +kernel) rfl rfl trivial ?_
                                                                                                              refine E_callV (κ' := k_Checker_leaves) (As := [vi v2]) (st := []) mv_Checker_leaves (Or.inl (tbk_mem (j := 8) (k := 56) rfl)) rfl (by decide +kernel) (Nat.le_of_ble_eq_true rfl) (Nat.le_of_ble_eq_true rfl) rfl (by decide) (lk_Checker_leaves hγ this v2 _ M24 h) (fun _ _ => Qi_r) (fun v M141 hp => Qi_k (R := fun st => E γ k_Checker_act 8 1036 [some (vr (some (4, this))), none, some (vi v2), some (vi v3)] st M141 (Qi Q)) hp (fun r142 h => ?_))
                                                                                                              exact E_zret rfl h.1 (by decide +kernel) h.2
                                                                                                            · rw [if_neg b77] at h
                                                                                                              by_cases b78 : v2 = (49 : Int32)
                                                                                                              · rw [if_pos b78] at h
                                                                                                                refine E.up (fun _ _ hJ => J_tswI (len := 261) (dflt := 856) (lo := 0) (hi := 61) (offs := #[261, 263, 269, 275, 347, 408, 438, 315, 856, 856, 856, 856, 856, 496, 856, 856, 856, 856, 856, 519, 543, 575, 596, 261, 856, 856, 856, 856, 856, 856, 856, 856, 856, 856, 856, 856, 617, 617, 642, 642, 856, 669, 681, 704, 728, 754, 856, 856, 856, 856, 856, 856, 856, 856, 777, 804, 828, 856, 856, 856, 617, 617]) (off := 856) (tgt := 1031) (by decide +kernel) (by rw [b78]; decide) (by rw [b78]; decide) (by rw [b78]; rfl) (by decide) hJ) ?_
                                                                                                                refine E_blk (lv' := [some (vr (some (4, this))), none, some (vi v2), some (vi v3)]) (st' := [vi v2, vr (some (4, this))]) (M1 := M24) (pc' := 1033) (tb_Checker hγ) [.aload_n 0, .iload_n 2] (by decide +kernel) rfl rfl trivial ?_
                                                                                                                refine E_callV (κ' := k_Checker_leaves) (As := [vi v2]) (st := []) mv_Checker_leaves (Or.inl (tbk_mem (j := 8) (k := 56) rfl)) rfl (by decide +kernel) (Nat.le_of_ble_eq_true rfl) (Nat.le_of_ble_eq_true rfl) rfl (by decide) (lk_Checker_leaves hγ this v2 _ M24 h) (fun _ _ => Qi_r) (fun v M139 hp => Qi_k (R := fun st => E γ k_Checker_act 8 1036 [some (vr (some (4, this))), none, some (vi v2), some (vi v3)] st M139 (Qi Q)) hp (fun r140 h => ?_))
                                                                                                                exact E_zret rfl h.1 (by decide +kernel) h.2
                                                                                                              · rw [if_neg b78] at h
                                                                                                                by_cases b79 : v2 = (50 : Int32)
                                                                                                                · rw [if_pos b79] at h
                                                                                                                  refine E.up (fun _ _ hJ => J_tswI (len := 261) (dflt := 856) (lo := 0) (hi := 61) (offs := #[261, 263, 269, 275, 347, 408, 438, 315, 856, 856, 856, 856, 856, 496, 856, 856, 856, 856, 856, 519, 543, 575, 596, 261, 856, 856, 856, 856, 856, 856, 856, 856, 856, 856, 856, 856, 617, 617, 642, 642, 856, 669, 681, 704, 728, 754, 856, 856, 856, 856, 856, 856, 856, 856, 777, 804, 828, 856, 856, 856, 617, 617]) (off := 856) (tgt := 1031) (by decide +kernel) (by rw [b79]; decide) (by rw [b79]; decide) (by rw [b79]; rfl) (by decide) hJ) ?_
                                                                                                                  refine E_blk (lv' := [some (vr (some (4, this))), none, some (vi v2), some (vi v3)]) (st' := [vi v2, vr (some (4, this))]) (M1 := M24) (pc' := 1033) (tb_Checker hγ) [.aload_n 0, .iload_n 2] (by decide +kernel) rfl rfl trivial ?_
                                                                                                                  refine E_callV (κ' := k_Checker_leaves) (As := [vi v2]) (st := []) mv_Checker_leaves (Or.inl (tbk_mem (j := 8) (k := 56) rfl)) rfl (by decide +kernel) (Nat.le_of_ble_eq_true rfl) (Nat.le_of_ble_eq_true rfl) rfl (by decide) (lk_Checker_leaves hγ this v2 _ M24 h) (fun _ _ => Qi_r) (fun v M137 hp => Qi_k (R := fun st => E γ k_Checker_act 8 1036 [some (vr (some (4, this))), none, some (vi v2), some (vi v3)] st M137 (Qi Q)) hp (fun r138 h => ?_))
                                                                                                                  exact E_zret rfl h.1 (by decide +kernel) h.2
                                                                                                                · rw [if_neg b79] at h
                                                                                                                  by_cases b80 : v2 = (51 : Int32)
                                                                                                                  · rw [if_pos b80] at h
                                                                                                                    refine E.up (fun _ _ hJ => J_tswI (len := 261) (dflt := 856) (lo := 0) (hi := 61) (offs := #[261, 263, 269, 275, 347, 408, 438, 315, 856, 856, 856, 856, 856, 496, 856, 856, 856, 856, 856, 519, 543, 575, 596, 261, 856, 856, 856, 856, 856, 856, 856, 856, 856, 856, 856, 856, 617, 617, 642, 642, 856, 669, 681, 704, 728, 754, 856, 856, 856, 856, 856, 856, 856, 856, 777, 804, 828, 856, 856, 856, 617, 617]) (off := 856) (tgt := 1031) (by decide +kernel) (by rw [b80]; decide) (by rw [b80]; decide) (by rw [b80]; rfl) (by decide) hJ) ?_
                                                                                                                    refine E_blk (lv' := [some (vr (some (4, this))), none, some (vi v2), some (vi v3)]) (st' := [vi v2, vr (some (4, this))]) (M1 := M24) (pc' := 1033) (tb_Checker hγ) [.aload_n 0, .iload_n 2] (by decide +kernel) rfl rfl trivial ?_
                                                                                                                    refine E_callV (κ' := k_Checker_leaves) (As := [vi v2]) (st := []) mv_Checker_leaves (Or.inl (tbk_mem (j := 8) (k := 56) rfl)) rfl (by decide +kernel) (Nat.le_of_ble_eq_true rfl) (Nat.le_of_ble_eq_true rfl) rfl (by decide) (lk_Checker_leaves hγ this v2 _ M24 h) (fun _ _ => Qi_r) (fun v M135 hp => Qi_k (R := fun st => E γ k_Checker_act 8 1036 [some (vr (some (4, this))), none, some (vi v2), some (vi v3)] st M135 (Qi Q)) hp (fun r136 h => ?_))
                                                                                                                    exact E_zret rfl h.1 (by decide +kernel) h.2
                                                                                                                  · rw [if_neg b80] at h
                                                                                                                    by_cases b81 : v2 = (52 : Int32)
                                                                                                                    · rw [if_pos b81] at h
                                                                                                                      refine E.up (fun _ _ hJ => J_tswI (len := 261) (dflt := 856) (lo := 0) (hi := 61) (offs := #[261, 263, 269, 275, 347, 408, 438, 315, 856, 856, 856, 856, 856, 496, 856, 856, 856, 856, 856, 519, 543, 575, 596, 261, 856, 856, 856, 856, 856, 856, 856, 856, 856, 856, 856, 856, 617, 617, 642, 642, 856, 669, 681, 704, 728, 754, 856, 856, 856, 856, 856, 856, 856, 856, 777, 804, 828, 856, 856, 856, 617, 617]) (off := 856) (tgt := 1031) (by decide +kernel) (by rw [b81]; decide) (by rw [b81]; decide) (by rw [b81]; rfl) (by decide) hJ) ?_
                                                                                                                      refine E_blk (lv' := [some (vr (some (4, this))), none, some (vi v2), some (vi v3)]) (st' := [vi v2, vr (some (4, this))]) (M1 := M24) (pc' := 1033) (tb_Checker hγ) [.aload_n 0, .iload_n 2] (by decide +kernel) rfl rfl trivial ?_
                                                                                                                      refine E_callV (κ' := k_Checker_leaves) (As := [vi v2]) (st := []) mv_Checker_leaves (Or.inl (tbk_mem (j := 8) (k := 56) rfl)) rfl (by decide +kernel) (Nat.le_of_ble_eq_true rfl) (Nat.le_of_ble_eq_true rfl) rfl (by decide) (lk_Checker_leaves hγ this v2 _ M24 h) (fun _ _ => Qi_r) (fun v M133 hp => Qi_k (R := fun st => E γ k_Checker_act 8 1036 [some (vr (some (4, this))), none, some (vi v2), some (vi v3)] st M133 (Qi Q)) hp (fun r134 h => ?_))
                                                                                                                      exact E_zret rfl h.1 (by decide +kernel) h.2
                                                                                                                    · rw [if_neg b81] at h
                                                                                                                      by_cases b82 : v2 = (53 : Int32)
                                                                                                                      · rw [if_pos b82] at h
                                                                                                                        refine E.up (fun _ _ hJ => J_tswI (len := 261) (dflt := 856) (lo := 0) (hi := 61) (offs := #[261, 263, 269, 275, 347, 408, 438, 315, 856, 856, 856, 856, 856, 496, 856, 856, 856, 856, 856, 519, 543, 575, 596, 261, 856, 856, 856, 856, 856, 856, 856, 856, 856, 856, 856, 856, 617, 617, 642, 642, 856, 669, 681, 704, 728, 754, 856, 856, 856, 856, 856, 856, 856, 856, 777, 804, 828, 856, 856, 856, 617, 617]) (off := 856) (tgt := 1031) (by decide +kernel) (by rw [b82]; decide) (by rw [b82]; decide) (by rw [b82]; rfl) (by decide) hJ) ?_
                                                                                                                        refine E_blk (lv' := [some (vr (some (4, this))), none, some (vi v2), some (vi v3)]) (st' := [vi v2, vr (some (4, this))]) (M1 := M24) (pc' := 1033) (tb_Checker hγ) [.aload_n 0, .iload_n 2] (by decide +kernel) rfl rfl trivial ?_
                                                                                                                        refine E_callV (κ' := k_Checker_leaves) (As := [vi v2]) (st := []) mv_Checker_leaves (Or.inl (tbk_mem (j := 8) (k := 56) rfl)) rfl (by decide +kernel) (Nat.le_of_ble_eq_true rfl) (Nat.le_of_ble_eq_true rfl) rfl (by decide) (lk_Checker_leaves hγ this v2 _ M24 h) (fun _ _ => Qi_r) (fun v M131 hp => Qi_k (R := fun st => E γ k_Checker_act 8 1036 [some (vr (some (4, this))), none, some (vi v2), some (vi v3)] st M131 (Qi Q)) hp (fun r132 h => ?_))
                                                                                                                        exact E_zret rfl h.1 (by decide +kernel) h.2
                                                                                                                      · rw [if_neg b82] at h
                                                                                                                        by_cases b83 : v2 = (54 : Int32)
                                                                                                                        · rw [if_pos b83] at h
                                                                                                                          refine E.up (fun _ _ hJ => J_tswI (len := 261) (dflt := 856) (lo := 0) (hi := 61) (offs := #[261, 263, 269, 275, 347, 408, 438, 315, 856, 856, 856, 856, 856, 496, 856, 856, 856, 856, 856, 519, 543, 575, 596, 261, 856, 856, 856, 856, 856, 856, 856, 856, 856, 856, 856, 856, 617, 617, 642, 642, 856, 669, 681, 704, 728, 754, 856, 856, 856, 856, 856, 856, 856, 856, 777, 804, 828, 856, 856, 856, 617, 617]) (off := 777) (tgt := 952) (by decide +kernel) (by rw [b83]; decide) (by rw [b83]; decide) (by rw [b83]; rfl) (by decide) hJ) ?_
                                                                                                                          refine E_blk (lv' := [some (vr (some (4, this))), none, some (vi v2), some (vi v3)]) (st' := [vi (-5 : Int32), vr (some (4, this))]) (M1 := M24) (pc' := 955) (tb_Checker hγ) [.aload_n 0, .bipush (.negSucc 4)] (by decide +kernel) rfl rfl trivial ?_
                                                                                                                          refine E_callV (κ' := k_Checker_wants1) (As := [vi (-5 : Int32)]) (st := []) mv_Checker_wants1 (Or.inl (tbk_mem (j := 7) (k := 236) rfl)) rfl (by decide +kernel) (Nat.le_of_ble_eq_true rfl) (Nat.le_of_ble_eq_true rfl) rfl (by decide) (lk_Checker_wants1 hγ this (-5 : Int32) _ M24 h) (fun _ _ => Qi_r) (fun v M123 hp => Qi_k (R := fun st => E γ k_Checker_act 8 958 [some (vr (some (4, this))), none, some (vi v2), some (vi v3)] st M123 (Qi Q)) hp (fun r124 h => ?_))
                                                                                                                          refine E_if_eq (off := 19) (tgt := 977) (by decide +kernel) (by decide) (fun b125 => ?_) (fun b125 => ?_)
                                                                                                                          · rw [if_pos b125] at h
                                                                                                                            refine E_blk (lv' := [some (vr (some (4, this))), none, some (vi v2), some (vi v3)]) (st' := [vi (0 : Int32)]) (M1 := M123) (pc' := 978) (tb_Checker hγ) [.iconst 0] (by decide +kernel) rfl rfl trivial ?_
                                                                                                                            exact E_zret rfl (Or.inl rfl) (by decide +kernel) h
                                                                                                                          · rw [if_neg b125] at h
                                                                                                                            refine E_blk (lv' := [some (vr (some (4, this))), none, some (vi v2), some (vi v3)]) (st' := [vi v3, vi (1 : Int32), vr (some (4, this))]) (M1 := M123) (pc' := 964) (tb_Checker hγ) [.aload_n 0, .iconst 1, .iload_n 3] (by decide +kernel) rfl rfl trivial ?_
                                                                                                                            refine E_callS (κ' := k_Works_kindOf) (As := [vi v3]) (st := [vi (1 : Int32), vr (some (4, this))]) ms_Works_kindOf (Or.inr ⟨"ClassWorks", (tbk_mem (j := 7) (k := 130) rfl)⟩) rfl (by decide +kernel) (Nat.le_of_ble_eq_true rfl) (Nat.le_of_ble_eq_true rfl) rfl (by decide) (lk_Works_kindOf hγ v3 _ M123 h) (fun _ _ => Qi_r) (fun v M126 hp => Qi_k (R := fun st => E γ k_Checker_act 8 967 [some (vr (some (4, this))), none, some (vi v2), some (vi v3)] st M126 (Qi Q)) hp (fun r127 h => ?_))
                                                                                                                            refine E_callV (κ' := k_Checker_comes) (As := [vi (1 : Int32), vi r127]) (st := []) mv_Checker_comes (Or.inl (tbk_mem (j := 7) (k := 228) rfl)) rfl (by decide +kernel) (Nat.le_of_ble_eq_true rfl) (Nat.le_of_ble_eq_true rfl) rfl (by decide) (lk_Checker_comes hγ this (1 : Int32) r127 _ M126 h) (fun _ _ => Qi_r) (fun v M128 hp => Qi_k (R := fun st => E γ k_Checker_act 8 970 [some (vr (some (4, this))), none, some (vi v2), some (vi v3)] st M128 (Qi Q)) hp (fun r129 h => ?_))
                                                                                                                            refine E_if_eq (off := 7) (tgt := 977) (by decide +kernel) (by decide) (fun b130 => ?_) (fun b130 => ?_)
                                                                                                                            · rw [if_pos b130] at h
                                                                                                                              refine E_blk (lv' := [some (vr (some (4, this))), none, some (vi v2), some (vi v3)]) (st' := [vi (0 : Int32)]) (M1 := M128) (pc' := 978) (tb_Checker hγ) [.iconst 0] (by decide +kernel) rfl rfl trivial ?_
                                                                                                                              exact E_zret rfl (Or.inl rfl) (by decide +kernel) h
                                                                                                                            · rw [if_neg b130] at h
                                                                                                                              refine E_blk (lv' := [some (vr (some (4, this))), none, some (vi v2), some (vi v3)]) (st' := [vi (1 : Int32)]) (M1 := M128) (pc' := 974) (tb_Checker hγ) [.iconst 1] (by decide +kernel) rfl rfl trivial ?_
                                                                                                                              refine E_goto (off := 4) (tgt := 978) (by decide +kernel) (by decide) ?_
                                                                                                                              exact E_zret rfl (Or.inr rfl) (by decide +kernel) h
                                                                                                                        · rw [if_neg b83] at h
                                                                                                                          by_cases b84 : v2 = (55 : Int32)
                                                                                                                          · rw [if_pos b84] at h
                                                                                                                            refine E.up (fun _ _ hJ => J_tswI (len := 261) (dflt := 856) (lo := 0) (hi := 61) (offs := #[261, 263, 269, 275, 347, 408, 438, 315, 856, 856, 856, 856, 856, 496, 856, 856, 856, 856, 856, 519, 543, 575, 596, 261, 856, 856, 856, 856, 856, 856, 856, 856, 856, 856, 856, 856, 617, 617, 642, 642, 856, 669, 681, 704, 728, 754, 856, 856, 856, 856, 856, 856, 856, 856, 777, 804, 828, 856, 856, 856, 617, 617]) (off := 804) (tgt := 979) (by decide +kernel) (by rw [b84]; decide) (by rw [b84]; decide) (by rw [b84]; rfl) (by decide) hJ) ?_
                                                                                                                            refine E_blk (lv' := [some (vr (some (4, this))), none, some (vi v2), some (vi v3)]) (st' := [vi (-5 : Int32), vr (some (4, this))]) (M1 := M24) (pc' := 982) (tb_Checker hγ) [.aload_n 0, .bipush (.negSucc 4)] (by decide +kernel) rfl rfl trivial ?_
                                                                                                                            refine E_callV (κ' := k_Checker_wants1) (As := [vi (-5 : Int32)]) (st := []) mv_Checker_wants1 (Or.inl (tbk_mem (j := 7) (k := 236) rfl)) rfl (by decide +kernel) (Nat.le_of_ble_eq_true rfl) (Nat.le_of_ble_eq_true rfl) rfl (by decide) (lk_Checker_wants1 hγ this (-5 : Int32) _ M24 h) (fun _ _ => Qi_r) (fun v M117 hp => Qi_k (R := fun st => E γ k_Checker_act 8 985 [some (vr (some (4, this))), none, some (vi v2), some (vi v3)] st M117 (Qi Q)) hp (fun r118 h => ?_))
                                                                                                                            refine E_if_eq (off := 16) (tgt := 1001) (by decide +kernel) (by decide) (fun b119 => ?_) (fun b119 => ?_)
                                                                                                                            · rw [if_pos b119] at h
                                                                                                                              refine E_blk (lv' := [some (vr (some (4, this))), none, some (vi v2), some (vi v3)]) (st' := [vi (0 : Int32)]) (M1 := M117) (pc' := 1002) (tb_Checker hγ) [.iconst 0] (by decide +kernel) rfl rfl trivial ?_
                                                                                                                              exact E_zret rfl (Or.inl rfl) (by decide +kernel) h
                                                                                                                            · rw [if_neg b119] at h
                                                                                                                              refine E_blk (lv' := [some (vr (some (4, this))), none, some (vi v2), some (vi v3)]) (st' := [vi (0 : Int32), vi (1 : Int32), vr (some (4, this))]) (M1 := M117) (pc' := 991) (tb_Checker hγ) [.aload_n 0, .iconst 1, .iconst 0] (by decide +kernel) rfl rfl trivial ?_
                                                                                                                              refine E_callV (κ' := k_Checker_comes) (As := [vi (1 : Int32), vi (0 : Int32)]) (st := []) mv_Checker_comes (Or.inl (tbk_mem (j := 7) (k := 228) rfl)) rfl (by decide +kernel) (Nat.le_of_ble_eq_true rfl) (Nat.le_of_ble_eq_true rfl) rfl (by decide) (lk_Checker_comes hγ this (1 : Int32) (0 : Int32) _ M117 h) (fun _ _ => Qi_r) (fun v M120 hp => Qi_k (R := fun st => E γ k_Checker_act 8 994 [some (vr (some (4, this))), none, some (vi v2), some (vi v3)] st M120 (Qi Q)) hp (fun r121 h => ?_))
                                                                                                                              refine E_if_eq (off := 7) (tgt := 1001) (by decide +kernel) (by decide) (fun b122 => ?_) (fun b122 => ?_)
                                                                                                                              · rw [if_pos b122] at h
                                                                                                                                refine E_blk (lv' := [some (vr (some (4, this))), none, some (vi v2), some (vi v3)]) (st' := [vi (0 : Int32)]) (M1 := M120) (pc' := 1002) (tb_Checker hγ) [.iconst 0] (by decide +kernel) rfl rfl trivial ?_
                                                                                                                                exact E_zret rfl (Or.inl rfl) (by decide +kernel) h
                                                                                                                              · rw [if_neg b122] at h
                                                                                                                                refine E_blk (lv' := [some (vr (some (4, this))), none, some (vi v2), some (vi v3)]) (st' := [vi (1 : Int32)]) (M1 := M120) (pc' := 998) (tb_Checker hγ) [.iconst 1] (by decide +kernel) rfl rfl trivial ?_
                                                                                                                                refine E_goto (off := 4) (tgt := 1002) (by decide +kernel) (by decide) ?_
                                                                                                                                exact E_zret rfl (Or.inr rfl) (by decide +kernel) h
                                                                                                                          · rw [if_neg b84] at h
                                                                                                                            by_cases b85 : v2 = (56 : Int32)
                                                                                                                            · rw [if_pos b85] at h
                                                                                                                              refine E.up (fun _ _ hJ => J_tswI (len := 261) (dflt := 856) (lo := 0) (hi := 61) (offs := #[261, 263, 269, 275, 347, 408, 438, 315, 856, 856, 856, 856, 856, 496, 856, 856, 856, 856, 856, 519, 543, 575, 596, 261, 856, 856, 856, 856, 856, 856, 856, 856, 856, 856, 856, 856, 617, 617, 642, 642, 856, 669, 681, 704, 728, 754, 856, 856, 856, 856, 856, 856, 856, 856, 777, 804, 828, 856, 856, 856, 617, 617]) (off := 828) (tgt := 1003) (by decide +kernel) (by rw [b85]; decide) (by rw [b85]; decide) (by rw [b85]; rfl) (by decide) hJ) ?_
                                                                                                                              refine E_blk (lv' := [some (vr (some (4, this))), none, some (vi v2), some (vi v3)]) (st' := [vi (82 : Int32), vr (some (4, this))]) (M1 := M24) (pc' := 1006) (tb_Checker hγ) [.aload_n 0, .bipush 82] (by decide +kernel) rfl rfl trivial ?_
                                                                                                                              refine E_callS (κ' := k_Works_kindOf) (As := [vi (82 : Int32)]) (st := [vr (some (4, this))]) ms_Works_kindOf (Or.inr ⟨"ClassWorks", (tbk_mem (j := 7) (k := 130) rfl)⟩) rfl (by decide +kernel) (Nat.le_of_ble_eq_true rfl) (Nat.le_of_ble_eq_true rfl) rfl (by decide) (lk_Works_kindOf hγ (82 : Int32) _ M24 h) (fun _ _ => Qi_r) (fun v M109 hp => Qi_k (R := fun st => E γ k_Checker_act 8 1009 [some (vr (some (4, this))), none, some (vi v2), some (vi v3)] st M109 (Qi Q)) hp (fun r110 h => ?_))
                                                                                                                              refine E_callV (κ' := k_Checker_wants1) (As := [vi r110]) (st := []) mv_Checker_wants1 (Or.inl (tbk_mem (j := 7) (k := 236) rfl)) rfl (by decide +kernel) (Nat.le_of_ble_eq_true rfl) (Nat.le_of_ble_eq_true rfl) rfl (by decide) (lk_Checker_wants1 hγ this r110 _ M109 h) (fun _ _ => Qi_r) (fun v M111 hp => Qi_k (R := fun st => E γ k_Checker_act 8 1012 [some (vr (some (4, this))), none, some (vi v2), some (vi v3)] st M111 (Qi Q)) hp (fun r112 h => ?_))
                                                                                                                              refine E_if_eq (off := 17) (tgt := 1029) (by decide +kernel) (by decide) (fun b113 => ?_) (fun b113 => ?_)
                                                                                                                              · rw [if_pos b113] at h
                                                                                                                                refine E_blk (lv' := [some (vr (some (4, this))), none, some (vi v2), some (vi v3)]) (st' := [vi (0 : Int32)]) (M1 := M111) (pc' := 1030) (tb_Checker hγ) [.iconst 0] (by decide +kernel) rfl rfl trivial ?_
                                                                                                                                exact E_zret rfl (Or.inl rfl) (by decide +kernel) h
                                                                                                                              · rw [if_neg b113] at h
                                                                                                                                refine E_blk (lv' := [some (vr (some (4, this))), none, some (vi v2), some (vi v3)]) (st' := [vi (-4 : Int32), vi (1 : Int32), vr (some (4, this))]) (M1 := M111) (pc' := 1019) (tb_Checker hγ) [.aload_n 0, .iconst 1, .bipush (.negSucc 3)] (by decide +kernel) rfl rfl trivial ?_
                                                                                                                                refine E_callV (κ' := k_Checker_comes) (As := [vi (1 : Int32), vi (-4 : Int32)]) (st := []) mv_Checker_comes (Or.inl (tbk_mem (j := 7) (k := 228) rfl)) rfl (by decide +kernel) (Nat.le_of_ble_eq_true rfl) (Nat.le_of_ble_eq_true rfl) rfl (by decide) (lk_Checker_comes hγ this (1 : Int32) (-4 : Int32) _ M111 h) (fun _ _ => Qi_r) (fun v M114 hp => Qi_k (R := fun st => E γ k_Checker_act 8 1022 [some (vr (some (4, this))), none, some (vi v2), some (vi v3)] st M114 (Qi Q)) hp (fun r115 h => ?_))
                                                                                                                                refine E_if_eq (off := 7) (tgt := 1029) (by decide +kernel) (by decide) (fun b116 => ?_) (fun b116 => ?_)
                                                                                                                                · rw [if_pos b116] at h
                                                                                                                                  refine E_blk (lv' := [some (vr (some (4, this))), none, some (vi v2), some (vi v3)]) (st' := [vi (0 : Int32)]) (M1 := M114) (pc' := 1030) (tb_Checker hγ) [.iconst 0] (by decide +kernel) rfl rfl trivial ?_
                                                                                                                                  exact E_zret rfl (Or.inl rfl) (by decide +kernel) h
                                                                                                                                · rw [if_neg b116] at h
                                                                                                                                  refine E_blk (lv' := [some (vr (some (4, this))), none, some (vi v2), some (vi v3)]) (st' := [vi (1 : Int32)]) (M1 := M114) (pc' := 1026) (tb_Checker hγ) [.iconst 1] (by decide +kernel) rfl rfl trivial ?_
                                                                                                                                  refine E_goto (off := 4) (tgt := 1030) (by decide +kernel) (by decide) ?_
                                                                                                                                  exact E_zret rfl (Or.inr rfl) (by decide +kernel) h
                                                                                                                            · rw [if_neg b85] at h
                                                                                                                              by_cases b86 : v2 = (57 : Int32)
                                                                                                                              · rw [if_pos b86] at h
                                                                                                                                refine E.up (fun _ _ hJ => J_tswI (len := 261) (dflt := 856) (lo := 0) (hi := 61) (offs := #[261, 263, 269, 275, 347, 408, 438, 315, 856, 856, 856, 856, 856, 496, 856, 856, 856, 856, 856, 519, 543, 575, 596, 261, 856, 856, 856, 856, 856, 856, 856, 856, 856, 856, 856, 856, 617, 617, 642, 642, 856, 669, 681, 704, 728, 754, 856, 856, 856, 856, 856, 856, 856, 856, 777, 804, 828, 856, 856, 856, 617, 617]) (off := 856) (tgt := 1031) (by decide +kernel) (by rw [b86]; decide) (by rw [b86]; decide) (by rw [b86]; rfl) (by decide) hJ) ?_
                                                                                                                                refine E_blk (lv' := [some (vr (some (4, this))), none, some (vi v2), some (vi v3)]) (st' := [vi v2, vr (some (4, this))]) (M1 := M24) (pc' := 1033) (tb_Checker hγ) [.aload_n 0, .iload_n 2] (by decide +kernel) rfl rfl trivial ?_
                                                                                                                                refine E_callV (κ' := k_Checker_leaves) (As := [vi v2]) (st := []) mv_Checker_leaves (Or.inl (tbk_mem (j := 8) (k := 56) rfl)) rfl (by decide +kernel) (Nat.le_of_ble_eq_true rfl) (Nat.le_of_ble_eq_true rfl) rfl (by decide) (lk_Checker_leaves hγ this v2 _ M24 h) (fun _ _ => Qi_r) (fun v M107 hp => Qi_k (R := fun st => E γ k_Checker_act 8 1036 [some (vr (some (4, this))), none, some (vi v2), some (vi v3)] st M107 (Qi Q)) hp (fun r108 h => ?_))
                                                                                                                                exact E_zret rfl h.1 (by decide +kernel) h.2
                                                                                                                              · rw [if_neg b86] at h
                                                                                                                                by_cases b87 : v2 = (58 : Int32)
                                                                                                                                · rw [if_pos b87] at h
                                                                                                                                  refine E.up (fun _ _ hJ => J_tswI (len := 261) (dflt := 856) (lo := 0) (hi := 61) (offs := #[261, 263, 269, 275, 347, 408, 438, 315, 856, 856, 856, 856, 856, 496, 856, 856, 856, 856, 856, 519, 543, 575, 596, 261, 856, 856, 856, 856, 856, 856, 856, 856, 856, 856, 856, 856, 617, 617, 642, 642, 856, 669, 681, 704, 728, 754, 856, 856, 856, 856, 856, 856, 856, 856, 777, 804, 828, 856, 856, 856, 617, 617]) (off := 856) (tgt := 1031) (by decide +kernel) (by rw [b87]; decide) (by rw [b87]; decide) (by rw [b87]; rfl) (by decide) hJ) ?_
                                                                                                                                  refine E_blk (lv' := [some (vr (some (4, this))), none, some (vi v2), some (vi v3)]) (st' := [vi v2, vr (some (4, this))]) (M1 := M24) (pc' := 1033) (tb_Checker hγ) [.aload_n 0, .iload_n 2] (by decide +kernel) rfl rfl trivial ?_
                                                                                                                                  refine E_callV (κ' := k_Checker_leaves) (As := [vi v2]) (st := []) mv_Checker_leaves (Or.inl (tbk_mem (j := 8) (k := 56) rfl)) rfl (by decide +kernel) (Nat.le_of_ble_eq_true rfl) (Nat.le_of_ble_eq_true rfl) rfl (by decide) (lk_Checker_leaves hγ this v2 _ M24 h) (fun _ _ => Qi_r) (fun v M105 hp => Qi_k (R := fun st => E γ k_Checker_act 8 1036 [some (vr (some (4, this))), none, some (vi v2), some (vi v3)] st M105 (Qi Q)) hp (fun r106 h => ?_))
                                                                                                                                  exact E_zret rfl h.1 (by decide +kernel) h.2
                                                                                                                                · rw [if_neg b87] at h
                                                                                                                                  by_cases b88 : v2 = (59 : Int32)
                                                                                                                                  · rw [if_pos b88] at h
                                                                                                                                    refine E.up (fun _ _ hJ => J_tswI (len := 261) (dflt := 856) (lo := 0) (hi := 61) (offs := #[261, 263, 269, 275, 347, 408, 438, 315, 856, 856, 856, 856, 856, 496, 856, 856, 856, 856, 856, 519, 543, 575, 596, 261, 856, 856, 856, 856, 856, 856, 856, 856, 856, 856, 856, 856, 617, 617, 642, 642, 856, 669, 681, 704, 728, 754, 856, 856, 856, 856, 856, 856, 856, 856, 777, 804, 828, 856, 856, 856, 617, 617]) (off := 856) (tgt := 1031) (by decide +kernel) (by rw [b88]; decide) (by rw [b88]; decide) (by rw [b88]; rfl) (by decide) hJ) ?_
                                                                                                                                    refine E_blk (lv' := [some (vr (some (4, this))), none, some (vi v2), some (vi v3)]) (st' := [vi v2, vr (some (4, this))]) (M1 := M24) (pc' := 1033) (tb_Checker hγ) [.aload_n 0, .iload_n 2] (by decide +kernel) rfl rfl trivial ?_
                                                                                                                                    refine E_callV (κ' := k_Checker_leaves) (As := [vi v2]) (st := []) mv_Checker_leaves (Or.inl (tbk_mem (j := 8) (k := 56) rfl)) rfl (by decide +kernel) (Nat.le_of_ble_eq_true rfl) (Nat.le_of_ble_eq_true rfl) rfl (by decide) (lk_Checker_leaves hγ this v2 _ M24 h) (fun _ _ => Qi_r) (fun v M103 hp => Qi_k (R := fun st => E γ k_Checker_act 8 1036 [some (vr (some (4, this))), none, some (vi v2), some (vi v3)] st M103 (Qi Q)) hp (fun r104 h => ?_))
                                                                                                                                    exact E_zret rfl h.1 (by decide +kernel) h.2
                                                                                                                                  · rw [if_neg b88] at h
                                                                                                                                    by_cases b89 : v2 = (60 : Int32)
                                                                                                                                    · rw [if_pos b89] at h
                                                                                                                                      refine E.up (fun _ _ hJ => J_tswI (len := 261) (dflt := 856) (lo := 0) (hi := 61) (offs := #[261, 263, 269, 275, 347, 408, 438, 315, 856, 856, 856, 856, 856, 496, 856, 856, 856, 856, 856, 519, 543, 575, 596, 261, 856, 856, 856, 856, 856, 856, 856, 856, 856, 856, 856, 856, 617, 617, 642, 642, 856, 669, 681, 704, 728, 754, 856, 856, 856, 856, 856, 856, 856, 856, 777, 804, 828, 856, 856, 856, 617, 617]) (off := 617) (tgt := 792) (by decide +kernel) (by rw [b89]; decide) (by rw [b89]; decide) (by rw [b89]; rfl) (by decide) hJ) ?_
                                                                                                                                      refine E_blk (lv' := [some (vr (some (4, this))), none, some (vi v2), some (vi v3)]) (st' := [vi (-5 : Int32), vr (some (4, this))]) (M1 := M24) (pc' := 795) (tb_Checker hγ) [.aload_n 0, .bipush (.negSucc 4)] (by decide +kernel) rfl rfl trivial ?_
                                                                                                                                      refine E_callV (κ' := k_Checker_wants1) (As := [vi (-5 : Int32)]) (st := []) mv_Checker_wants1 (Or.inl (tbk_mem (j := 7) (k := 236) rfl)) rfl (by decide +kernel) (Nat.le_of_ble_eq_true rfl) (Nat.le_of_ble_eq_true rfl) rfl (by decide) (lk_Checker_wants1 hγ this (-5 : Int32) _ M24 h) (fun _ _ => Qi_r) (fun v M97 hp => Qi_k (R := fun st => E γ k_Checker_act 8 798 [some (vr (some (4, this))), none, some (vi v2), some (vi v3)] st M97 (Qi Q)) hp (fun r98 h => ?_))
                                                                                                                                      refine E_if_eq (off := 17) (tgt := 815) (by decide +kernel) (by decide) (fun b99 => ?_) (fun b99 => ?_)
                                                                                                                                      · rw [if_pos b99] at h
                                                                                                                                        refine E_blk (lv' := [some (vr (some (4, this))), none, some (vi v2), some (vi v3)]) (st' := [vi (0 : Int32)]) (M1 := M97) (pc' := 816) (tb_Checker hγ) [.iconst 0] (by decide +kernel) rfl rfl trivial ?_
                                                                                                                                        exact E_zret rfl (Or.inl rfl) (by decide +kernel) h
                                                                                                                                      · rw [if_neg b99] at h
                                                                                                                                        refine E_blk (lv' := [some (vr (some (4, this))), none, some (vi v2), some (vi v3)]) (st' := [vi (-4 : Int32), vi (1 : Int32), vr (some (4, this))]) (M1 := M97) (pc' := 805) (tb_Checker hγ) [.aload_n 0, .iconst 1, .bipush (.negSucc 3)] (by decide +kernel) rfl rfl trivial ?_
                                                                                                                                        refine E_callV (κ' := k_Checker_comes) (As := [vi (1 : Int32), vi (-4 : Int32)]) (st := []) mv_Checker_comes (Or.inl (tbk_mem (j := 7) (k := 228) rfl)) rfl (by decide +kernel) (Nat.le_of_ble_eq_true rfl) (Nat.le_of_ble_eq_true rfl) rfl (by decide) (lk_Checker_comes hγ this (1 : Int32) (-4 : Int32) _ M97 h) (fun _ _ => Qi_r) (fun v M100 hp => Qi_k (R := fun st => E γ k_Checker_act 8 808 [some (vr (some (4, this))), none, some (vi v2), some (vi v3)] st M100 (Qi Q)) hp (fun r101 h => ?_))
                                                                                                                                        refine E_if_eq (off := 7) (tgt := 815) (by decide +kernel) (by decide) (fun b102 => ?_) (fun b102 => ?_)
                                                                                                                                        · rw [if_pos b102] at h
                                                                                                                                          refine E_blk (lv' := [some (vr (some (4, this))), none, some (vi v2), some (vi v3)]) (st' := [vi (0 : Int32)]) (M1 := M100) (pc' := 816) (tb_Checker hγ) [.iconst 0] (by decide +kernel) rfl rfl trivial ?_
                                                                                                                                          exact E_zret rfl (Or.inl rfl) (by decide +kernel) h
                                                                                                                                        · rw [if_neg b102] at h
                                                                                                                                          refine E_blk (lv' := [some (vr (some (4, this))), none, some (vi v2), some (vi v3)]) (st' := [vi (1 : Int32)]) (M1 := M100) (pc' := 812) (tb_Checker hγ) [.iconst 1] (by decide +kernel) rfl rfl trivial ?_
                                                                                                                                          refine E_goto (off := 4) (tgt := 816) (by decide +kernel) (by decide) ?_
                                                                                                                                          exact E_zret rfl (Or.inr rfl) (by decide +kernel) h
                                                                                                                                    · rw [if_neg b89] at h
                                                                                                                                      by_cases b90 : v2 = (61 : Int32)
                                                                                                                                      · rw [if_pos b90] at h
                                                                                                                                        refine E.up (fun _ _ hJ => J_tswI (len := 261) (dflt := 856) (lo := 0) (hi := 61) (offs := #[261, 263, 269, 275, 347, 408, 438, 315, 856, 856, 856, 856, 856, 496, 856, 856, 856, 856, 856, 519, 543, 575, 596, 261, 856, 856, 856, 856, 856, 856, 856, 856, 856, 856, 856, 856, 617, 617, 642, 642, 856, 669, 681, 704, 728, 754, 856, 856, 856, 856, 856, 856, 856, 856, 777, 804, 828, 856, 856, 856, 617, 617]) (off := 617) (tgt := 792) (by decide +kernel) (by rw [b90]; decide) (by rw [b90]; decide) (by rw [b90]; rfl) (by decide) hJ) ?_
                                                                                                                                        refine E_blk (lv' := [some (vr (some (4, this))), none, some (vi v2), some (vi v3)]) (st' := [vi (-5 : Int32), vr (some (4, this))]) (M1 := M24) (pc' := 795) (tb_Checker hγ) [.aload_n 0, .bipush (.negSucc 4)] (by decide +kernel) rfl rfl trivial ?_
                                                                                                                                        refine E_callV (κ' := k_Checker_wants1) (As := [vi (-5 : Int32)]) (st := []) mv_Checker_wants1 (Or.inl (tbk_mem (j := 7) (k := 236) rfl)) rfl (by decide +kernel) (Nat.le_of_ble_eq_true rfl) (Nat.le_of_ble_eq_true rfl) rfl (by decide) (lk_Checker_wants1 hγ this (-5 : Int32) _ M24 h) (fun _ _ => Qi_r) (fun v M91 hp => Qi_k (R := fun st => E γ k_Checker_act 8 798 [some (vr (some (4, this))), none, some (vi v2), some (vi v3)] st M91 (Qi Q)) hp (fun r92 h => ?_))
                                                                                                                                        refine E_if_eq (off := 17) (tgt := 815) (by decide +kernel) (by decide) (fun b93 => ?_) (fun b93 => ?_)
                                                                                                                                        · rw [if_pos b93] at h
                                                                                                                                          refine E_blk (lv' := [some (vr (some (4, this))), none, some (vi v2), some (vi v3)]) (st' := [vi (0 : Int32)]) (M1 := M91) (pc' := 816) (tb_Checker hγ) [.iconst 0] (by decide +kernel) rfl rfl trivial ?_
                                                                                                                                          exact E_zret rfl (Or.inl rfl) (by decide +kernel) h
                                                                                                                                        · rw [if_neg b93] at h
                                                                                                                                          refine E_blk (lv' := [some (vr (some (4, this))), none, some (vi v2), some (vi v3)]) (st' := [vi (-4 : Int32), vi (1 : Int32), vr (some (4, this))]) (M1 := M91) (pc' := 805) (tb_Checker hγ) [.aload_n 0, .iconst 1, .bipush (.negSucc 3)] (by decide +kernel) rfl rfl trivial ?_
                                                                                                                                          refine E_callV (κ' := k_Checker_comes) (As := [vi (1 : Int32), vi (-4 : Int32)]) (st := []) mv_Checker_comes (Or.inl (tbk_mem (j := 7) (k := 228) rfl)) rfl (by decide +kernel) (Nat.le_of_ble_eq_true rfl) (Nat.le_of_ble_eq_true rfl) rfl (by decide) (lk_Checker_comes hγ this (1 : Int32) (-4 : Int32) _ M91 h) (fun _ _ => Qi_r) (fun v M94 hp => Qi_k (R := fun st => E γ k_Checker_act 8 808 [some (vr (some (4, this))), none, some (vi v2), some (vi v3)] st M94 (Qi Q)) hp (fun r95 h => ?_))
                                                                                                                                          refine E_if_eq (off := 7) (tgt := 815) (by decide +kernel) (by decide) (fun b96 => ?_) (fun b96 => ?_)
                                                                                                                                          · rw [if_pos b96] at h
                                                                                                                                            refine E_blk (lv' := [some (vr (some (4, this))), none, some (vi v2), some (vi v3)]) (st' := [vi (0 : Int32)]) (M1 := M94) (pc' := 816) (tb_Checker hγ) [.iconst 0] (by decide +kernel) rfl rfl trivial ?_
                                                                                                                                            exact E_zret rfl (Or.inl rfl) (by decide +kernel) h
                                                                                                                                          · rw [if_neg b96] at h
                                                                                                                                            refine E_blk (lv' := [some (vr (some (4, this))), none, some (vi v2), some (vi v3)]) (st' := [vi (1 : Int32)]) (M1 := M94) (pc' := 812) (tb_Checker hγ) [.iconst 1] (by decide +kernel) rfl rfl trivial ?_
                                                                                                                                            refine E_goto (off := 4) (tgt := 816) (by decide +kernel) (by decide) ?_
                                                                                                                                            exact E_zret rfl (Or.inr rfl) (by decide +kernel) h
                                                                                                                                      · rw [if_neg b90] at h
                                                                                                                                        refine E.up (fun _ _ hJ => J_tswO (len := 261) (dflt := 856) (lo := 0) (hi := 61) (offs := #[261, 263, 269, 275, 347, 408, 438, 315, 856, 856, 856, 856, 856, 496, 856, 856, 856, 856, 856, 519, 543, 575, 596, 261, 856, 856, 856, 856, 856, 856, 856, 856, 856, 856, 856, 856, 617, 617, 642, 642, 856, 669, 681, 704, 728, 754, 856, 856, 856, 856, 856, 856, 856, 856, 777, 804, 828, 856, 856, 856, 617, 617]) (tgt := 1031) (by decide +kernel) ?_ (by decide) hJ) ?_
                                                                                                                                        · have q := sw0 (x := v2) 0
                                                                                                                                          replace q : (v2).toInt < 0 ∨ 1 ≤ (v2).toInt := sw1 q b29 rfl rfl
                                                                                                                                          replace q : (v2).toInt < 0 ∨ 2 ≤ (v2).toInt := sw1 q b30 rfl rfl
                                                                                                                                          replace q : (v2).toInt < 0 ∨ 3 ≤ (v2).toInt := sw1 q b31 rfl rfl
                                                                                                                                          replace q : (v2).toInt < 0 ∨ 4 ≤ (v2).toInt := sw1 q b32 rfl rfl
                                                                                                                                          replace q : (v2).toInt < 0 ∨ 5 ≤ (v2).toInt := sw1 q b33 rfl rfl
                                                                                                                                          replace q : (v2).toInt < 0 ∨ 6 ≤ (v2).toInt := sw1 q b34 rfl rfl
                                                                                                                                          replace q : (v2).toInt < 0 ∨ 7 ≤ (v2).toInt := sw1 q b35 rfl rfl
                                                                                                                                          replace q : (v2).toInt < 0 ∨ 8 ≤ (v2).toInt := sw1 q b36 rfl rfl
                                                                                                                                          replace q : (v2).toInt < 0 ∨ 9 ≤ (v2).toInt := sw1 q b37 rfl rfl
                                                                                                                                          replace q : (v2).toInt < 0 ∨ 10 ≤ (v2).toInt := sw1 q b38 rfl rfl
                                                                                                                                          replace q : (v2).toInt < 0 ∨ 11 ≤ (v2).toInt := sw1 q b39 rfl rfl
                                                                                                                                          replace q : (v2).toInt < 0 ∨ 12 ≤ (v2).toInt := sw1 q b40 rfl rfl
                                                                                                                                          replace q : (v2).toInt < 0 ∨ 13 ≤ (v2).toInt := sw1 q b41 rfl rfl
                                                                                                                                          replace q : (v2).toInt < 0 ∨ 14 ≤ (v2).toInt := sw1 q b42 rfl rfl
                                                                                                                                          replace q : (v2).toInt < 0 ∨ 15 ≤ (v2).toInt := sw1 q b43 rfl rfl
                                                                                                                                          replace q : (v2).toInt < 0 ∨ 16 ≤ (v2).toInt := sw1 q b44 rfl rfl
                                                                                                                                          replace q : (v2).toInt < 0 ∨ 17 ≤ (v2).toInt := sw1 q b45 rfl rfl
                                                                                                                                          replace q : (v2).toInt < 0 ∨ 18 ≤ (v2).toInt := sw1 q b46 rfl rfl
                                                                                                                                          replace q : (v2).toInt < 0 ∨ 19 ≤ (v2).toInt := sw1 q b47 rfl rfl
                                                                                                                                          replace q : (v2).toInt < 0 ∨ 20 ≤ (v2).toInt := sw1 q b48 rfl rfl
                                                                                                                                          replace q : (v2).toInt < 0 ∨ 21 ≤ (v2).toInt := sw1 q b49 rfl rfl
                                                                                                                                          replace q : (v2).toInt < 0 ∨ 22 ≤ (v2).toInt := sw1 q b50 rfl rfl
                                                                                                                                          replace q : (v2).toInt < 0 ∨ 23 ≤ (v2).toInt := sw1 q b51 rfl rfl
                                                                                                                                          replace q : (v2).toInt < 0 ∨ 24 ≤ (v2).toInt := sw1 q b52 rfl rfl
                                                                                                                                          replace q : (v2).toInt < 0 ∨ 25 ≤ (v2).toInt := sw1 q b53 rfl rfl
                                                                                                                                          replace q : (v2).toInt < 0 ∨ 26 ≤ (v2).toInt := sw1 q b54 rfl rfl
                                                                                                                                          replace q : (v2).toInt < 0 ∨ 27 ≤ (v2).toInt := sw1 q b55 rfl rfl
                                                                                                                                          replace q : (v2).toInt < 0 ∨ 28 ≤ (v2).toInt := sw1 q b56 rfl rfl
                                                                                                                                          replace q : (v2).toInt < 0 ∨ 29 ≤ (v2).toInt := sw1 q b57 rfl rfl
                                                                                                                                          replace q : (v2).toInt < 0 ∨ 30 ≤ (v2).toInt := sw1 q b58 rfl rfl
                                                                                                                                          replace q : (v2).toInt < 0 ∨ 31 ≤ (v2).toInt := sw1 q b59 rfl rfl
                                                                                                                                          replace q : (v2).toInt < 0 ∨ 32 ≤ (v2).toInt := sw1 q b60 rfl rfl
                                                                                                                                          replace q : (v2).toInt < 0 ∨ 33 ≤ (v2).toInt := sw1 q b61 rfl rfl
                                                                                                                                          replace q : (v2).toInt < 0 ∨ 34 ≤ (v2).toInt := sw1 q b62 rfl rfl
                                                                                                                                          replace q : (v2).toInt < 0 ∨ 35 ≤ (v2).toInt := sw1 q b63 rfl rfl
                                                                                                                                          replace q : (v2).toInt < 0 ∨ 36 ≤ (v2).toInt := sw1 q b64 rfl rfl
                                                                                                                                          replace q : (v2).toInt < 0 ∨ 37 ≤ (v2).toInt := sw1 q b65 rfl rfl
                                                                                                                                          replace q : (v2).toInt < 0 ∨ 38 ≤ (v2).toInt := sw1 q b66 rfl rfl
                                                                                                                                          replace q : (v2).toInt < 0 ∨ 39 ≤ (v2).toInt := sw1 q b67 rfl rfl
                                                                                                                                          replace q : (v2).toInt < 0 ∨ 40 ≤ (v2).toInt := sw1 q b68 rfl rfl
                                                                                                                                          replace q : (v2).toInt < 0 ∨ 41 ≤ (v2).toInt := sw1 q b69 rfl rfl
                                                                                                                                          replace q : (v2).toInt < 0 ∨ 42 ≤ (v2).toInt := sw1 q b70 rfl rfl
                                                                                                                                          replace q : (v2).toInt < 0 ∨ 43 ≤ (v2).toInt := sw1 q b71 rfl rfl
                                                                                                                                          replace q : (v2).toInt < 0 ∨ 44 ≤ (v2).toInt := sw1 q b72 rfl rfl
                                                                                                                                          replace q : (v2).toInt < 0 ∨ 45 ≤ (v2).toInt := sw1 q b73 rfl rfl
                                                                                                                                          replace q : (v2).toInt < 0 ∨ 46 ≤ (v2).toInt := sw1 q b74 rfl rfl
                                                                                                                                          replace q : (v2).toInt < 0 ∨ 47 ≤ (v2).toInt := sw1 q b75 rfl rfl
                                                                                                                                          replace q : (v2).toInt < 0 ∨ 48 ≤ (v2).toInt := sw1 q b76 rfl rfl
                                                                                                                                          replace q : (v2).toInt < 0 ∨ 49 ≤ (v2).toInt := sw1 q b77 rfl rfl
                                                                                                                                          replace q : (v2).toInt < 0 ∨ 50 ≤ (v2).toInt := sw1 q b78 rfl rfl
                                                                                                                                          replace q : (v2).toInt < 0 ∨ 51 ≤ (v2).toInt := sw1 q b79 rfl rfl
                                                                                                                                          replace q : (v2).toInt < 0 ∨ 52 ≤ (v2).toInt := sw1 q b80 rfl rfl
                                                                                                                                          replace q : (v2).toInt < 0 ∨ 53 ≤ (v2).toInt := sw1 q b81 rfl rfl
                                                                                                                                          replace q : (v2).toInt < 0 ∨ 54 ≤ (v2).toInt := sw1 q b82 rfl rfl
                                                                                                                                          replace q : (v2).toInt < 0 ∨ 55 ≤ (v2).toInt := sw1 q b83 rfl rfl
                                                                                                                                          replace q : (v2).toInt < 0 ∨ 56 ≤ (v2).toInt := sw1 q b84 rfl rfl
                                                                                                                                          replace q : (v2).toInt < 0 ∨ 57 ≤ (v2).toInt := sw1 q b85 rfl rfl
                                                                                                                                          replace q : (v2).toInt < 0 ∨ 58 ≤ (v2).toInt := sw1 q b86 rfl rfl
                                                                                                                                          replace q : (v2).toInt < 0 ∨ 59 ≤ (v2).toInt := sw1 q b87 rfl rfl
                                                                                                                                          replace q : (v2).toInt < 0 ∨ 60 ≤ (v2).toInt := sw1 q b88 rfl rfl
                                                                                                                                          replace q : (v2).toInt < 0 ∨ 61 ≤ (v2).toInt := sw1 q b89 rfl rfl
                                                                                                                                          replace q : (v2).toInt < 0 ∨ 62 ≤ (v2).toInt := sw1 q b90 rfl rfl
                                                                                                                                          omega
                                                                                                                                        · refine E_blk (lv' := [some (vr (some (4, this))), none, some (vi v2), some (vi v3)]) (st' := [vi v2, vr (some (4, this))]) (M1 := M24) (pc' := 1033) (tb_Checker hγ) [.aload_n 0, .iload_n 2] (by decide +kernel) rfl rfl trivial ?_
                                                                                                                                          refine E_callV (κ' := k_Checker_leaves) (As := [vi v2]) (st := []) mv_Checker_leaves (Or.inl (tbk_mem (j := 8) (k := 56) rfl)) rfl (by decide +kernel) (Nat.le_of_ble_eq_true rfl) (Nat.le_of_ble_eq_true rfl) rfl (by decide) (lk_Checker_leaves hγ this v2 _ M24 h) (fun _ _ => Qi_r) (fun v M27 hp => Qi_k (R := fun st => E γ k_Checker_act 8 1036 [some (vr (some (4, this))), none, some (vi v2), some (vi v3)] st M27 (Qi Q)) hp (fun r28 h => ?_))
                                                                                                                                          exact E_zret rfl h.1 (by decide +kernel) h.2
          · rw [if_neg b26] at h
            refine E_blk (lv' := [some (vr (some (4, this))), none, some (vi v2), some (vi v3)]) (st' := [vi v3, vi v2, vr (some (4, this))]) (M1 := M24) (pc' := 170) (tb_Checker hγ) [.aload_n 0, .iload_n 2, .iload_n 3] (by decide +kernel) rfl rfl trivial ?_
            refine E_callV (κ' := k_Checker_call) (As := [vi v2, vi v3]) (st := []) mv_Checker_call (Or.inl (tbk_mem (j := 8) (k := 12) rfl)) rfl (by decide +kernel) (Nat.le_of_ble_eq_true rfl) (Nat.le_of_ble_eq_true rfl) rfl (by decide) (lk_Checker_call hγ this v2 v3 _ M24 h) (fun _ _ => Qi_r) (fun v M340 hp => Qi_k (R := fun st => E γ k_Checker_act 8 173 [some (vr (some (4, this))), none, some (vi v2), some (vi v3)] st M340 (Qi Q)) hp (fun r341 h => ?_))
            exact E_zret rfl h.1 (by decide +kernel) h.2
        · rw [if_neg b23] at h
          refine E_blk (lv' := [some (vr (some (4, this))), none, some (vi v2), some (vi v3)]) (st' := [vi v3, vi v2, vr (some (4, this))]) (M1 := M21) (pc' := 152) (tb_Checker hγ) [.aload_n 0, .iload_n 2, .iload_n 3] (by decide +kernel) rfl rfl trivial ?_
          refine E_callV (κ' := k_Checker_field) (As := [vi v2, vi v3]) (st := []) mv_Checker_field (Or.inl (tbk_mem (j := 8) (k := 0) rfl)) rfl (by decide +kernel) (Nat.le_of_ble_eq_true rfl) (Nat.le_of_ble_eq_true rfl) rfl (by decide) (lk_Checker_field hγ this v2 v3 _ M21 h) (fun _ _ => Qi_r) (fun v M342 hp => Qi_k (R := fun st => E γ k_Checker_act 8 155 [some (vr (some (4, this))), none, some (vi v2), some (vi v3)] st M342 (Qi Q)) hp (fun r343 h => ?_))
          exact E_zret rfl h.1 (by decide +kernel) h.2
      · rw [if_neg b20] at h
        refine E_blk (lv' := [some (vr (some (4, this))), none, some (vi v2), some (vi v3)]) (st' := [vi (0 : Int32), vi (0 : Int32), vr (some (4, this))]) (M1 := M18) (pc' := 116) (tb_Checker hγ) [.aload_n 0, .iconst 0, .iconst 0] (by decide +kernel) rfl rfl trivial ?_
        refine E_callV (κ' := k_Checker_wants2) (As := [vi (0 : Int32), vi (0 : Int32)]) (st := []) mv_Checker_wants2 (Or.inl (tbk_mem (j := 7) (k := 208) rfl)) rfl (by decide +kernel) (Nat.le_of_ble_eq_true rfl) (Nat.le_of_ble_eq_true rfl) rfl (by decide) (lk_Checker_wants2 hγ this (0 : Int32) (0 : Int32) _ M18 h) (fun _ _ => Qi_r) (fun v M344 hp => Qi_k (R := fun st => E γ k_Checker_act 8 119 [some (vr (some (4, this))), none, some (vi v2), some (vi v3)] st M344 (Qi Q)) hp (fun r345 h => ?_))
        refine E_if_eq (off := 17) (tgt := 136) (by decide +kernel) (by decide) (fun b346 => ?_) (fun b346 => ?_)
        · rw [if_pos b346] at h
          refine E_blk (lv' := [some (vr (some (4, this))), none, some (vi v2), some (vi v3)]) (st' := [vi (0 : Int32)]) (M1 := M344) (pc' := 137) (tb_Checker hγ) [.iconst 0] (by decide +kernel) rfl rfl trivial ?_
          exact E_zret rfl (Or.inl rfl) (by decide +kernel) h
        · rw [if_neg b346] at h
          refine E_blk (lv' := [some (vr (some (4, this))), none, some (vi v2), some (vi v3)]) (st' := [vi (-4 : Int32), vi (2 : Int32), vr (some (4, this))]) (M1 := M344) (pc' := 126) (tb_Checker hγ) [.aload_n 0, .iconst 2, .bipush (.negSucc 3)] (by decide +kernel) rfl rfl trivial ?_
          refine E_callV (κ' := k_Checker_comes) (As := [vi (2 : Int32), vi (-4 : Int32)]) (st := []) mv_Checker_comes (Or.inl (tbk_mem (j := 7) (k := 228) rfl)) rfl (by decide +kernel) (Nat.le_of_ble_eq_true rfl) (Nat.le_of_ble_eq_true rfl) rfl (by decide) (lk_Checker_comes hγ this (2 : Int32) (-4 : Int32) _ M344 h) (fun _ _ => Qi_r) (fun v M347 hp => Qi_k (R := fun st => E γ k_Checker_act 8 129 [some (vr (some (4, this))), none, some (vi v2), some (vi v3)] st M347 (Qi Q)) hp (fun r348 h => ?_))
          refine E_if_eq (off := 7) (tgt := 136) (by decide +kernel) (by decide) (fun b349 => ?_) (fun b349 => ?_)
          · rw [if_pos b349] at h
            refine E_blk (lv' := [some (vr (some (4, this))), none, some (vi v2), some (vi v3)]) (st' := [vi (0 : Int32)]) (M1 := M347) (pc' := 137) (tb_Checker hγ) [.iconst 0] (by decide +kernel) rfl rfl trivial ?_
            exact E_zret rfl (Or.inl rfl) (by decide +kernel) h
          · rw [if_neg b349] at h
            refine E_blk (lv' := [some (vr (some (4, this))), none, some (vi v2), some (vi v3)]) (st' := [vi (1 : Int32)]) (M1 := M347) (pc' := 133) (tb_Checker hγ) [.iconst 1] (by decide +kernel) rfl rfl trivial ?_
            refine E_goto (off := 4) (tgt := 137) (by decide +kernel) (by decide) ?_
            exact E_zret rfl (Or.inr rfl) (by decide +kernel) h
  · rw [if_neg b10] at h
    refine E_mask [true, false, false, false] rfl ?_
    exact lk_Checker_act_j78 hγ this Q  M8 h
set_option maxRecDepth 4096 in
theorem lk_Checker_act {γ : Gm} (hγ : Gk γ) (this : Nat) (a1 : Int32) (Q : Int32 → Mem → Prop) (M : Mem) (h : w_Checker_act this a1 Q M) : E γ k_Checker_act 8 0 [some (vr (some (4, this))), some (vi a1), none, none] [] M (Qi Q) := by
  unfold w_Checker_act at h
  refine E_blk (lv' := [some (vr (some (4, this))), some (vi a1), none, none]) (st' := [vr (mR M 4 this 4)]) (M1 := M) (pc' := 4) (tb_Checker hγ) [.aload_n 0, .getfield 35] (by decide +kernel) rfl rfl trivial ?_
  obtain ⟨i1, ei1, h⟩ := h
  rw [ei1]
  obtain ⟨c2, h⟩ := h
  refine E_blk (lv' := [some (vr (some (4, this))), some (vi a1), some (vi (mI M 66 i1 a1.toNatClampNeg)), none]) (st' := [vr (mR M 4 this 4)]) (M1 := M) (pc' := 14) (tb_Checker hγ) [.getfield 198, .iload_n 1, .iaload, .istore_n 2, .aload_n 0, .getfield 35] (by decide +kernel) rfl rfl ⟨c2, trivial⟩ ?_
  obtain ⟨i3, ei3, h⟩ := h
  rw [ei3]
  obtain ⟨c4, h⟩ := h
  refine E_blk (lv' := [some (vr (some (4, this))), some (vi a1), some (vi (mI M 66 i1 a1.toNatClampNeg)), some (vi (mI M 67 i3 a1.toNatClampNeg))]) (st' := [vi (18 : Int32), vi (8 : Int32), vi (mI M 66 i1 a1.toNatClampNeg)]) (M1 := M) (pc' := 25) (tb_Checker hγ) [.getfield 205, .iload_n 1, .iaload, .istore_n 3, .iload_n 2, .bipush 8, .bipush 18] (by decide +kernel) rfl rfl ⟨c4, trivial⟩ ?_
  refine E_callS (κ' := k_Works_isIn) (As := [vi (mI M 66 i1 a1.toNatClampNeg), vi (8 : Int32), vi (18 : Int32)]) (st := []) ms_Works_isIn (Or.inr ⟨"ClassWorks", (tbk_mem (j := 7) (k := 207) rfl)⟩) rfl (by decide +kernel) (Nat.le_of_ble_eq_true rfl) (Nat.le_of_ble_eq_true rfl) rfl (by decide) (lk_Works_isIn hγ (mI M 66 i1 a1.toNatClampNeg) (8 : Int32) (18 : Int32) _ M h) (fun _ _ => Qi_r) (fun v M5 hp => Qi_k (R := fun st => E γ k_Checker_act 8 28 [some (vr (some (4, this))), some (vi a1), some (vi (mI M 66 i1 a1.toNatClampNeg)), some (vi (mI M 67 i3 a1.toNatClampNeg))] st M5 (Qi Q)) hp (fun r6 h => ?_))
  refine E_if_eq (off := 33) (tgt := 61) (by decide +kernel) (by decide) (fun b7 => ?_) (fun b7 => ?_)
  · rw [if_pos b7] at h
    refine E_mask [true, false, true, true] rfl ?_
    exact lk_Checker_act_j61 hγ this Q (mI M 66 i1 a1.toNatClampNeg) (mI M 67 i3 a1.toNatClampNeg) M5 h
  · rw [if_neg b7] at h
    refine E_blk (lv' := [some (vr (some (4, this))), some (vi a1), some (vi (mI M 66 i1 a1.toNatClampNeg)), some (vi (mI M 67 i3 a1.toNatClampNeg))]) (st' := [vi (13 : Int32), vi (mI M 66 i1 a1.toNatClampNeg)]) (M1 := M5) (pc' := 34) (tb_Checker hγ) [.iload_n 2, .bipush 13] (by decide +kernel) rfl rfl trivial ?_
    refine E_icmp_eq (off := 27) (tgt := 61) (by decide +kernel) (by decide) (fun b350 => ?_) (fun b350 => ?_)
    · rw [if_pos b350] at h
      refine E_mask [true, false, true, true] rfl ?_
      exact lk_Checker_act_j61 hγ this Q (mI M 66 i1 a1.toNatClampNeg) (mI M 67 i3 a1.toNatClampNeg) M5 h
    · rw [if_neg b350] at h
      refine E_blk (lv' := [some (vr (some (4, this))), some (vi a1), some (vi (mI M 66 i1 a1.toNatClampNeg)), some (vi (mI M 67 i3 a1.toNatClampNeg))]) (st' := [vi (0 : Int32), vi (0 : Int32), vr (some (4, this))]) (M1 := M5) (pc' := 40) (tb_Checker hγ) [.aload_n 0, .iconst 0, .iconst 0] (by decide +kernel) rfl rfl trivial ?_
      refine E_callV (κ' := k_Checker_wants2) (As := [vi (0 : Int32), vi (0 : Int32)]) (st := []) mv_Checker_wants2 (Or.inl (tbk_mem (j := 7) (k := 208) rfl)) rfl (by decide +kernel) (Nat.le_of_ble_eq_true rfl) (Nat.le_of_ble_eq_true rfl) rfl (by decide) (lk_Checker_wants2 hγ this (0 : Int32) (0 : Int32) _ M5 h) (fun _ _ => Qi_r) (fun v M351 hp => Qi_k (R := fun st => E γ k_Checker_act 8 43 [some (vr (some (4, this))), some (vi a1), some (vi (mI M 66 i1 a1.toNatClampNeg)), some (vi (mI M 67 i3 a1.toNatClampNeg))] st M351 (Qi Q)) hp (fun r352 h => ?_))
      refine E_if_eq (off := 16) (tgt := 59) (by decide +kernel) (by decide) (fun b353 => ?_) (fun b353 => ?_)
      · rw [if_pos b353] at h
        refine E_blk (lv' := [some (vr (some (4, this))), some (vi a1), some (vi (mI M 66 i1 a1.toNatClampNeg)), some (vi (mI M 67 i3 a1.toNatClampNeg))]) (st' := [vi (0 : Int32)]) (M1 := M351) (pc' := 60) (tb_Checker hγ) [.iconst 0] (by decide +kernel) rfl rfl trivial ?_
        exact E_zret rfl (Or.inl rfl) (by decide +kernel) h
      · rw [if_neg b353] at h
        refine E_blk (lv' := [some (vr (some (4, this))), some (vi a1), some (vi (mI M 66 i1 a1.toNatClampNeg)), some (vi (mI M 67 i3 a1.toNatClampNeg))]) (st' := [vi (0 : Int32), vi (2 : Int32), vr (some (4, this))]) (M1 := M351) (pc' := 49) (tb_Checker hγ) [.aload_n 0, .iconst 2, .iconst 0] (by decide +kernel) rfl rfl trivial ?_
        refine E_callV (κ' := k_Checker_comes) (As := [vi (2 : Int32), vi (0 : Int32)]) (st := []) mv_Checker_comes (Or.inl (tbk_mem (j := 7) (k := 228) rfl)) rfl (by decide +kernel) (Nat.le_of_ble_eq_true rfl) (Nat.le_of_ble_eq_true rfl) rfl (by decide) (lk_Checker_comes hγ this (2 : Int32) (0 : Int32) _ M351 h) (fun _ _ => Qi_r) (fun v M354 hp => Qi_k (R := fun st => E γ k_Checker_act 8 52 [some (vr (some (4, this))), some (vi a1), some (vi (mI M 66 i1 a1.toNatClampNeg)), some (vi (mI M 67 i3 a1.toNatClampNeg))] st M354 (Qi Q)) hp (fun r355 h => ?_))
        refine E_if_eq (off := 7) (tgt := 59) (by decide +kernel) (by decide) (fun b356 => ?_) (fun b356 => ?_)
        · rw [if_pos b356] at h
          refine E_blk (lv' := [some (vr (some (4, this))), some (vi a1), some (vi (mI M 66 i1 a1.toNatClampNeg)), some (vi (mI M 67 i3 a1.toNatClampNeg))]) (st' := [vi (0 : Int32)]) (M1 := M354) (pc' := 60) (tb_Checker hγ) [.iconst 0] (by decide +kernel) rfl rfl trivial ?_
          exact E_zret rfl (Or.inl rfl) (by decide +kernel) h
        · rw [if_neg b356] at h
          refine E_blk (lv' := [some (vr (some (4, this))), some (vi a1), some (vi (mI M 66 i1 a1.toNatClampNeg)), some (vi (mI M 67 i3 a1.toNatClampNeg))]) (st' := [vi (1 : Int32)]) (M1 := M354) (pc' := 56) (tb_Checker hγ) [.iconst 1] (by decide +kernel) rfl rfl trivial ?_
          refine E_goto (off := 4) (tgt := 60) (by decide +kernel) (by decide) ?_
          exact E_zret rfl (Or.inr rfl) (by decide +kernel) h
