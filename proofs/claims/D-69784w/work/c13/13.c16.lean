def k_Model_member : Kp := (⟨"ClassWorksModel", "member", "(IIII)I"⟩, prog_13_method_136_code, 8, some (.int), [])
theorem mv_Model_member : MV k_Model_member 11 4 := ⟨⟨_, rfl, rfl⟩, by decide, (tbk_mem (j := 15) (k := 138) rfl), Or.inl (tbk_mem (j := 15) (k := 139) rfl), Or.inl ⟨rfl, (tbk_mem (j := 15) (k := 140) rfl)⟩, ⟨by decide, by decide⟩, by decide +kernel, by decide +kernel, by decide⟩
def k_Model_link : Kp := (⟨"ClassWorksModel", "link", "(II)I"⟩, prog_13_method_137_code, 3, some (.int), [])
theorem mv_Model_link : MV k_Model_link 11 2 := ⟨⟨_, rfl, rfl⟩, by decide, (tbk_mem (j := 15) (k := 142) rfl), Or.inl (tbk_mem (j := 15) (k := 143) rfl), Or.inl ⟨rfl, (tbk_mem (j := 15) (k := 144) rfl)⟩, ⟨by decide, by decide⟩, by decide +kernel, by decide +kernel, by decide⟩
def k_Model_checked : Kp := (⟨"ClassWorksModel", "checked", "(II)I"⟩, prog_13_method_138_code, 3, some (.int), [])
theorem mv_Model_checked : MV k_Model_checked 11 2 := ⟨⟨_, rfl, rfl⟩, by decide, (tbk_mem (j := 16) (k := 16) rfl), Or.inl (tbk_mem (j := 16) (k := 17) rfl), Or.inl ⟨rfl, (tbk_mem (j := 16) (k := 18) rfl)⟩, ⟨by decide, by decide⟩, by decide +kernel, by decide +kernel, by decide⟩
def k_Model_callWords : Kp := (⟨"ClassWorksModel", "callWords", "()V"⟩, prog_13_method_139_code, 2, none, [])
theorem mv_Model_callWords : MV k_Model_callWords 11 0 := ⟨⟨_, rfl, rfl⟩, by decide, (tbk_mem (j := 16) (k := 32) rfl), Or.inr ⟨(tbk_mem (j := 16) (k := 31) rfl), 131, (tbk_mem (j := 11) (k := 41) rfl)⟩, Or.inl ⟨rfl, (tbk_mem (j := 16) (k := 33) rfl)⟩, ⟨by decide, by decide⟩, by decide +kernel, by decide +kernel, by decide⟩
def k_Model_methodWords : Kp := (⟨"ClassWorksModel", "methodWords", "()V"⟩, prog_13_method_141_code, 2, none, [])
theorem mv_Model_methodWords : MV k_Model_methodWords 11 0 := ⟨⟨_, rfl, rfl⟩, by decide, (tbk_mem (j := 16) (k := 36) rfl), Or.inr ⟨(tbk_mem (j := 16) (k := 35) rfl), 131, (tbk_mem (j := 11) (k := 41) rfl)⟩, Or.inl ⟨rfl, (tbk_mem (j := 16) (k := 37) rfl)⟩, ⟨by decide, by decide⟩, by decide +kernel, by decide +kernel, by decide⟩
def k_Model_takesLine : Kp := (⟨"ClassWorksModel", "takesLine", "(I)Z"⟩, prog_13_method_140_code, 6, some (.boolean), [(18, 114, 117, 267)])
theorem mv_Model_takesLine : MV k_Model_takesLine 11 1 := ⟨⟨_, rfl, rfl⟩, by decide, (tbk_mem (j := 16) (k := 28) rfl), Or.inr ⟨(tbk_mem (j := 16) (k := 27) rfl), 131, (tbk_mem (j := 11) (k := 41) rfl)⟩, Or.inr (tbk_mem (j := 16) (k := 29) rfl), ⟨by decide, by decide⟩, by decide +kernel, by decide +kernel, by decide⟩
def k_Model_beginRun : Kp := (⟨"ClassWorksModel", "beginRun", "(LClassWorksModel$Run;)V"⟩, prog_13_method_142_code, 3, none, [])
theorem mv_Model_beginRun : MV k_Model_beginRun 11 1 := ⟨⟨_, rfl, rfl⟩, by decide, (tbk_mem (j := 16) (k := 40) rfl), Or.inr ⟨(tbk_mem (j := 16) (k := 39) rfl), 131, (tbk_mem (j := 11) (k := 41) rfl)⟩, Or.inl ⟨rfl, (tbk_mem (j := 16) (k := 41) rfl)⟩, ⟨by decide, by decide⟩, by decide +kernel, by decide +kernel, by decide⟩
def k_Model_isThread : Kp := (⟨"ClassWorksModel", "isThread", "(I)Z"⟩, prog_13_method_143_code, 1, some (.boolean), [])
theorem ms_Model_isThread : MSt k_Model_isThread 1 := ⟨(tbk_mem (j := 16) (k := 24) rfl), (tbk_mem (j := 1) (k := 21) rfl), Or.inl ⟨rfl, (tbk_mem (j := 16) (k := 25) rfl)⟩, ⟨by decide, by decide⟩, by decide +kernel, by decide +kernel, by decide⟩
def k_Model_call : Kp := (⟨"ClassWorksModel", "call", "(II)I"⟩, prog_13_method_144_code, 3, some (.int), [])
theorem mv_Model_call : MV k_Model_call 11 2 := ⟨⟨_, rfl, rfl⟩, by decide, (tbk_mem (j := 16) (k := 20) rfl), Or.inl (tbk_mem (j := 16) (k := 21) rfl), Or.inl ⟨rfl, (tbk_mem (j := 16) (k := 22) rfl)⟩, ⟨by decide, by decide⟩, by decide +kernel, by decide +kernel, by decide⟩
def k_Model_quantum : Kp := (⟨"ClassWorksModel", "quantum", "(II)I"⟩, prog_13_method_145_code, 4, some (.int), [])
theorem mv_Model_quantum : MV k_Model_quantum 11 2 := ⟨⟨_, rfl, rfl⟩, by decide, (tbk_mem (j := 16) (k := 43) rfl), Or.inl (tbk_mem (j := 16) (k := 44) rfl), Or.inl ⟨rfl, (tbk_mem (j := 16) (k := 45) rfl)⟩, ⟨by decide, by decide⟩, by decide +kernel, by decide +kernel, by decide⟩
def k_Model_halt : Kp := (⟨"ClassWorksModel", "halt", "(I)I"⟩, prog_13_method_146_code, 4, some (.int), [])
theorem mv_Model_halt : MV k_Model_halt 11 1 := ⟨⟨_, rfl, rfl⟩, by decide, (tbk_mem (j := 16) (k := 47) rfl), Or.inl (tbk_mem (j := 16) (k := 48) rfl), Or.inl ⟨rfl, (tbk_mem (j := 16) (k := 49) rfl)⟩, ⟨by decide, by decide⟩, by decide +kernel, by decide +kernel, by decide⟩
def k_Model_step : Kp := (⟨"ClassWorksModel", "step", "(II)I"⟩, prog_13_method_147_code, 4, some (.int), [])
theorem mv_Model_step : MV k_Model_step 11 2 := ⟨⟨_, rfl, rfl⟩, by decide, (tbk_mem (j := 16) (k := 51) rfl), Or.inl (tbk_mem (j := 16) (k := 52) rfl), Or.inl ⟨rfl, (tbk_mem (j := 16) (k := 53) rfl)⟩, ⟨by decide, by decide⟩, by decide +kernel, by decide +kernel, by decide⟩
def k_Model_run : Kp := (⟨"ClassWorksModel", "run", "(III)I"⟩, prog_13_method_148_code, 8, some (.int), [])
theorem mv_Model_run : MV k_Model_run 11 3 := ⟨⟨_, rfl, rfl⟩, by decide, (tbk_mem (j := 17) (k := 4) rfl), Or.inl (tbk_mem (j := 17) (k := 5) rfl), Or.inl ⟨rfl, (tbk_mem (j := 17) (k := 6) rfl)⟩, ⟨by decide, by decide⟩, by decide +kernel, by decide +kernel, by decide⟩
def k_Model_started : Kp := (⟨"ClassWorksModel", "started", "(II)I"⟩, prog_13_method_149_code, 3, some (.int), [])
theorem mv_Model_started : MV k_Model_started 11 2 := ⟨⟨_, rfl, rfl⟩, by decide, (tbk_mem (j := 17) (k := 8) rfl), Or.inl (tbk_mem (j := 17) (k := 9) rfl), Or.inl ⟨rfl, (tbk_mem (j := 17) (k := 10) rfl)⟩, ⟨by decide, by decide⟩, by decide +kernel, by decide +kernel, by decide⟩
def k_Model_shown : Kp := (⟨"ClassWorksModel", "shown", "(IZ)I"⟩, prog_13_method_150_code, 2, some (.int), [])
theorem ms_Model_shown : MSt k_Model_shown 2 := ⟨(tbk_mem (j := 17) (k := 16) rfl), (tbk_mem (j := 1) (k := 21) rfl), Or.inl ⟨rfl, (tbk_mem (j := 17) (k := 17) rfl)⟩, ⟨by decide, by decide⟩, by decide +kernel, by decide +kernel, by decide⟩
def k_Model_value : Kp := (⟨"ClassWorksModel", "value", "(IIZI)I"⟩, prog_13_method_151_code, 9, some (.int), [])
theorem mv_Model_value : MV k_Model_value 11 4 := ⟨⟨_, rfl, rfl⟩, by decide, (tbk_mem (j := 17) (k := 12) rfl), Or.inl (tbk_mem (j := 17) (k := 13) rfl), Or.inl ⟨rfl, (tbk_mem (j := 17) (k := 14) rfl)⟩, ⟨by decide, by decide⟩, by decide +kernel, by decide +kernel, by decide⟩
def k_Model_fixed : Kp := (⟨"ClassWorksModel", "fixed", "(III)I"⟩, prog_13_method_152_code, 6, some (.int), [])
theorem mv_Model_fixed : MV k_Model_fixed 11 3 := ⟨⟨_, rfl, rfl⟩, by decide, (tbk_mem (j := 17) (k := 19) rfl), Or.inl (tbk_mem (j := 17) (k := 20) rfl), Or.inl ⟨rfl, (tbk_mem (j := 17) (k := 21) rfl)⟩, ⟨by decide, by decide⟩, by decide +kernel, by decide +kernel, by decide⟩
def k_Model_isRefField : Kp := (⟨"ClassWorksModel", "isRefField", "(II)Z"⟩, prog_13_method_154_code, 7, some (.boolean), [])
theorem mv_Model_isRefField : MV k_Model_isRefField 11 2 := ⟨⟨_, rfl, rfl⟩, by decide, (tbk_mem (j := 17) (k := 28) rfl), Or.inr ⟨(tbk_mem (j := 17) (k := 27) rfl), 131, (tbk_mem (j := 11) (k := 41) rfl)⟩, Or.inl ⟨rfl, (tbk_mem (j := 17) (k := 29) rfl)⟩, ⟨by decide, by decide⟩, by decide +kernel, by decide +kernel, by decide⟩
def k_Model_object : Kp := (⟨"ClassWorksModel", "object", "(III)I"⟩, prog_13_method_153_code, 5, some (.int), [])
theorem mv_Model_object : MV k_Model_object 11 3 := ⟨⟨_, rfl, rfl⟩, by decide, (tbk_mem (j := 17) (k := 23) rfl), Or.inl (tbk_mem (j := 17) (k := 24) rfl), Or.inl ⟨rfl, (tbk_mem (j := 17) (k := 25) rfl)⟩, ⟨by decide, by decide⟩, by decide +kernel, by decide +kernel, by decide⟩
def k_Model_put : Kp := (⟨"ClassWorksModel", "put", "(I)V"⟩, prog_13_method_155_code, 2, none, [])
theorem mv_Model_put : MV k_Model_put 11 1 := ⟨⟨_, rfl, rfl⟩, by decide, (tbk_mem (j := 17) (k := 45) rfl), Or.inr ⟨(tbk_mem (j := 17) (k := 44) rfl), 131, (tbk_mem (j := 11) (k := 41) rfl)⟩, Or.inl ⟨rfl, (tbk_mem (j := 17) (k := 46) rfl)⟩, ⟨by decide, by decide⟩, by decide +kernel, by decide +kernel, by decide⟩
def k_Model_putWord : Kp := (⟨"ClassWorksModel", "putWord", "(Ljava/lang/String;)V"⟩, prog_13_method_156_code, 3, none, [])
theorem mv_Model_putWord : MV k_Model_putWord 11 1 := ⟨⟨_, rfl, rfl⟩, by decide, (tbk_mem (j := 17) (k := 41) rfl), Or.inr ⟨(tbk_mem (j := 17) (k := 40) rfl), 131, (tbk_mem (j := 11) (k := 41) rfl)⟩, Or.inl ⟨rfl, (tbk_mem (j := 17) (k := 42) rfl)⟩, ⟨by decide, by decide⟩, by decide +kernel, by decide +kernel, by decide⟩
def k_Model_putName : Kp := (⟨"ClassWorksModel", "putName", "(I)V"⟩, prog_13_method_157_code, 3, none, [])
theorem mv_Model_putName : MV k_Model_putName 11 1 := ⟨⟨_, rfl, rfl⟩, by decide, (tbk_mem (j := 17) (k := 52) rfl), Or.inr ⟨(tbk_mem (j := 17) (k := 51) rfl), 131, (tbk_mem (j := 11) (k := 41) rfl)⟩, Or.inl ⟨rfl, (tbk_mem (j := 17) (k := 53) rfl)⟩, ⟨by decide, by decide⟩, by decide +kernel, by decide +kernel, by decide⟩
def k_Model_putNumber : Kp := (⟨"ClassWorksModel", "putNumber", "(I)V"⟩, prog_13_method_158_code, 6, none, [])
theorem mv_Model_putNumber : MV k_Model_putNumber 11 1 := ⟨⟨_, rfl, rfl⟩, by decide, (tbk_mem (j := 17) (k := 71) rfl), Or.inr ⟨(tbk_mem (j := 17) (k := 70) rfl), 131, (tbk_mem (j := 11) (k := 41) rfl)⟩, Or.inl ⟨rfl, (tbk_mem (j := 17) (k := 72) rfl)⟩, ⟨by decide, by decide⟩, by decide +kernel, by decide +kernel, by decide⟩
def k_Model_putType : Kp := (⟨"ClassWorksModel", "putType", "(I)V"⟩, prog_13_method_159_code, 2, none, [])
theorem mv_Model_putType : MV k_Model_putType 11 1 := ⟨⟨_, rfl, rfl⟩, by decide, (tbk_mem (j := 17) (k := 65) rfl), Or.inr ⟨(tbk_mem (j := 17) (k := 64) rfl), 131, (tbk_mem (j := 11) (k := 41) rfl)⟩, Or.inl ⟨rfl, (tbk_mem (j := 17) (k := 66) rfl)⟩, ⟨by decide, by decide⟩, by decide +kernel, by decide +kernel, by decide⟩
def k_Model_putSignature : Kp := (⟨"ClassWorksModel", "putSignature", "(I)V"⟩, prog_13_method_160_code, 3, none, [])
theorem mv_Model_putSignature : MV k_Model_putSignature 11 1 := ⟨⟨_, rfl, rfl⟩, by decide, (tbk_mem (j := 17) (k := 80) rfl), Or.inr ⟨(tbk_mem (j := 17) (k := 79) rfl), 131, (tbk_mem (j := 11) (k := 41) rfl)⟩, Or.inl ⟨rfl, (tbk_mem (j := 17) (k := 81) rfl)⟩, ⟨by decide, by decide⟩, by decide +kernel, by decide +kernel, by decide⟩
def k_Model_putFlag : Kp := (⟨"ClassWorksModel", "putFlag", "(ZLjava/lang/String;)V"⟩, prog_13_method_161_code, 3, none, [])
theorem mv_Model_putFlag : MV k_Model_putFlag 11 2 := ⟨⟨_, rfl, rfl⟩, by decide, (tbk_mem (j := 17) (k := 37) rfl), Or.inr ⟨(tbk_mem (j := 17) (k := 36) rfl), 131, (tbk_mem (j := 11) (k := 41) rfl)⟩, Or.inl ⟨rfl, (tbk_mem (j := 17) (k := 38) rfl)⟩, ⟨by decide, by decide⟩, by decide +kernel, by decide +kernel, by decide⟩
def k_Model_putFlags : Kp := (⟨"ClassWorksModel", "putFlags", "(I)V"⟩, prog_13_method_163_code, 2, none, [])
theorem mv_Model_putFlags : MV k_Model_putFlags 11 1 := ⟨⟨_, rfl, rfl⟩, by decide, (tbk_mem (j := 17) (k := 59) rfl), Or.inr ⟨(tbk_mem (j := 17) (k := 58) rfl), 131, (tbk_mem (j := 11) (k := 41) rfl)⟩, Or.inl ⟨rfl, (tbk_mem (j := 17) (k := 60) rfl)⟩, ⟨by decide, by decide⟩, by decide +kernel, by decide +kernel, by decide⟩
def k_Model_putKinds : Kp := (⟨"ClassWorksModel", "putKinds", "(III)V"⟩, prog_13_method_166_code, 6, none, [])
theorem mv_Model_putKinds : MV k_Model_putKinds 11 3 := ⟨⟨_, rfl, rfl⟩, by decide, (tbk_mem (j := 17) (k := 92) rfl), Or.inr ⟨(tbk_mem (j := 17) (k := 91) rfl), 131, (tbk_mem (j := 11) (k := 41) rfl)⟩, Or.inl ⟨rfl, (tbk_mem (j := 17) (k := 93) rfl)⟩, ⟨by decide, by decide⟩, by decide +kernel, by decide +kernel, by decide⟩
def k_Model_putLabel : Kp := (⟨"ClassWorksModel", "putLabel", "(I)V"⟩, prog_13_method_164_code, 4, none, [])
theorem mv_Model_putLabel : MV k_Model_putLabel 11 1 := ⟨⟨_, rfl, rfl⟩, by decide, (tbk_mem (j := 17) (k := 98) rfl), Or.inr ⟨(tbk_mem (j := 17) (k := 97) rfl), 131, (tbk_mem (j := 11) (k := 41) rfl)⟩, Or.inl ⟨rfl, (tbk_mem (j := 17) (k := 99) rfl)⟩, ⟨by decide, by decide⟩, by decide +kernel, by decide +kernel, by decide⟩
def k_Model_putInstruction : Kp := (⟨"ClassWorksModel", "putInstruction", "(II)V"⟩, prog_13_method_167_code, 7, none, [])
theorem mv_Model_putInstruction : MV k_Model_putInstruction 11 2 := ⟨⟨_, rfl, rfl⟩, by decide, (tbk_mem (j := 17) (k := 87) rfl), Or.inr ⟨(tbk_mem (j := 17) (k := 86) rfl), 131, (tbk_mem (j := 11) (k := 41) rfl)⟩, Or.inl ⟨rfl, (tbk_mem (j := 17) (k := 88) rfl)⟩, ⟨by decide, by decide⟩, by decide +kernel, by decide +kernel, by decide⟩
def w_Model_member_j59 (this : Nat) (Q : Int32 → Mem → Prop) (v2 : Int32) (v3 : Int32) (v4 : Int32) (v5 : Nat) (s0 : Int32) (s1 : Int32) (M : Mem) : Prop :=
  if s1 < s0 then (if v4 = (0 : Int32) then (vp_in (((12 : Int32) * v2) + v3) (mL M 146 v5) ∧ Q (mI M 146 v5 (((12 : Int32) * v2) + v3).toNatClampNeg) M) else (if v4 = (1 : Int32) then (∃ i26, (mR M 11 this 31) = some (300, i26) ∧ vp_in (((12 : Int32) * v2) + v3) (mL M 145 v5) ∧ vp_in (mI M 145 v5 (((12 : Int32) * v2) + v3).toNatClampNeg) (mL M 300 i26) ∧ Q (mI M 300 i26 (mI M 145 v5 (((12 : Int32) * v2) + v3).toNatClampNeg).toNatClampNeg) M) else (if v4 = (2 : Int32) then (vp_in (((12 : Int32) * v2) + v3) (mL M 147 v5) ∧ Q (mI M 147 v5 (((12 : Int32) * v2) + v3).toNatClampNeg) M) else (if v4 = (3 : Int32) then (vp_in (((12 : Int32) * v2) + v3) (mL M 148 v5) ∧ Q (mI M 148 v5 (((12 : Int32) * v2) + v3).toNatClampNeg) M) else (if v4 = (4 : Int32) then (vp_in (((12 : Int32) * v2) + v3) (mL M 150 v5) ∧ Q (mI M 150 v5 (((12 : Int32) * v2) + v3).toNatClampNeg) M) else (if v4 = (5 : Int32) then (vp_in (((8 : Int32) * v2) + v3) (mL M 141 v5) ∧ Q (mI M 141 v5 (((8 : Int32) * v2) + v3).toNatClampNeg) M) else (vp_in (((8 : Int32) * v2) + v3) (mL M 140 v5) ∧ if (mI M 140 v5 (((8 : Int32) * v2) + v3).toNatClampNeg) = (1 : Int32) then (Q (0 : Int32) M) else (vp_in (((8 : Int32) * v2) + v3) (mL M 140 v5) ∧ if (mI M 140 v5 (((8 : Int32) * v2) + v3).toNatClampNeg) = (2 : Int32) then (Q (1 : Int32) M) else (Q (2 : Int32) M))))))))) else (Q (-1 : Int32) M)
def w_Model_member (this : Nat) (a1 : Int32) (a2 : Int32) (a3 : Int32) (a4 : Int32) (Q : Int32 → Mem → Prop) (M : Mem) : Prop :=
  w_Model_isClass this a1 a2 (fun r2 M1 => if r2 = 0 then (Q (-1 : Int32) M1) else (if a4 < 0 then (Q (-1 : Int32) M1) else (if (6 : Int32) < a4 then (Q (-1 : Int32) M1) else (if 0 ≤ a3 then (vp_in a1 (mL M1 703 0) ∧ ∃ i8, (mR M1 703 0 a1.toNatClampNeg) = some (12, i8) ∧ if (5 : Int32) ≤ a4 then (vp_in a2 (mL M1 135 i8) ∧ w_Model_member_j59 this Q a2 a3 a4 i8 (mI M1 135 i8 a2.toNatClampNeg) a3 M1) else (vp_in a2 (mL M1 136 i8) ∧ w_Model_member_j59 this Q a2 a3 a4 i8 (mI M1 136 i8 a2.toNatClampNeg) a3 M1)) else (Q (-1 : Int32) M1))))) M
set_option maxRecDepth 4096 in
theorem lk_Model_member_j59 {γ : Gm} (hγ : Gk γ) (this : Nat) (Q : Int32 → Mem → Prop) (v2 : Int32) (v3 : Int32) (v4 : Int32) (v5 : Nat) (s0 : Int32) (s1 : Int32) (M : Mem) (h : w_Model_member_j59 this Q v2 v3 v4 v5 s0 s1 M) : E γ k_Model_member 2 59 [some (vr (some (11, this))), none, some (vi v2), some (vi v3), some (vi v4), some (vr (some (12, v5))), none, none] [vi s0, vi s1] M (Qi Q) := by
  unfold w_Model_member_j59 at h
  refine E_icmp_lt (off := 5) (tgt := 64) (by decide +kernel) (by decide) (fun b11 => ?_) (fun b11 => ?_)
  · rw [if_pos b11] at h
    refine E_blk (lv' := [some (vr (some (11, this))), none, some (vi v2), some (vi v3), some (vi v4), some (vr (some (12, v5))), some (vi (((12 : Int32) * v2) + v3)), some (vi (((8 : Int32) * v2) + v3))]) (st' := [vi v4]) (M1 := M) (pc' := 82) (tb_Model hγ) [.bipush 12, .iload_n 2, .imul, .iload_n 3, .iadd, .istore 6, .bipush 8, .iload_n 2, .imul, .iload_n 3, .iadd, .istore 7, .iload 4] (by decide +kernel) rfl rfl trivial ?_
    by_cases b16 : v4 = (0 : Int32)
    · rw [if_pos b16] at h
      refine E.up (fun _ _ hJ => J_tswI (len := 38) (dflt := 97) (lo := 0) (hi := 5) (offs := #[38, 47, 61, 70, 79, 88]) (off := 38) (tgt := 120) (by decide +kernel) (by rw [b16]; decide) (by rw [b16]; decide) (by rw [b16]; rfl) (by decide) hJ) ?_
      obtain ⟨c29, h⟩ := h
      refine E_blk (lv' := [some (vr (some (11, this))), none, some (vi v2), some (vi v3), some (vi v4), some (vr (some (12, v5))), some (vi (((12 : Int32) * v2) + v3)), some (vi (((8 : Int32) * v2) + v3))]) (st' := [vi (mI M 146 v5 (((12 : Int32) * v2) + v3).toNatClampNeg)]) (M1 := M) (pc' := 128) (tb_Model hγ) [.aload 5, .getfield 453, .iload 6, .iaload] (by decide +kernel) rfl rfl ⟨c29, trivial⟩ ?_
      exact E_iret rfl (by decide +kernel) h
    · rw [if_neg b16] at h
      by_cases b17 : v4 = (1 : Int32)
      · rw [if_pos b17] at h
        refine E.up (fun _ _ hJ => J_tswI (len := 38) (dflt := 97) (lo := 0) (hi := 5) (offs := #[38, 47, 61, 70, 79, 88]) (off := 47) (tgt := 129) (by decide +kernel) (by rw [b17]; decide) (by rw [b17]; decide) (by rw [b17]; rfl) (by decide) hJ) ?_
        refine E_blk (lv' := [some (vr (some (11, this))), none, some (vi v2), some (vi v3), some (vi v4), some (vr (some (12, v5))), some (vi (((12 : Int32) * v2) + v3)), some (vi (((8 : Int32) * v2) + v3))]) (st' := [vr (mR M 11 this 31)]) (M1 := M) (pc' := 133) (tb_Model hγ) [.aload_n 0, .getfield 80] (by decide +kernel) rfl rfl trivial ?_
        obtain ⟨i26, ei26, h⟩ := h
        rw [ei26]
        obtain ⟨c27, c28, h⟩ := h
        refine E_blk (lv' := [some (vr (some (11, this))), none, some (vi v2), some (vi v3), some (vi v4), some (vr (some (12, v5))), some (vi (((12 : Int32) * v2) + v3)), some (vi (((8 : Int32) * v2) + v3))]) (st' := [vi (mI M 300 i26 (mI M 145 v5 (((12 : Int32) * v2) + v3).toNatClampNeg).toNatClampNeg)]) (M1 := M) (pc' := 142) (tb_Model hγ) [.aload 5, .getfield 450, .iload 6, .iaload, .iaload] (by decide +kernel) rfl rfl ⟨c27, c28, trivial⟩ ?_
        exact E_iret rfl (by decide +kernel) h
      · rw [if_neg b17] at h
        by_cases b18 : v4 = (2 : Int32)
        · rw [if_pos b18] at h
          refine E.up (fun _ _ hJ => J_tswI (len := 38) (dflt := 97) (lo := 0) (hi := 5) (offs := #[38, 47, 61, 70, 79, 88]) (off := 61) (tgt := 143) (by decide +kernel) (by rw [b18]; decide) (by rw [b18]; decide) (by rw [b18]; rfl) (by decide) hJ) ?_
          obtain ⟨c25, h⟩ := h
          refine E_blk (lv' := [some (vr (some (11, this))), none, some (vi v2), some (vi v3), some (vi v4), some (vr (some (12, v5))), some (vi (((12 : Int32) * v2) + v3)), some (vi (((8 : Int32) * v2) + v3))]) (st' := [vi (mI M 147 v5 (((12 : Int32) * v2) + v3).toNatClampNeg)]) (M1 := M) (pc' := 151) (tb_Model hγ) [.aload 5, .getfield 456, .iload 6, .iaload] (by decide +kernel) rfl rfl ⟨c25, trivial⟩ ?_
          exact E_iret rfl (by decide +kernel) h
        · rw [if_neg b18] at h
          by_cases b19 : v4 = (3 : Int32)
          · rw [if_pos b19] at h
            refine E.up (fun _ _ hJ => J_tswI (len := 38) (dflt := 97) (lo := 0) (hi := 5) (offs := #[38, 47, 61, 70, 79, 88]) (off := 70) (tgt := 152) (by decide +kernel) (by rw [b19]; decide) (by rw [b19]; decide) (by rw [b19]; rfl) (by decide) hJ) ?_
            obtain ⟨c24, h⟩ := h
            refine E_blk (lv' := [some (vr (some (11, this))), none, some (vi v2), some (vi v3), some (vi v4), some (vr (some (12, v5))), some (vi (((12 : Int32) * v2) + v3)), some (vi (((8 : Int32) * v2) + v3))]) (st' := [vi (mI M 148 v5 (((12 : Int32) * v2) + v3).toNatClampNeg)]) (M1 := M) (pc' := 160) (tb_Model hγ) [.aload 5, .getfield 459, .iload 6, .iaload] (by decide +kernel) rfl rfl ⟨c24, trivial⟩ ?_
            exact E_iret rfl (by decide +kernel) h
          · rw [if_neg b19] at h
            by_cases b20 : v4 = (4 : Int32)
            · rw [if_pos b20] at h
              refine E.up (fun _ _ hJ => J_tswI (len := 38) (dflt := 97) (lo := 0) (hi := 5) (offs := #[38, 47, 61, 70, 79, 88]) (off := 79) (tgt := 161) (by decide +kernel) (by rw [b20]; decide) (by rw [b20]; decide) (by rw [b20]; rfl) (by decide) hJ) ?_
              obtain ⟨c23, h⟩ := h
              refine E_blk (lv' := [some (vr (some (11, this))), none, some (vi v2), some (vi v3), some (vi v4), some (vr (some (12, v5))), some (vi (((12 : Int32) * v2) + v3)), some (vi (((8 : Int32) * v2) + v3))]) (st' := [vi (mI M 150 v5 (((12 : Int32) * v2) + v3).toNatClampNeg)]) (M1 := M) (pc' := 169) (tb_Model hγ) [.aload 5, .getfield 465, .iload 6, .iaload] (by decide +kernel) rfl rfl ⟨c23, trivial⟩ ?_
              exact E_iret rfl (by decide +kernel) h
            · rw [if_neg b20] at h
              by_cases b21 : v4 = (5 : Int32)
              · rw [if_pos b21] at h
                refine E.up (fun _ _ hJ => J_tswI (len := 38) (dflt := 97) (lo := 0) (hi := 5) (offs := #[38, 47, 61, 70, 79, 88]) (off := 88) (tgt := 170) (by decide +kernel) (by rw [b21]; decide) (by rw [b21]; decide) (by rw [b21]; rfl) (by decide) hJ) ?_
                obtain ⟨c22, h⟩ := h
                refine E_blk (lv' := [some (vr (some (11, this))), none, some (vi v2), some (vi v3), some (vi v4), some (vr (some (12, v5))), some (vi (((12 : Int32) * v2) + v3)), some (vi (((8 : Int32) * v2) + v3))]) (st' := [vi (mI M 141 v5 (((8 : Int32) * v2) + v3).toNatClampNeg)]) (M1 := M) (pc' := 178) (tb_Model hγ) [.aload 5, .getfield 627, .iload 7, .iaload] (by decide +kernel) rfl rfl ⟨c22, trivial⟩ ?_
                exact E_iret rfl (by decide +kernel) h
              · rw [if_neg b21] at h
                refine E.up (fun _ _ hJ => J_tswO (len := 38) (dflt := 97) (lo := 0) (hi := 5) (offs := #[38, 47, 61, 70, 79, 88]) (tgt := 179) (by decide +kernel) ?_ (by decide) hJ) ?_
                · have q := sw0 (x := v4) 0
                  replace q : (v4).toInt < 0 ∨ 1 ≤ (v4).toInt := sw1 q b16 rfl rfl
                  replace q : (v4).toInt < 0 ∨ 2 ≤ (v4).toInt := sw1 q b17 rfl rfl
                  replace q : (v4).toInt < 0 ∨ 3 ≤ (v4).toInt := sw1 q b18 rfl rfl
                  replace q : (v4).toInt < 0 ∨ 4 ≤ (v4).toInt := sw1 q b19 rfl rfl
                  replace q : (v4).toInt < 0 ∨ 5 ≤ (v4).toInt := sw1 q b20 rfl rfl
                  replace q : (v4).toInt < 0 ∨ 6 ≤ (v4).toInt := sw1 q b21 rfl rfl
                  omega
                · obtain ⟨c12, h⟩ := h
                  refine E_blk (lv' := [some (vr (some (11, this))), none, some (vi v2), some (vi v3), some (vi v4), some (vr (some (12, v5))), some (vi (((12 : Int32) * v2) + v3)), some (vi (((8 : Int32) * v2) + v3))]) (st' := [vi (1 : Int32), vi (mI M 140 v5 (((8 : Int32) * v2) + v3).toNatClampNeg)]) (M1 := M) (pc' := 188) (tb_Model hγ) [.aload 5, .getfield 624, .iload 7, .iaload, .iconst 1] (by decide +kernel) rfl rfl ⟨c12, trivial⟩ ?_
                  refine E_icmp_ne (off := 7) (tgt := 195) (by decide +kernel) (by decide) (fun b13 => ?_) (fun b13 => ?_)
                  · rw [if_pos b13] at h
                    refine E_blk (lv' := [some (vr (some (11, this))), none, some (vi v2), some (vi v3), some (vi v4), some (vr (some (12, v5))), some (vi (((12 : Int32) * v2) + v3)), some (vi (((8 : Int32) * v2) + v3))]) (st' := [vi (0 : Int32)]) (M1 := M) (pc' := 192) (tb_Model hγ) [.iconst 0] (by decide +kernel) rfl rfl trivial ?_
                    refine E_goto (off := 20) (tgt := 212) (by decide +kernel) (by decide) ?_
                    exact E_iret rfl (by decide +kernel) h
                  · rw [if_neg b13] at h
                    obtain ⟨c14, h⟩ := h
                    refine E_blk (lv' := [some (vr (some (11, this))), none, some (vi v2), some (vi v3), some (vi v4), some (vr (some (12, v5))), some (vi (((12 : Int32) * v2) + v3)), some (vi (((8 : Int32) * v2) + v3))]) (st' := [vi (2 : Int32), vi (mI M 140 v5 (((8 : Int32) * v2) + v3).toNatClampNeg)]) (M1 := M) (pc' := 204) (tb_Model hγ) [.aload 5, .getfield 624, .iload 7, .iaload, .iconst 2] (by decide +kernel) rfl rfl ⟨c14, trivial⟩ ?_
                    refine E_icmp_ne (off := 7) (tgt := 211) (by decide +kernel) (by decide) (fun b15 => ?_) (fun b15 => ?_)
                    · rw [if_pos b15] at h
                      refine E_blk (lv' := [some (vr (some (11, this))), none, some (vi v2), some (vi v3), some (vi v4), some (vr (some (12, v5))), some (vi (((12 : Int32) * v2) + v3)), some (vi (((8 : Int32) * v2) + v3))]) (st' := [vi (1 : Int32)]) (M1 := M) (pc' := 208) (tb_Model hγ) [.iconst 1] (by decide +kernel) rfl rfl trivial ?_
                      refine E_goto (off := 4) (tgt := 212) (by decide +kernel) (by decide) ?_
                      exact E_iret rfl (by decide +kernel) h
                    · rw [if_neg b15] at h
                      refine E_blk (lv' := [some (vr (some (11, this))), none, some (vi v2), some (vi v3), some (vi v4), some (vr (some (12, v5))), some (vi (((12 : Int32) * v2) + v3)), some (vi (((8 : Int32) * v2) + v3))]) (st' := [vi (2 : Int32)]) (M1 := M) (pc' := 212) (tb_Model hγ) [.iconst 2] (by decide +kernel) rfl rfl trivial ?_
                      exact E_iret rfl (by decide +kernel) h
  · rw [if_neg b11] at h
    refine E_blk (lv' := [some (vr (some (11, this))), none, some (vi v2), some (vi v3), some (vi v4), some (vr (some (12, v5))), none, none]) (st' := [vi (-1 : Int32)]) (M1 := M) (pc' := 63) (tb_Model hγ) [.iconst (.negSucc 0)] (by decide +kernel) rfl rfl trivial ?_
    exact E_iret rfl (by decide +kernel) h
set_option maxRecDepth 4096 in
theorem lk_Model_member {γ : Gm} (hγ : Gk γ) (this : Nat) (a1 : Int32) (a2 : Int32) (a3 : Int32) (a4 : Int32) (Q : Int32 → Mem → Prop) (M : Mem) (h : w_Model_member this a1 a2 a3 a4 Q M) : E γ k_Model_member 2 0 [some (vr (some (11, this))), some (vi a1), some (vi a2), some (vi a3), some (vi a4), none, none, none] [] M (Qi Q) := by
  unfold w_Model_member at h
  refine E_blk (lv' := [some (vr (some (11, this))), some (vi a1), some (vi a2), some (vi a3), some (vi a4), none, none, none]) (st' := [vi a2, vi a1, vr (some (11, this))]) (M1 := M) (pc' := 3) (tb_Model hγ) [.aload_n 0, .iload_n 1, .iload_n 2] (by decide +kernel) rfl rfl trivial ?_
  refine E_callV (κ' := k_Model_isClass) (As := [vi a1, vi a2]) (st := []) mv_Model_isClass (Or.inl (tbk_mem (j := 15) (k := 129) rfl)) rfl (by decide +kernel) (Nat.le_of_ble_eq_true rfl) (Nat.le_of_ble_eq_true rfl) rfl (by decide) (lk_Model_isClass hγ this a1 a2 _ M h) (fun _ _ => Qi_r) (fun v M1 hp => Qi_k (R := fun st => E γ k_Model_member 2 6 [some (vr (some (11, this))), some (vi a1), some (vi a2), some (vi a3), some (vi a4), none, none, none] st M1 (Qi Q)) hp (fun r2 h => ?_))
  refine E_if_eq (off := 19) (tgt := 25) (by decide +kernel) (by decide) (fun b3 => ?_) (fun b3 => ?_)
  · rw [if_pos b3] at h
    refine E_blk (lv' := [some (vr (some (11, this))), some (vi a1), some (vi a2), some (vi a3), some (vi a4), none, none, none]) (st' := [vi (-1 : Int32)]) (M1 := M1) (pc' := 26) (tb_Model hγ) [.iconst (.negSucc 0)] (by decide +kernel) rfl rfl trivial ?_
    exact E_iret rfl (by decide +kernel) h
  · rw [if_neg b3] at h
    refine E_blk (lv' := [some (vr (some (11, this))), some (vi a1), some (vi a2), some (vi a3), some (vi a4), none, none, none]) (st' := [vi a4]) (M1 := M1) (pc' := 11) (tb_Model hγ) [.iload 4] (by decide +kernel) rfl rfl trivial ?_
    refine E_if_lt (off := 14) (tgt := 25) (by decide +kernel) (by decide) (fun b4 => ?_) (fun b4 => ?_)
    · rw [if_pos b4] at h
      refine E_blk (lv' := [some (vr (some (11, this))), some (vi a1), some (vi a2), some (vi a3), some (vi a4), none, none, none]) (st' := [vi (-1 : Int32)]) (M1 := M1) (pc' := 26) (tb_Model hγ) [.iconst (.negSucc 0)] (by decide +kernel) rfl rfl trivial ?_
      exact E_iret rfl (by decide +kernel) h
    · rw [if_neg b4] at h
      refine E_blk (lv' := [some (vr (some (11, this))), some (vi a1), some (vi a2), some (vi a3), some (vi a4), none, none, none]) (st' := [vi (6 : Int32), vi a4]) (M1 := M1) (pc' := 18) (tb_Model hγ) [.iload 4, .bipush 6] (by decide +kernel) rfl rfl trivial ?_
      refine E_icmp_gt (off := 7) (tgt := 25) (by decide +kernel) (by decide) (fun b5 => ?_) (fun b5 => ?_)
      · rw [if_pos b5] at h
        refine E_blk (lv' := [some (vr (some (11, this))), some (vi a1), some (vi a2), some (vi a3), some (vi a4), none, none, none]) (st' := [vi (-1 : Int32)]) (M1 := M1) (pc' := 26) (tb_Model hγ) [.iconst (.negSucc 0)] (by decide +kernel) rfl rfl trivial ?_
        exact E_iret rfl (by decide +kernel) h
      · rw [if_neg b5] at h
        refine E_blk (lv' := [some (vr (some (11, this))), some (vi a1), some (vi a2), some (vi a3), some (vi a4), none, none, none]) (st' := [vi a3]) (M1 := M1) (pc' := 22) (tb_Model hγ) [.iload_n 3] (by decide +kernel) rfl rfl trivial ?_
        refine E_if_ge (off := 5) (tgt := 27) (by decide +kernel) (by decide) (fun b6 => ?_) (fun b6 => ?_)
        · rw [if_pos b6] at h
          obtain ⟨c7, h⟩ := h
          refine E_blk (lv' := [some (vr (some (11, this))), some (vi a1), some (vi a2), some (vi a3), some (vi a4), none, none, none]) (st' := [vr (mR M1 703 0 a1.toNatClampNeg)]) (M1 := M1) (pc' := 33) (tb_Model hγ) [.aload_n 0, .getfield 263, .iload_n 1, .aaload] (by decide +kernel) rfl rfl ⟨c7, trivial⟩ ?_
          obtain ⟨i8, ei8, h⟩ := h
          rw [ei8]
          refine E_blk (lv' := [some (vr (some (11, this))), some (vi a1), some (vi a2), some (vi a3), some (vi a4), some (vr (some (12, i8))), none, none]) (st' := [vi (5 : Int32), vi a4, vi a3]) (M1 := M1) (pc' := 39) (tb_Model hγ) [.astore 5, .iload_n 3, .iload 4, .iconst 5] (by decide +kernel) rfl rfl trivial ?_
          refine E_icmp_ge (off := 13) (tgt := 52) (by decide +kernel) (by decide) (fun b9 => ?_) (fun b9 => ?_)
          · rw [if_pos b9] at h
            obtain ⟨c10, h⟩ := h
            refine E_blk (lv' := [some (vr (some (11, this))), some (vi a1), some (vi a2), some (vi a3), some (vi a4), some (vr (some (12, i8))), none, none]) (st' := [vi (mI M1 135 i8 a2.toNatClampNeg), vi a3]) (M1 := M1) (pc' := 59) (tb_Model hγ) [.aload 5, .getfield 435, .iload_n 2, .iaload] (by decide +kernel) rfl rfl ⟨c10, trivial⟩ ?_
            refine E_mask [true, false, true, true, true, true, false, false] rfl ?_
            exact lk_Model_member_j59 hγ this Q a2 a3 a4 i8 (mI M1 135 i8 a2.toNatClampNeg) a3 M1 h
          · rw [if_neg b9] at h
            obtain ⟨c30, h⟩ := h
            refine E_blk (lv' := [some (vr (some (11, this))), some (vi a1), some (vi a2), some (vi a3), some (vi a4), some (vr (some (12, i8))), none, none]) (st' := [vi (mI M1 136 i8 a2.toNatClampNeg), vi a3]) (M1 := M1) (pc' := 49) (tb_Model hγ) [.aload 5, .getfield 438, .iload_n 2, .iaload] (by decide +kernel) rfl rfl ⟨c30, trivial⟩ ?_
            refine E_goto (off := 10) (tgt := 59) (by decide +kernel) (by decide) ?_
            refine E_mask [true, false, true, true, true, true, false, false] rfl ?_
            exact lk_Model_member_j59 hγ this Q a2 a3 a4 i8 (mI M1 136 i8 a2.toNatClampNeg) a3 M1 h
        · rw [if_neg b6] at h
          refine E_blk (lv' := [some (vr (some (11, this))), some (vi a1), some (vi a2), some (vi a3), some (vi a4), none, none, none]) (st' := [vi (-1 : Int32)]) (M1 := M1) (pc' := 26) (tb_Model hγ) [.iconst (.negSucc 0)] (by decide +kernel) rfl rfl trivial ?_
          exact E_iret rfl (by decide +kernel) h
def w_Model_link (this : Nat) (a1 : Int32) (a2 : Int32) (Q : Int32 → Mem → Prop) (M : Mem) : Prop :=
  w_Model_isClass this a1 a2 (fun r2 M1 => if r2 = 0 then (Q (-1 : Int32) M1) else (vp_in a1 (mL M1 703 0) ∧ ∃ i5, (mR M1 703 0 a1.toNatClampNeg) = some (12, i5) ∧ w_Model_isLinked this a2 (fun r7 M6 => if r7 = 0 then (∃ i9, (mR M6 11 this 45) = some (12, i9) ∧ vp_in a2 (mL M6 138 i9) ∧ Q (mI M6 138 i9 a2.toNatClampNeg) M6) else (Q (0 : Int32) M6)) (sR M1 11 this 45 (some (12, i5))))) M
set_option maxRecDepth 4096 in
theorem lk_Model_link {γ : Gm} (hγ : Gk γ) (this : Nat) (a1 : Int32) (a2 : Int32) (Q : Int32 → Mem → Prop) (M : Mem) (h : w_Model_link this a1 a2 Q M) : E γ k_Model_link 129 0 [some (vr (some (11, this))), some (vi a1), some (vi a2)] [] M (Qi Q) := by
  unfold w_Model_link at h
  refine E_blk (lv' := [some (vr (some (11, this))), some (vi a1), some (vi a2)]) (st' := [vi a2, vi a1, vr (some (11, this))]) (M1 := M) (pc' := 3) (tb_Model hγ) [.aload_n 0, .iload_n 1, .iload_n 2] (by decide +kernel) rfl rfl trivial ?_
  refine E_callV (κ' := k_Model_isClass) (As := [vi a1, vi a2]) (st := []) mv_Model_isClass (Or.inl (tbk_mem (j := 15) (k := 129) rfl)) rfl (by decide +kernel) (Nat.le_of_ble_eq_true rfl) (Nat.le_of_ble_eq_true rfl) rfl (by decide) (lk_Model_isClass hγ this a1 a2 _ M h) (fun _ _ => Qi_r) (fun v M1 hp => Qi_k (R := fun st => E γ k_Model_link 129 6 [some (vr (some (11, this))), some (vi a1), some (vi a2)] st M1 (Qi Q)) hp (fun r2 h => ?_))
  refine E_if_ne (off := 5) (tgt := 11) (by decide +kernel) (by decide) (fun b3 => ?_) (fun b3 => ?_)
  · rw [if_pos b3] at h
    refine E_blk (lv' := [some (vr (some (11, this))), some (vi a1), some (vi a2)]) (st' := [vi (-1 : Int32)]) (M1 := M1) (pc' := 10) (tb_Model hγ) [.iconst (.negSucc 0)] (by decide +kernel) rfl rfl trivial ?_
    exact E_iret rfl (by decide +kernel) h
  · rw [if_neg b3] at h
    obtain ⟨c4, h⟩ := h
    refine E_blk (lv' := [some (vr (some (11, this))), some (vi a1), some (vi a2)]) (st' := [vr (mR M1 703 0 a1.toNatClampNeg), vr (some (11, this))]) (M1 := M1) (pc' := 18) (tb_Model hγ) [.aload_n 0, .aload_n 0, .getfield 263, .iload_n 1, .aaload] (by decide +kernel) rfl rfl ⟨c4, trivial⟩ ?_
    obtain ⟨i5, ei5, h⟩ := h
    rw [ei5]
    refine E_blk (lv' := [some (vr (some (11, this))), some (vi a1), some (vi a2)]) (st' := [vi a2, vr (some (11, this))]) (M1 := (sR M1 11 this 45 (some (12, i5)))) (pc' := 23) (tb_Model hγ) [.putfield 522, .aload_n 0, .iload_n 2] (by decide +kernel) rfl rfl trivial ?_
    refine E_callV (κ' := k_Model_isLinked) (As := [vi a2]) (st := []) mv_Model_isLinked (Or.inl (tbk_mem (j := 15) (k := 145) rfl)) rfl (by decide +kernel) (Nat.le_of_ble_eq_true rfl) (Nat.le_of_ble_eq_true rfl) rfl (by decide) (lk_Model_isLinked hγ this a2 _ (sR M1 11 this 45 (some (12, i5))) h) (fun _ _ => Qi_r) (fun v M6 hp => Qi_k (R := fun st => E γ k_Model_link 129 26 [some (vr (some (11, this))), some (vi a1), some (vi a2)] st M6 (Qi Q)) hp (fun r7 h => ?_))
    refine E_if_eq (off := 7) (tgt := 33) (by decide +kernel) (by decide) (fun b8 => ?_) (fun b8 => ?_)
    · rw [if_pos b8] at h
      refine E_blk (lv' := [some (vr (some (11, this))), some (vi a1), some (vi a2)]) (st' := [vr (mR M6 11 this 45)]) (M1 := M6) (pc' := 37) (tb_Model hγ) [.aload_n 0, .getfield 522] (by decide +kernel) rfl rfl trivial ?_
      obtain ⟨i9, ei9, h⟩ := h
      rw [ei9]
      obtain ⟨c10, h⟩ := h
      refine E_blk (lv' := [some (vr (some (11, this))), some (vi a1), some (vi a2)]) (st' := [vi (mI M6 138 i9 a2.toNatClampNeg)]) (M1 := M6) (pc' := 42) (tb_Model hγ) [.getfield 444, .iload_n 2, .iaload] (by decide +kernel) rfl rfl ⟨c10, trivial⟩ ?_
      exact E_iret rfl (by decide +kernel) h
    · rw [if_neg b8] at h
      refine E_blk (lv' := [some (vr (some (11, this))), some (vi a1), some (vi a2)]) (st' := [vi (0 : Int32)]) (M1 := M6) (pc' := 30) (tb_Model hγ) [.iconst 0] (by decide +kernel) rfl rfl trivial ?_
      refine E_goto (off := 12) (tgt := 42) (by decide +kernel) (by decide) ?_
      exact E_iret rfl (by decide +kernel) h
def w_Model_checked (this : Nat) (a1 : Int32) (a2 : Int32) (Q : Int32 → Mem → Prop) (M : Mem) : Prop :=
  w_Model_isWorld this a1 (fun r2 M1 => if r2 = 0 then (Q (-1 : Int32) M1) else (if a2 < 0 then (Q (-1 : Int32) M1) else (if (2 : Int32) < a2 then (Q (-1 : Int32) M1) else (vp_in a1 (mL M1 703 0) ∧ ∃ i7, (mR M1 703 0 a1.toNatClampNeg) = some (12, i7) ∧ vp_in a2 (mL M1 156 i7) ∧ Q (mI M1 156 i7 a2.toNatClampNeg) M1)))) M
set_option maxRecDepth 4096 in
theorem lk_Model_checked {γ : Gm} (hγ : Gk γ) (this : Nat) (a1 : Int32) (a2 : Int32) (Q : Int32 → Mem → Prop) (M : Mem) (h : w_Model_checked this a1 a2 Q M) : E γ k_Model_checked 1 0 [some (vr (some (11, this))), some (vi a1), some (vi a2)] [] M (Qi Q) := by
  unfold w_Model_checked at h
  refine E_blk (lv' := [some (vr (some (11, this))), some (vi a1), some (vi a2)]) (st' := [vi a1, vr (some (11, this))]) (M1 := M) (pc' := 2) (tb_Model hγ) [.aload_n 0, .iload_n 1] (by decide +kernel) rfl rfl trivial ?_
  refine E_callV (κ' := k_Model_isWorld) (As := [vi a1]) (st := []) mv_Model_isWorld (Or.inl (tbk_mem (j := 14) (k := 190) rfl)) rfl (by decide +kernel) (Nat.le_of_ble_eq_true rfl) (Nat.le_of_ble_eq_true rfl) rfl (by decide) (lk_Model_isWorld hγ this a1 _ M h) (fun _ _ => Qi_r) (fun v M1 hp => Qi_k (R := fun st => E γ k_Model_checked 1 5 [some (vr (some (11, this))), some (vi a1), some (vi a2)] st M1 (Qi Q)) hp (fun r2 h => ?_))
  refine E_if_eq (off := 26) (tgt := 31) (by decide +kernel) (by decide) (fun b3 => ?_) (fun b3 => ?_)
  · rw [if_pos b3] at h
    refine E_blk (lv' := [some (vr (some (11, this))), some (vi a1), some (vi a2)]) (st' := [vi (-1 : Int32)]) (M1 := M1) (pc' := 32) (tb_Model hγ) [.iconst (.negSucc 0)] (by decide +kernel) rfl rfl trivial ?_
    exact E_iret rfl (by decide +kernel) h
  · rw [if_neg b3] at h
    refine E_blk (lv' := [some (vr (some (11, this))), some (vi a1), some (vi a2)]) (st' := [vi a2]) (M1 := M1) (pc' := 9) (tb_Model hγ) [.iload_n 2] (by decide +kernel) rfl rfl trivial ?_
    refine E_if_lt (off := 22) (tgt := 31) (by decide +kernel) (by decide) (fun b4 => ?_) (fun b4 => ?_)
    · rw [if_pos b4] at h
      refine E_blk (lv' := [some (vr (some (11, this))), some (vi a1), some (vi a2)]) (st' := [vi (-1 : Int32)]) (M1 := M1) (pc' := 32) (tb_Model hγ) [.iconst (.negSucc 0)] (by decide +kernel) rfl rfl trivial ?_
      exact E_iret rfl (by decide +kernel) h
    · rw [if_neg b4] at h
      refine E_blk (lv' := [some (vr (some (11, this))), some (vi a1), some (vi a2)]) (st' := [vi (2 : Int32), vi a2]) (M1 := M1) (pc' := 14) (tb_Model hγ) [.iload_n 2, .iconst 2] (by decide +kernel) rfl rfl trivial ?_
      refine E_icmp_gt (off := 17) (tgt := 31) (by decide +kernel) (by decide) (fun b5 => ?_) (fun b5 => ?_)
      · rw [if_pos b5] at h
        refine E_blk (lv' := [some (vr (some (11, this))), some (vi a1), some (vi a2)]) (st' := [vi (-1 : Int32)]) (M1 := M1) (pc' := 32) (tb_Model hγ) [.iconst (.negSucc 0)] (by decide +kernel) rfl rfl trivial ?_
        exact E_iret rfl (by decide +kernel) h
      · rw [if_neg b5] at h
        obtain ⟨c6, h⟩ := h
        refine E_blk (lv' := [some (vr (some (11, this))), some (vi a1), some (vi a2)]) (st' := [vr (mR M1 703 0 a1.toNatClampNeg)]) (M1 := M1) (pc' := 23) (tb_Model hγ) [.aload_n 0, .getfield 263, .iload_n 1, .aaload] (by decide +kernel) rfl rfl ⟨c6, trivial⟩ ?_
        obtain ⟨i7, ei7, h⟩ := h
        rw [ei7]
        obtain ⟨c8, h⟩ := h
        refine E_blk (lv' := [some (vr (some (11, this))), some (vi a1), some (vi a2)]) (st' := [vi (mI M1 156 i7 a2.toNatClampNeg)]) (M1 := M1) (pc' := 28) (tb_Model hγ) [.getfield 483, .iload_n 2, .iaload] (by decide +kernel) rfl rfl ⟨c8, trivial⟩ ?_
        refine E_goto (off := 4) (tgt := 32) (by decide +kernel) (by decide) ?_
        exact E_iret rfl (by decide +kernel) h
def w_Model_callWords_j203 (this : Nat) (Q : Mem → Prop) (X : Mem → Prop) (k178 : Int32 → Mem → Prop) (v1 : Int32) (s0 : Int32) (M : Mem) : Prop :=
  w_Model_need this s0 (fun M23 => w_Model_numberIn this (-2147483648 : Int32) (2147483647 : Int32) (fun r25 M24 => vp_in v1 (mL M24 113 this) ∧ k178 (v1 + (1 : Int32)) (sI M24 113 this v1.toNatClampNeg r25)) X M23) X M
def w_Model_callWords_L178 (this : Nat) (Q : Mem → Prop) (X : Mem → Prop) : Nat → Int32 → Mem → Prop
  | 0, _, _ => False
  | n + 1, v1, M => ∃ i18, (mR M 11 this 31) = some (300, i18) ∧ vp_in (mI M 11 this 90) (mL M 300 i18) ∧ if (mI M 300 i18 (mI M 11 this 90).toNatClampNeg) ≤ v1 then (w_Model_need this (0 : Int32) (fun M21 => Q M21) X M) else (if v1 = 0 then (w_Model_callWords_j203 this Q X (w_Model_callWords_L178 this Q X n) v1 (58 : Int32) M) else (w_Model_callWords_j203 this Q X (w_Model_callWords_L178 this Q X n) v1 (44 : Int32) M))
def w_Model_callWords_j170 (this : Nat) (Q : Mem → Prop) (X : Mem → Prop) (s0 : Int32) (s1 : Int32) (s2 : Nat) (M : Mem) : Prop :=
  w_Model_signature this s2 s1 s0 (fun r17 M16 => ∃ n27 : Nat, w_Model_callWords_L178 this Q X n27 (0 : Int32) (sI M16 11 this 90 r17)) M
def w_Model_callWords_j135 (this : Nat) (Q : Mem → Prop) (X : Mem → Prop)  (M : Mem) : Prop :=
  w_Model_need this (41 : Int32) (fun M9 => ∃ i10, (mR M9 11 this 55) = some (300, i10) ∧ w_Model_takes this (mI M9 11 this 21) (fun r12 M11 => if r12 = 0 then (w_Model_type this (fun r15 M14 => w_Model_callWords_j170 this Q X r15 (mI M9 11 this 56) i10 M14) X M11) else (w_Model_callWords_j170 this Q X (0 : Int32) (mI M9 11 this 56) i10 M11)) M9) X M
def w_Model_callWords_j128 (this : Nat) (Q : Mem → Prop) (X : Mem → Prop) (k49 : Int32 → Mem → Prop) (v1 : Int32) (s0 : Int32) (s1 : Int32) (M : Mem) : Prop :=
  k49 v1 (sI M 11 this 43 (s1 + s0))
def w_Model_callWords_j113 (this : Nat) (Q : Mem → Prop) (X : Mem → Prop) (k49 : Int32 → Mem → Prop) (s0 : Int32) (M : Mem) : Prop :=
  if s0 = 0 then (w_Model_callWords_j128 this Q X k49 s0 (0 : Int32) (mI M 11 this 43) M) else (w_Model_callWords_j128 this Q X k49 s0 (1 : Int32) (mI M 11 this 43) M)
def w_Model_callWords_j66 (this : Nat) (Q : Mem → Prop) (X : Mem → Prop) (k49 : Int32 → Mem → Prop)  (M : Mem) : Prop :=
  w_Model_needWord this (mI M 11 this 27) (fun M31 => ∃ i32, (mR M31 11 this 55) = some (300, i32) ∧ vp_in (mI M31 11 this 56) (mL M31 300 i32) ∧ ∃ M34, M34 = (sI (sI M31 300 i32 (mI M31 11 this 56).toNatClampNeg (1 : Int32)) 11 this 56 ((mI (sI M31 300 i32 (mI M31 11 this 56).toNatClampNeg (1 : Int32)) 11 this 56) + (1 : Int32))) ∧ vp_in (mI M34 11 this 43) (mL M34 411 this) ∧ if (mI M34 411 this (mI M34 11 this 43).toNatClampNeg) = (44 : Int32) then (w_Model_callWords_j113 this Q X k49 (1 : Int32) M34) else (w_Model_callWords_j113 this Q X k49 (0 : Int32) M34)) X M
def w_Model_callWords_L49 (this : Nat) (Q : Mem → Prop) (X : Mem → Prop) : Nat → Int32 → Mem → Prop
  | 0, _, _ => False
  | n + 1, v1, M => if v1 = 0 then (w_Model_callWords_j135 this Q X  M) else (if (mI M 11 this 56) = (6 : Int32) then (w_Model_wrong this (fun M30 => w_Model_callWords_j66 this Q X (w_Model_callWords_L49 this Q X n)  M30) X M) else (w_Model_callWords_j66 this Q X (w_Model_callWords_L49 this Q X n)  M))
def w_Model_callWords (this : Nat) (Q : Mem → Prop) (X : Mem → Prop) (M : Mem) : Prop :=
  w_Model_className this (fun r2 M1 => w_Model_need this (46 : Int32) (fun M3 => w_Model_plainName this (fun r5 M4 => w_Model_need this (40 : Int32) (fun M6 => vp_in (mI (sI M6 11 this 56 (0 : Int32)) 11 this 43) (mL (sI M6 11 this 56 (0 : Int32)) 411 this) ∧ if (mI (sI M6 11 this 56 (0 : Int32)) 411 this (mI (sI M6 11 this 56 (0 : Int32)) 11 this 43).toNatClampNeg) = (41 : Int32) then (w_Model_callWords_j135 this Q X  (sI M6 11 this 56 (0 : Int32))) else (∃ n38 : Nat, w_Model_callWords_L49 this Q X n38 (1 : Int32) (sI M6 11 this 56 (0 : Int32)))) X (sI M4 11 this 89 r5)) X M3) X (sI M1 11 this 88 r2)) X M
set_option maxRecDepth 4096 in
theorem lk_Model_callWords_j203 {γ : Gm} (hγ : Gk γ) (this : Nat) (Q : Mem → Prop) (X : Mem → Prop) (k178 : Int32 → Mem → Prop) (hk178 : ∀ (v1 : Int32) (M : Mem), k178 v1 M → E γ k_Model_callWords 5 178 [some (vr (some (11, this))), some (vi v1)] [] M (Qx (14, 0) (Qv Q) X)) (v1 : Int32) (s0 : Int32) (M : Mem) (h : w_Model_callWords_j203 this Q X k178 v1 s0 M) : E γ k_Model_callWords 5 203 [some (vr (some (11, this))), some (vi v1)] [vi s0, vr (some (11, this))] M (Qx (14, 0) (Qv Q) X) := by
  unfold w_Model_callWords_j203 at h
  refine E_callX (κ' := k_Model_need) (As := [vi s0]) (st := []) mv_Model_need (Or.inl (tbk_mem (j := 15) (k := 35) rfl)) rfl (by decide +kernel) (Nat.le_of_ble_eq_true rfl) (Nat.le_of_ble_eq_true rfl) rfl (by decide) rfl (lk_Model_need hγ this s0 _ _ M h) (fun _ _ => Qv_r) (fun _ h => h) (fun v M23 hp => Qv_k (R := fun st => E γ k_Model_callWords 5 206 [some (vr (some (11, this))), some (vi v1)] st M23 (Qx (14, 0) (Qv Q) X)) hp (fun h => ?_))
  refine E_blk (lv' := [some (vr (some (11, this))), some (vi v1)]) (st' := [vi (2147483647 : Int32), vi (-2147483648 : Int32), vr (some (11, this)), vi v1, vr (some (113, this))]) (M1 := M23) (pc' := 218) (tb_Model hγ) [.aload_n 0, .getfield 320, .iload_n 1, .aload_n 0, .ldc_w 616, .ldc_w 617] (by decide +kernel) rfl rfl trivial ?_
  refine E_callX (κ' := k_Model_numberIn) (As := [vi (-2147483648 : Int32), vi (2147483647 : Int32)]) (st := [vi v1, vr (some (113, this))]) mv_Model_numberIn (Or.inl (tbk_mem (j := 15) (k := 60) rfl)) rfl (by decide +kernel) (Nat.le_of_ble_eq_true rfl) (Nat.le_of_ble_eq_true rfl) rfl (by decide) rfl (lk_Model_numberIn hγ this (-2147483648 : Int32) (2147483647 : Int32) _ _ M23 h) (fun _ _ => Qi_r) (fun _ h => h) (fun v M24 hp => Qi_k (R := fun st => E γ k_Model_callWords 5 221 [some (vr (some (11, this))), some (vi v1)] st M24 (Qx (14, 0) (Qv Q) X)) hp (fun r25 h => ?_))
  obtain ⟨c26, h⟩ := h
  refine E_blk (lv' := [some (vr (some (11, this))), some (vi (v1 + (1 : Int32)))]) (st' := []) (M1 := (sI M24 113 this v1.toNatClampNeg r25)) (pc' := 225) (tb_Model hγ) [.iastore, .iinc 1 1] (by decide +kernel) rfl rfl ⟨c26, trivial⟩ ?_
  refine E_goto (off := -47) (tgt := 178) (by decide +kernel) (by decide) ?_
  refine E_mask [true, true] rfl ?_
  exact hk178 (v1 + (1 : Int32)) (sI M24 113 this v1.toNatClampNeg r25) h
set_option maxRecDepth 4096 in
theorem lk_Model_callWords_L178 {γ : Gm} (hγ : Gk γ) (this : Nat) (Q : Mem → Prop) (X : Mem → Prop) : ∀ (n : Nat) (v1 : Int32) (M : Mem), w_Model_callWords_L178 this Q X n v1 M → E γ k_Model_callWords 5 178 [some (vr (some (11, this))), some (vi v1)] [] M (Qx (14, 0) (Qv Q) X) := by
  intro n
  induction n with
  | zero => intro v1 M h; exact h.elim
  | succ n ih =>
    intro v1 M h
    unfold w_Model_callWords_L178 at h
    refine E_blk (lv' := [some (vr (some (11, this))), some (vi v1)]) (st' := [vr (mR M 11 this 31), vi v1]) (M1 := M) (pc' := 183) (tb_Model hγ) [.iload_n 1, .aload_n 0, .getfield 80] (by decide +kernel) rfl rfl trivial ?_
    obtain ⟨i18, ei18, h⟩ := h
    rw [ei18]
    obtain ⟨c19, h⟩ := h
    refine E_blk (lv' := [some (vr (some (11, this))), some (vi v1)]) (st' := [vi (mI M 300 i18 (mI M 11 this 90).toNatClampNeg), vi v1]) (M1 := M) (pc' := 188) (tb_Model hγ) [.aload_n 0, .getfield 1138, .iaload] (by decide +kernel) rfl rfl ⟨c19, trivial⟩ ?_
    refine E_icmp_ge (off := 40) (tgt := 228) (by decide +kernel) (by decide) (fun b20 => ?_) (fun b20 => ?_)
    · rw [if_pos b20] at h
      refine E_blk (lv' := [some (vr (some (11, this))), some (vi v1)]) (st' := [vi (0 : Int32), vr (some (11, this))]) (M1 := M) (pc' := 230) (tb_Model hγ) [.aload_n 0, .iconst 0] (by decide +kernel) rfl rfl trivial ?_
      refine E_callX (κ' := k_Model_need) (As := [vi (0 : Int32)]) (st := []) mv_Model_need (Or.inl (tbk_mem (j := 15) (k := 35) rfl)) rfl (by decide +kernel) (Nat.le_of_ble_eq_true rfl) (Nat.le_of_ble_eq_true rfl) rfl (by decide) rfl (lk_Model_need hγ this (0 : Int32) _ _ M h) (fun _ _ => Qv_r) (fun _ h => h) (fun v M21 hp => Qv_k (R := fun st => E γ k_Model_callWords 5 233 [some (vr (some (11, this))), some (vi v1)] st M21 (Qx (14, 0) (Qv Q) X)) hp (fun h => ?_))
      exact (E_vret rfl (by decide +kernel) h).nx
    · rw [if_neg b20] at h
      refine E_blk (lv' := [some (vr (some (11, this))), some (vi v1)]) (st' := [vi v1, vr (some (11, this))]) (M1 := M) (pc' := 193) (tb_Model hγ) [.aload_n 0, .iload_n 1] (by decide +kernel) rfl rfl trivial ?_
      refine E_if_ne (off := 8) (tgt := 201) (by decide +kernel) (by decide) (fun b22 => ?_) (fun b22 => ?_)
      · rw [if_pos b22] at h
        refine E_blk (lv' := [some (vr (some (11, this))), some (vi v1)]) (st' := [vi (58 : Int32), vr (some (11, this))]) (M1 := M) (pc' := 198) (tb_Model hγ) [.bipush 58] (by decide +kernel) rfl rfl trivial ?_
        refine E_goto (off := 5) (tgt := 203) (by decide +kernel) (by decide) ?_
        refine E_mask [true, true] rfl ?_
        exact lk_Model_callWords_j203 hγ this Q X (w_Model_callWords_L178 this Q X n) ih v1 (58 : Int32) M h
      · rw [if_neg b22] at h
        refine E_blk (lv' := [some (vr (some (11, this))), some (vi v1)]) (st' := [vi (44 : Int32), vr (some (11, this))]) (M1 := M) (pc' := 203) (tb_Model hγ) [.bipush 44] (by decide +kernel) rfl rfl trivial ?_
        refine E_mask [true, true] rfl ?_
        exact lk_Model_callWords_j203 hγ this Q X (w_Model_callWords_L178 this Q X n) ih v1 (44 : Int32) M h
set_option maxRecDepth 4096 in
theorem lk_Model_callWords_j170 {γ : Gm} (hγ : Gk γ) (this : Nat) (Q : Mem → Prop) (X : Mem → Prop) (s0 : Int32) (s1 : Int32) (s2 : Nat) (M : Mem) (h : w_Model_callWords_j170 this Q X s0 s1 s2 M) : E γ k_Model_callWords 5 170 [some (vr (some (11, this))), none] [vi s0, vi s1, vr (some (300, s2)), vr (some (11, this)), vr (some (11, this))] M (Qx (14, 0) (Qv Q) X) := by
  unfold w_Model_callWords_j170 at h
  refine E_callV (κ' := k_Model_signature) (As := [vr (some (300, s2)), vi s1, vi s0]) (st := [vr (some (11, this))]) mv_Model_signature (Or.inl (tbk_mem (j := 11) (k := 93) rfl)) rfl (by decide +kernel) (Nat.le_of_ble_eq_true rfl) (Nat.le_of_ble_eq_true rfl) rfl (by decide) (lk_Model_signature hγ this s2 s1 s0 _ M h) (fun _ _ => Qi_r) (fun v M16 hp => Qi_k (R := fun st => E γ k_Model_callWords 5 173 [some (vr (some (11, this))), none] st M16 (Qx (14, 0) (Qv Q) X)) hp (fun r17 h => ?_))
  refine E_blk (lv' := [some (vr (some (11, this))), some (vi (0 : Int32))]) (st' := []) (M1 := (sI M16 11 this 90 r17)) (pc' := 178) (tb_Model hγ) [.putfield 1138, .iconst 0, .istore_n 1] (by decide +kernel) rfl rfl trivial ?_
  obtain ⟨n27, h⟩ := h
  refine E_mask [true, true] rfl ?_
  exact lk_Model_callWords_L178 hγ this Q X n27 (0 : Int32) (sI M16 11 this 90 r17) h
set_option maxRecDepth 4096 in
theorem lk_Model_callWords_j135 {γ : Gm} (hγ : Gk γ) (this : Nat) (Q : Mem → Prop) (X : Mem → Prop)  (M : Mem) (h : w_Model_callWords_j135 this Q X  M) : E γ k_Model_callWords 5 135 [some (vr (some (11, this))), none] [] M (Qx (14, 0) (Qv Q) X) := by
  unfold w_Model_callWords_j135 at h
  refine E_blk (lv' := [some (vr (some (11, this))), none]) (st' := [vi (41 : Int32), vr (some (11, this))]) (M1 := M) (pc' := 138) (tb_Model hγ) [.aload_n 0, .bipush 41] (by decide +kernel) rfl rfl trivial ?_
  refine E_callX (κ' := k_Model_need) (As := [vi (41 : Int32)]) (st := []) mv_Model_need (Or.inl (tbk_mem (j := 15) (k := 35) rfl)) rfl (by decide +kernel) (Nat.le_of_ble_eq_true rfl) (Nat.le_of_ble_eq_true rfl) rfl (by decide) rfl (lk_Model_need hγ this (41 : Int32) _ _ M h) (fun _ _ => Qv_r) (fun _ h => h) (fun v M9 hp => Qv_k (R := fun st => E γ k_Model_callWords 5 141 [some (vr (some (11, this))), none] st M9 (Qx (14, 0) (Qv Q) X)) hp (fun h => ?_))
  refine E_blk (lv' := [some (vr (some (11, this))), none]) (st' := [vr (mR M9 11 this 55), vr (some (11, this)), vr (some (11, this))]) (M1 := M9) (pc' := 147) (tb_Model hγ) [.aload_n 0, .aload_n 0, .aload_n 0, .getfield 277] (by decide +kernel) rfl rfl trivial ?_
  obtain ⟨i10, ei10, h⟩ := h
  rw [ei10]
  refine E_blk (lv' := [some (vr (some (11, this))), none]) (st' := [vi (mI M9 11 this 21), vr (some (11, this)), vi (mI M9 11 this 56), vr (some (300, i10)), vr (some (11, this)), vr (some (11, this))]) (M1 := M9) (pc' := 156) (tb_Model hγ) [.aload_n 0, .getfield 557, .aload_n 0, .aload_n 0, .getfield 217] (by decide +kernel) rfl rfl trivial ?_
  refine E_callV (κ' := k_Model_takes) (As := [vi (mI M9 11 this 21)]) (st := [vi (mI M9 11 this 56), vr (some (300, i10)), vr (some (11, this)), vr (some (11, this))]) mv_Model_takes (Or.inl (tbk_mem (j := 15) (k := 15) rfl)) rfl (by decide +kernel) (Nat.le_of_ble_eq_true rfl) (Nat.le_of_ble_eq_true rfl) rfl (by decide) (lk_Model_takes hγ this (mI M9 11 this 21) _ M9 h) (fun _ _ => Qi_r) (fun v M11 hp => Qi_k (R := fun st => E γ k_Model_callWords 5 159 [some (vr (some (11, this))), none] st M11 (Qx (14, 0) (Qv Q) X)) hp (fun r12 h => ?_))
  refine E_if_eq (off := 7) (tgt := 166) (by decide +kernel) (by decide) (fun b13 => ?_) (fun b13 => ?_)
  · rw [if_pos b13] at h
    refine E_blk (lv' := [some (vr (some (11, this))), none]) (st' := [vr (some (11, this)), vi (mI M9 11 this 56), vr (some (300, i10)), vr (some (11, this)), vr (some (11, this))]) (M1 := M11) (pc' := 167) (tb_Model hγ) [.aload_n 0] (by decide +kernel) rfl rfl trivial ?_
    refine E_callX (κ' := k_Model_type) (As := []) (st := [vi (mI M9 11 this 56), vr (some (300, i10)), vr (some (11, this)), vr (some (11, this))]) mv_Model_type (Or.inl (tbk_mem (j := 15) (k := 55) rfl)) rfl (by decide +kernel) (Nat.le_of_ble_eq_true rfl) (Nat.le_of_ble_eq_true rfl) rfl (by decide) rfl (lk_Model_type hγ this _ _ M11 h) (fun _ _ => Qi_r) (fun _ h => h) (fun v M14 hp => Qi_k (R := fun st => E γ k_Model_callWords 5 170 [some (vr (some (11, this))), none] st M14 (Qx (14, 0) (Qv Q) X)) hp (fun r15 h => ?_))
    refine E_mask [true, false] rfl ?_
    exact lk_Model_callWords_j170 hγ this Q X r15 (mI M9 11 this 56) i10 M14 h
  · rw [if_neg b13] at h
    refine E_blk (lv' := [some (vr (some (11, this))), none]) (st' := [vi (0 : Int32), vi (mI M9 11 this 56), vr (some (300, i10)), vr (some (11, this)), vr (some (11, this))]) (M1 := M11) (pc' := 163) (tb_Model hγ) [.iconst 0] (by decide +kernel) rfl rfl trivial ?_
    refine E_goto (off := 7) (tgt := 170) (by decide +kernel) (by decide) ?_
    refine E_mask [true, false] rfl ?_
    exact lk_Model_callWords_j170 hγ this Q X (0 : Int32) (mI M9 11 this 56) i10 M11 h
set_option maxRecDepth 4096 in
theorem lk_Model_callWords_j128 {γ : Gm} (hγ : Gk γ) (this : Nat) (Q : Mem → Prop) (X : Mem → Prop) (k49 : Int32 → Mem → Prop) (hk49 : ∀ (v1 : Int32) (M : Mem), k49 v1 M → E γ k_Model_callWords 5 49 [some (vr (some (11, this))), some (vi v1)] [] M (Qx (14, 0) (Qv Q) X)) (v1 : Int32) (s0 : Int32) (s1 : Int32) (M : Mem) (h : w_Model_callWords_j128 this Q X k49 v1 s0 s1 M) : E γ k_Model_callWords 5 128 [some (vr (some (11, this))), some (vi v1)] [vi s0, vi s1, vr (some (11, this))] M (Qx (14, 0) (Qv Q) X) := by
  unfold w_Model_callWords_j128 at h
  refine E_blk (lv' := [some (vr (some (11, this))), some (vi v1)]) (st' := []) (M1 := (sI M 11 this 43 (s1 + s0))) (pc' := 132) (tb_Model hγ) [.iadd, .putfield 104] (by decide +kernel) rfl rfl trivial ?_
  refine E_goto (off := -83) (tgt := 49) (by decide +kernel) (by decide) ?_
  refine E_mask [true, true] rfl ?_
  exact hk49 v1 (sI M 11 this 43 (s1 + s0)) h
set_option maxRecDepth 4096 in
theorem lk_Model_callWords_j113 {γ : Gm} (hγ : Gk γ) (this : Nat) (Q : Mem → Prop) (X : Mem → Prop) (k49 : Int32 → Mem → Prop) (hk49 : ∀ (v1 : Int32) (M : Mem), k49 v1 M → E γ k_Model_callWords 5 49 [some (vr (some (11, this))), some (vi v1)] [] M (Qx (14, 0) (Qv Q) X)) (s0 : Int32) (M : Mem) (h : w_Model_callWords_j113 this Q X k49 s0 M) : E γ k_Model_callWords 5 113 [some (vr (some (11, this))), none] [vi s0] M (Qx (14, 0) (Qv Q) X) := by
  unfold w_Model_callWords_j113 at h
  refine E_blk (lv' := [some (vr (some (11, this))), some (vi s0)]) (st' := [vi s0, vi (mI M 11 this 43), vr (some (11, this))]) (M1 := M) (pc' := 120) (tb_Model hγ) [.istore_n 1, .aload_n 0, .dup, .getfield 104, .iload_n 1] (by decide +kernel) rfl rfl trivial ?_
  refine E_if_eq (off := 7) (tgt := 127) (by decide +kernel) (by decide) (fun b37 => ?_) (fun b37 => ?_)
  · rw [if_pos b37] at h
    refine E_blk (lv' := [some (vr (some (11, this))), some (vi s0)]) (st' := [vi (0 : Int32), vi (mI M 11 this 43), vr (some (11, this))]) (M1 := M) (pc' := 128) (tb_Model hγ) [.iconst 0] (by decide +kernel) rfl rfl trivial ?_
    refine E_mask [true, true] rfl ?_
    exact lk_Model_callWords_j128 hγ this Q X k49 hk49 s0 (0 : Int32) (mI M 11 this 43) M h
  · rw [if_neg b37] at h
    refine E_blk (lv' := [some (vr (some (11, this))), some (vi s0)]) (st' := [vi (1 : Int32), vi (mI M 11 this 43), vr (some (11, this))]) (M1 := M) (pc' := 124) (tb_Model hγ) [.iconst 1] (by decide +kernel) rfl rfl trivial ?_
    refine E_goto (off := 4) (tgt := 128) (by decide +kernel) (by decide) ?_
    refine E_mask [true, true] rfl ?_
    exact lk_Model_callWords_j128 hγ this Q X k49 hk49 s0 (1 : Int32) (mI M 11 this 43) M h
set_option maxRecDepth 4096 in
theorem lk_Model_callWords_j66 {γ : Gm} (hγ : Gk γ) (this : Nat) (Q : Mem → Prop) (X : Mem → Prop) (k49 : Int32 → Mem → Prop) (hk49 : ∀ (v1 : Int32) (M : Mem), k49 v1 M → E γ k_Model_callWords 5 49 [some (vr (some (11, this))), some (vi v1)] [] M (Qx (14, 0) (Qv Q) X))  (M : Mem) (h : w_Model_callWords_j66 this Q X k49  M) : E γ k_Model_callWords 5 66 [some (vr (some (11, this))), none] [] M (Qx (14, 0) (Qv Q) X) := by
  unfold w_Model_callWords_j66 at h
  refine E_blk (lv' := [some (vr (some (11, this))), none]) (st' := [vi (mI M 11 this 27), vr (some (11, this))]) (M1 := M) (pc' := 71) (tb_Model hγ) [.aload_n 0, .aload_n 0, .getfield 245] (by decide +kernel) rfl rfl trivial ?_
  refine E_callX (κ' := k_Model_needWord) (As := [vi (mI M 11 this 27)]) (st := []) mv_Model_needWord (Or.inl (tbk_mem (j := 15) (k := 11) rfl)) rfl (by decide +kernel) (Nat.le_of_ble_eq_true rfl) (Nat.le_of_ble_eq_true rfl) rfl (by decide) rfl (lk_Model_needWord hγ this (mI M 11 this 27) _ _ M h) (fun _ _ => Qv_r) (fun _ h => h) (fun v M31 hp => Qv_k (R := fun st => E γ k_Model_callWords 5 74 [some (vr (some (11, this))), none] st M31 (Qx (14, 0) (Qv Q) X)) hp (fun h => ?_))
  refine E_blk (lv' := [some (vr (some (11, this))), none]) (st' := [vr (mR M31 11 this 55)]) (M1 := M31) (pc' := 78) (tb_Model hγ) [.aload_n 0, .getfield 277] (by decide +kernel) rfl rfl trivial ?_
  obtain ⟨i32, ei32, h⟩ := h
  rw [ei32]
  obtain ⟨c33, h⟩ := h
  refine E_blk (lv' := [some (vr (some (11, this))), none]) (st' := []) (M1 := (sI (sI M31 300 i32 (mI M31 11 this 56).toNatClampNeg (1 : Int32)) 11 this 56 ((mI (sI M31 300 i32 (mI M31 11 this 56).toNatClampNeg (1 : Int32)) 11 this 56) + (1 : Int32)))) (pc' := 94) (tb_Model hγ) [.aload_n 0, .getfield 557, .iconst 1, .iastore, .aload_n 0, .dup, .getfield 557, .iconst 1, .iadd, .putfield 557] (by decide +kernel) rfl rfl ⟨c33, trivial⟩ ?_
  obtain ⟨M34, eM34, h⟩ := h
  rw [← eM34]
  obtain ⟨c35, h⟩ := h
  refine E_blk (lv' := [some (vr (some (11, this))), none]) (st' := [vi (44 : Int32), vi (mI M34 411 this (mI M34 11 this 43).toNatClampNeg)]) (M1 := M34) (pc' := 105) (tb_Model hγ) [.aload_n 0, .getfield 92, .aload_n 0, .getfield 104, .baload, .bipush 44] (by decide +kernel) rfl rfl ⟨c35, trivial⟩ ?_
  refine E_icmp_ne (off := 7) (tgt := 112) (by decide +kernel) (by decide) (fun b36 => ?_) (fun b36 => ?_)
  · rw [if_pos b36] at h
    refine E_blk (lv' := [some (vr (some (11, this))), none]) (st' := [vi (1 : Int32)]) (M1 := M34) (pc' := 109) (tb_Model hγ) [.iconst 1] (by decide +kernel) rfl rfl trivial ?_
    refine E_goto (off := 4) (tgt := 113) (by decide +kernel) (by decide) ?_
    refine E_mask [true, false] rfl ?_
    exact lk_Model_callWords_j113 hγ this Q X k49 hk49 (1 : Int32) M34 h
  · rw [if_neg b36] at h
    refine E_blk (lv' := [some (vr (some (11, this))), none]) (st' := [vi (0 : Int32)]) (M1 := M34) (pc' := 113) (tb_Model hγ) [.iconst 0] (by decide +kernel) rfl rfl trivial ?_
    refine E_mask [true, false] rfl ?_
    exact lk_Model_callWords_j113 hγ this Q X k49 hk49 (0 : Int32) M34 h
set_option maxRecDepth 4096 in
theorem lk_Model_callWords_L49 {γ : Gm} (hγ : Gk γ) (this : Nat) (Q : Mem → Prop) (X : Mem → Prop) : ∀ (n : Nat) (v1 : Int32) (M : Mem), w_Model_callWords_L49 this Q X n v1 M → E γ k_Model_callWords 5 49 [some (vr (some (11, this))), some (vi v1)] [] M (Qx (14, 0) (Qv Q) X) := by
  intro n
  induction n with
  | zero => intro v1 M h; exact h.elim
  | succ n ih =>
    intro v1 M h
    unfold w_Model_callWords_L49 at h
    refine E_blk (lv' := [some (vr (some (11, this))), some (vi v1)]) (st' := [vi v1]) (M1 := M) (pc' := 50) (tb_Model hγ) [.iload_n 1] (by decide +kernel) rfl rfl trivial ?_
    refine E_if_eq (off := 85) (tgt := 135) (by decide +kernel) (by decide) (fun b28 => ?_) (fun b28 => ?_)
    · rw [if_pos b28] at h
      refine E_mask [true, false] rfl ?_
      exact lk_Model_callWords_j135 hγ this Q X  M h
    · rw [if_neg b28] at h
      refine E_blk (lv' := [some (vr (some (11, this))), some (vi v1)]) (st' := [vi (6 : Int32), vi (mI M 11 this 56)]) (M1 := M) (pc' := 59) (tb_Model hγ) [.aload_n 0, .getfield 557, .bipush 6] (by decide +kernel) rfl rfl trivial ?_
      refine E_icmp_ne (off := 7) (tgt := 66) (by decide +kernel) (by decide) (fun b29 => ?_) (fun b29 => ?_)
      · rw [if_pos b29] at h
        refine E_blk (lv' := [some (vr (some (11, this))), some (vi v1)]) (st' := [vr (some (11, this))]) (M1 := M) (pc' := 63) (tb_Model hγ) [.aload_n 0] (by decide +kernel) rfl rfl trivial ?_
        refine E_callX (κ' := k_Model_wrong) (As := []) (st := []) mv_Model_wrong (Or.inl (tbk_mem (j := 15) (k := 19) rfl)) rfl (by decide +kernel) (Nat.le_of_ble_eq_true rfl) (Nat.le_of_ble_eq_true rfl) rfl (by decide) rfl (lk_Model_wrong hγ this _ _ M h) (fun _ _ => Qv_r) (fun _ h => h) (fun v M30 hp => Qv_k (R := fun st => E γ k_Model_callWords 5 66 [some (vr (some (11, this))), some (vi v1)] st M30 (Qx (14, 0) (Qv Q) X)) hp (fun h => ?_))
        refine E_mask [true, false] rfl ?_
        exact lk_Model_callWords_j66 hγ this Q X (w_Model_callWords_L49 this Q X n) ih  M30 h
      · rw [if_neg b29] at h
        refine E_mask [true, false] rfl ?_
        exact lk_Model_callWords_j66 hγ this Q X (w_Model_callWords_L49 this Q X n) ih  M h
set_option maxRecDepth 4096 in
theorem lk_Model_callWords {γ : Gm} (hγ : Gk γ) (this : Nat) (Q : Mem → Prop) (X : Mem → Prop) (M : Mem) (h : w_Model_callWords this Q X M) : E γ k_Model_callWords 5 0 [some (vr (some (11, this))), none] [] M (Qx (14, 0) (Qv Q) X) := by
  unfold w_Model_callWords at h
  refine E_blk (lv' := [some (vr (some (11, this))), none]) (st' := [vr (some (11, this)), vr (some (11, this))]) (M1 := M) (pc' := 2) (tb_Model hγ) [.aload_n 0, .aload_n 0] (by decide +kernel) rfl rfl trivial ?_
  refine E_callX (κ' := k_Model_className) (As := []) (st := [vr (some (11, this))]) mv_Model_className (Or.inl (tbk_mem (j := 15) (k := 23) rfl)) rfl (by decide +kernel) (Nat.le_of_ble_eq_true rfl) (Nat.le_of_ble_eq_true rfl) rfl (by decide) rfl (lk_Model_className hγ this _ _ M h) (fun _ _ => Qi_r) (fun _ h => h) (fun v M1 hp => Qi_k (R := fun st => E γ k_Model_callWords 5 5 [some (vr (some (11, this))), none] st M1 (Qx (14, 0) (Qv Q) X)) hp (fun r2 h => ?_))
  refine E_blk (lv' := [some (vr (some (11, this))), none]) (st' := [vi (46 : Int32), vr (some (11, this))]) (M1 := (sI M1 11 this 88 r2)) (pc' := 11) (tb_Model hγ) [.putfield 1132, .aload_n 0, .bipush 46] (by decide +kernel) rfl rfl trivial ?_
  refine E_callX (κ' := k_Model_need) (As := [vi (46 : Int32)]) (st := []) mv_Model_need (Or.inl (tbk_mem (j := 15) (k := 35) rfl)) rfl (by decide +kernel) (Nat.le_of_ble_eq_true rfl) (Nat.le_of_ble_eq_true rfl) rfl (by decide) rfl (lk_Model_need hγ this (46 : Int32) _ _ (sI M1 11 this 88 r2) h) (fun _ _ => Qv_r) (fun _ h => h) (fun v M3 hp => Qv_k (R := fun st => E γ k_Model_callWords 5 14 [some (vr (some (11, this))), none] st M3 (Qx (14, 0) (Qv Q) X)) hp (fun h => ?_))
  refine E_blk (lv' := [some (vr (some (11, this))), none]) (st' := [vr (some (11, this)), vr (some (11, this))]) (M1 := M3) (pc' := 16) (tb_Model hγ) [.aload_n 0, .aload_n 0] (by decide +kernel) rfl rfl trivial ?_
  refine E_callX (κ' := k_Model_plainName) (As := []) (st := [vr (some (11, this))]) mv_Model_plainName (Or.inl (tbk_mem (j := 15) (k := 31) rfl)) rfl (by decide +kernel) (Nat.le_of_ble_eq_true rfl) (Nat.le_of_ble_eq_true rfl) rfl (by decide) rfl (lk_Model_plainName hγ this _ _ M3 h) (fun _ _ => Qi_r) (fun _ h => h) (fun v M4 hp => Qi_k (R := fun st => E γ k_Model_callWords 5 19 [some (vr (some (11, this))), none] st M4 (Qx (14, 0) (Qv Q) X)) hp (fun r5 h => ?_))
  refine E_blk (lv' := [some (vr (some (11, this))), none]) (st' := [vi (40 : Int32), vr (some (11, this))]) (M1 := (sI M4 11 this 89 r5)) (pc' := 25) (tb_Model hγ) [.putfield 1135, .aload_n 0, .bipush 40] (by decide +kernel) rfl rfl trivial ?_
  refine E_callX (κ' := k_Model_need) (As := [vi (40 : Int32)]) (st := []) mv_Model_need (Or.inl (tbk_mem (j := 15) (k := 35) rfl)) rfl (by decide +kernel) (Nat.le_of_ble_eq_true rfl) (Nat.le_of_ble_eq_true rfl) rfl (by decide) rfl (lk_Model_need hγ this (40 : Int32) _ _ (sI M4 11 this 89 r5) h) (fun _ _ => Qv_r) (fun _ h => h) (fun v M6 hp => Qv_k (R := fun st => E γ k_Model_callWords 5 28 [some (vr (some (11, this))), none] st M6 (Qx (14, 0) (Qv Q) X)) hp (fun h => ?_))
  obtain ⟨c7, h⟩ := h
  refine E_blk (lv' := [some (vr (some (11, this))), none]) (st' := [vi (41 : Int32), vi (mI (sI M6 11 this 56 (0 : Int32)) 411 this (mI (sI M6 11 this 56 (0 : Int32)) 11 this 43).toNatClampNeg)]) (M1 := (sI M6 11 this 56 (0 : Int32))) (pc' := 44) (tb_Model hγ) [.aload_n 0, .iconst 0, .putfield 557, .aload_n 0, .getfield 92, .aload_n 0, .getfield 104, .baload, .bipush 41] (by decide +kernel) rfl rfl ⟨c7, trivial⟩ ?_
  refine E_icmp_eq (off := 91) (tgt := 135) (by decide +kernel) (by decide) (fun b8 => ?_) (fun b8 => ?_)
  · rw [if_pos b8] at h
    refine E_mask [true, false] rfl ?_
    exact lk_Model_callWords_j135 hγ this Q X  (sI M6 11 this 56 (0 : Int32)) h
  · rw [if_neg b8] at h
    refine E_blk (lv' := [some (vr (some (11, this))), some (vi (1 : Int32))]) (st' := []) (M1 := (sI M6 11 this 56 (0 : Int32))) (pc' := 49) (tb_Model hγ) [.iconst 1, .istore_n 1] (by decide +kernel) rfl rfl trivial ?_
    obtain ⟨n38, h⟩ := h
    refine E_mask [true, true] rfl ?_
    exact lk_Model_callWords_L49 hγ this Q X n38 (1 : Int32) (sI M6 11 this 56 (0 : Int32)) h
def w_Model_methodWords_j146 (this : Nat) (Q : Mem → Prop) (X : Mem → Prop) (s0 : Int32) (s1 : Int32) (s2 : Nat) (M : Mem) : Prop :=
  w_Model_signature this s2 s1 s0 (fun r17 M16 => w_Model_need this (0 : Int32) (fun M18 => Q M18) X (sI M16 11 this 92 r17)) M
def w_Model_methodWords_j111 (this : Nat) (Q : Mem → Prop) (X : Mem → Prop)  (M : Mem) : Prop :=
  w_Model_need this (41 : Int32) (fun M9 => ∃ i10, (mR M9 11 this 55) = some (300, i10) ∧ w_Model_takes this (mI M9 11 this 21) (fun r12 M11 => if r12 = 0 then (w_Model_type this (fun r15 M14 => w_Model_methodWords_j146 this Q X r15 (mI M9 11 this 56) i10 M14) X M11) else (w_Model_methodWords_j146 this Q X (0 : Int32) (mI M9 11 this 56) i10 M11)) M9) X M
def w_Model_methodWords_j104 (this : Nat) (Q : Mem → Prop) (X : Mem → Prop) (k49 : Int32 → Mem → Prop) (v1 : Int32) (s0 : Int32) (s1 : Int32) (M : Mem) : Prop :=
  k49 v1 (sI M 11 this 43 (s1 + s0))
def w_Model_methodWords_j89 (this : Nat) (Q : Mem → Prop) (X : Mem → Prop) (k49 : Int32 → Mem → Prop) (s0 : Int32) (M : Mem) : Prop :=
  if s0 = 0 then (w_Model_methodWords_j104 this Q X k49 s0 (0 : Int32) (mI M 11 this 43) M) else (w_Model_methodWords_j104 this Q X k49 s0 (1 : Int32) (mI M 11 this 43) M)
def w_Model_methodWords_j66 (this : Nat) (Q : Mem → Prop) (X : Mem → Prop) (k49 : Int32 → Mem → Prop)  (M : Mem) : Prop :=
  w_Model_addType this (fun M22 => vp_in (mI M22 11 this 43) (mL M22 411 this) ∧ if (mI M22 411 this (mI M22 11 this 43).toNatClampNeg) = (44 : Int32) then (w_Model_methodWords_j89 this Q X k49 (1 : Int32) M22) else (w_Model_methodWords_j89 this Q X k49 (0 : Int32) M22)) X M
def w_Model_methodWords_L49 (this : Nat) (Q : Mem → Prop) (X : Mem → Prop) : Nat → Int32 → Mem → Prop
  | 0, _, _ => False
  | n + 1, v1, M => if v1 = 0 then (w_Model_methodWords_j111 this Q X  M) else (if (mI M 11 this 56) = (6 : Int32) then (w_Model_wrong this (fun M21 => w_Model_methodWords_j66 this Q X (w_Model_methodWords_L49 this Q X n)  M21) X M) else (w_Model_methodWords_j66 this Q X (w_Model_methodWords_L49 this Q X n)  M))
def w_Model_methodWords (this : Nat) (Q : Mem → Prop) (X : Mem → Prop) (M : Mem) : Prop :=
  w_Model_className this (fun r2 M1 => w_Model_need this (46 : Int32) (fun M3 => w_Model_plainName this (fun r5 M4 => w_Model_need this (40 : Int32) (fun M6 => vp_in (mI (sI M6 11 this 56 (0 : Int32)) 11 this 43) (mL (sI M6 11 this 56 (0 : Int32)) 411 this) ∧ if (mI (sI M6 11 this 56 (0 : Int32)) 411 this (mI (sI M6 11 this 56 (0 : Int32)) 11 this 43).toNatClampNeg) = (41 : Int32) then (w_Model_methodWords_j111 this Q X  (sI M6 11 this 56 (0 : Int32))) else (∃ n26 : Nat, w_Model_methodWords_L49 this Q X n26 (1 : Int32) (sI M6 11 this 56 (0 : Int32)))) X (sI M4 11 this 91 r5)) X M3) X (sI M1 11 this 88 r2)) X M
set_option maxRecDepth 4096 in
theorem lk_Model_methodWords_j146 {γ : Gm} (hγ : Gk γ) (this : Nat) (Q : Mem → Prop) (X : Mem → Prop) (s0 : Int32) (s1 : Int32) (s2 : Nat) (M : Mem) (h : w_Model_methodWords_j146 this Q X s0 s1 s2 M) : E γ k_Model_methodWords 6 146 [some (vr (some (11, this))), none] [vi s0, vi s1, vr (some (300, s2)), vr (some (11, this)), vr (some (11, this))] M (Qx (14, 0) (Qv Q) X) := by
  unfold w_Model_methodWords_j146 at h
  refine E_callV (κ' := k_Model_signature) (As := [vr (some (300, s2)), vi s1, vi s0]) (st := [vr (some (11, this))]) mv_Model_signature (Or.inl (tbk_mem (j := 11) (k := 93) rfl)) rfl (by decide +kernel) (Nat.le_of_ble_eq_true rfl) (Nat.le_of_ble_eq_true rfl) rfl (by decide) (lk_Model_signature hγ this s2 s1 s0 _ M h) (fun _ _ => Qi_r) (fun v M16 hp => Qi_k (R := fun st => E γ k_Model_methodWords 6 149 [some (vr (some (11, this))), none] st M16 (Qx (14, 0) (Qv Q) X)) hp (fun r17 h => ?_))
  refine E_blk (lv' := [some (vr (some (11, this))), none]) (st' := [vi (0 : Int32), vr (some (11, this))]) (M1 := (sI M16 11 this 92 r17)) (pc' := 154) (tb_Model hγ) [.putfield 1150, .aload_n 0, .iconst 0] (by decide +kernel) rfl rfl trivial ?_
  refine E_callX (κ' := k_Model_need) (As := [vi (0 : Int32)]) (st := []) mv_Model_need (Or.inl (tbk_mem (j := 15) (k := 35) rfl)) rfl (by decide +kernel) (Nat.le_of_ble_eq_true rfl) (Nat.le_of_ble_eq_true rfl) rfl (by decide) rfl (lk_Model_need hγ this (0 : Int32) _ _ (sI M16 11 this 92 r17) h) (fun _ _ => Qv_r) (fun _ h => h) (fun v M18 hp => Qv_k (R := fun st => E γ k_Model_methodWords 6 157 [some (vr (some (11, this))), none] st M18 (Qx (14, 0) (Qv Q) X)) hp (fun h => ?_))
  exact (E_vret rfl (by decide +kernel) h).nx
set_option maxRecDepth 4096 in
theorem lk_Model_methodWords_j111 {γ : Gm} (hγ : Gk γ) (this : Nat) (Q : Mem → Prop) (X : Mem → Prop)  (M : Mem) (h : w_Model_methodWords_j111 this Q X  M) : E γ k_Model_methodWords 6 111 [some (vr (some (11, this))), none] [] M (Qx (14, 0) (Qv Q) X) := by
  unfold w_Model_methodWords_j111 at h
  refine E_blk (lv' := [some (vr (some (11, this))), none]) (st' := [vi (41 : Int32), vr (some (11, this))]) (M1 := M) (pc' := 114) (tb_Model hγ) [.aload_n 0, .bipush 41] (by decide +kernel) rfl rfl trivial ?_
  refine E_callX (κ' := k_Model_need) (As := [vi (41 : Int32)]) (st := []) mv_Model_need (Or.inl (tbk_mem (j := 15) (k := 35) rfl)) rfl (by decide +kernel) (Nat.le_of_ble_eq_true rfl) (Nat.le_of_ble_eq_true rfl) rfl (by decide) rfl (lk_Model_need hγ this (41 : Int32) _ _ M h) (fun _ _ => Qv_r) (fun _ h => h) (fun v M9 hp => Qv_k (R := fun st => E γ k_Model_methodWords 6 117 [some (vr (some (11, this))), none] st M9 (Qx (14, 0) (Qv Q) X)) hp (fun h => ?_))
  refine E_blk (lv' := [some (vr (some (11, this))), none]) (st' := [vr (mR M9 11 this 55), vr (some (11, this)), vr (some (11, this))]) (M1 := M9) (pc' := 123) (tb_Model hγ) [.aload_n 0, .aload_n 0, .aload_n 0, .getfield 277] (by decide +kernel) rfl rfl trivial ?_
  obtain ⟨i10, ei10, h⟩ := h
  rw [ei10]
  refine E_blk (lv' := [some (vr (some (11, this))), none]) (st' := [vi (mI M9 11 this 21), vr (some (11, this)), vi (mI M9 11 this 56), vr (some (300, i10)), vr (some (11, this)), vr (some (11, this))]) (M1 := M9) (pc' := 132) (tb_Model hγ) [.aload_n 0, .getfield 557, .aload_n 0, .aload_n 0, .getfield 217] (by decide +kernel) rfl rfl trivial ?_
  refine E_callV (κ' := k_Model_takes) (As := [vi (mI M9 11 this 21)]) (st := [vi (mI M9 11 this 56), vr (some (300, i10)), vr (some (11, this)), vr (some (11, this))]) mv_Model_takes (Or.inl (tbk_mem (j := 15) (k := 15) rfl)) rfl (by decide +kernel) (Nat.le_of_ble_eq_true rfl) (Nat.le_of_ble_eq_true rfl) rfl (by decide) (lk_Model_takes hγ this (mI M9 11 this 21) _ M9 h) (fun _ _ => Qi_r) (fun v M11 hp => Qi_k (R := fun st => E γ k_Model_methodWords 6 135 [some (vr (some (11, this))), none] st M11 (Qx (14, 0) (Qv Q) X)) hp (fun r12 h => ?_))
  refine E_if_eq (off := 7) (tgt := 142) (by decide +kernel) (by decide) (fun b13 => ?_) (fun b13 => ?_)
  · rw [if_pos b13] at h
    refine E_blk (lv' := [some (vr (some (11, this))), none]) (st' := [vr (some (11, this)), vi (mI M9 11 this 56), vr (some (300, i10)), vr (some (11, this)), vr (some (11, this))]) (M1 := M11) (pc' := 143) (tb_Model hγ) [.aload_n 0] (by decide +kernel) rfl rfl trivial ?_
    refine E_callX (κ' := k_Model_type) (As := []) (st := [vi (mI M9 11 this 56), vr (some (300, i10)), vr (some (11, this)), vr (some (11, this))]) mv_Model_type (Or.inl (tbk_mem (j := 15) (k := 55) rfl)) rfl (by decide +kernel) (Nat.le_of_ble_eq_true rfl) (Nat.le_of_ble_eq_true rfl) rfl (by decide) rfl (lk_Model_type hγ this _ _ M11 h) (fun _ _ => Qi_r) (fun _ h => h) (fun v M14 hp => Qi_k (R := fun st => E γ k_Model_methodWords 6 146 [some (vr (some (11, this))), none] st M14 (Qx (14, 0) (Qv Q) X)) hp (fun r15 h => ?_))
    refine E_mask [true, false] rfl ?_
    exact lk_Model_methodWords_j146 hγ this Q X r15 (mI M9 11 this 56) i10 M14 h
  · rw [if_neg b13] at h
    refine E_blk (lv' := [some (vr (some (11, this))), none]) (st' := [vi (0 : Int32), vi (mI M9 11 this 56), vr (some (300, i10)), vr (some (11, this)), vr (some (11, this))]) (M1 := M11) (pc' := 139) (tb_Model hγ) [.iconst 0] (by decide +kernel) rfl rfl trivial ?_
    refine E_goto (off := 7) (tgt := 146) (by decide +kernel) (by decide) ?_
    refine E_mask [true, false] rfl ?_
    exact lk_Model_methodWords_j146 hγ this Q X (0 : Int32) (mI M9 11 this 56) i10 M11 h
set_option maxRecDepth 4096 in
theorem lk_Model_methodWords_j104 {γ : Gm} (hγ : Gk γ) (this : Nat) (Q : Mem → Prop) (X : Mem → Prop) (k49 : Int32 → Mem → Prop) (hk49 : ∀ (v1 : Int32) (M : Mem), k49 v1 M → E γ k_Model_methodWords 6 49 [some (vr (some (11, this))), some (vi v1)] [] M (Qx (14, 0) (Qv Q) X)) (v1 : Int32) (s0 : Int32) (s1 : Int32) (M : Mem) (h : w_Model_methodWords_j104 this Q X k49 v1 s0 s1 M) : E γ k_Model_methodWords 6 104 [some (vr (some (11, this))), some (vi v1)] [vi s0, vi s1, vr (some (11, this))] M (Qx (14, 0) (Qv Q) X) := by
  unfold w_Model_methodWords_j104 at h
  refine E_blk (lv' := [some (vr (some (11, this))), some (vi v1)]) (st' := []) (M1 := (sI M 11 this 43 (s1 + s0))) (pc' := 108) (tb_Model hγ) [.iadd, .putfield 104] (by decide +kernel) rfl rfl trivial ?_
  refine E_goto (off := -59) (tgt := 49) (by decide +kernel) (by decide) ?_
  refine E_mask [true, true] rfl ?_
  exact hk49 v1 (sI M 11 this 43 (s1 + s0)) h
set_option maxRecDepth 4096 in
theorem lk_Model_methodWords_j89 {γ : Gm} (hγ : Gk γ) (this : Nat) (Q : Mem → Prop) (X : Mem → Prop) (k49 : Int32 → Mem → Prop) (hk49 : ∀ (v1 : Int32) (M : Mem), k49 v1 M → E γ k_Model_methodWords 6 49 [some (vr (some (11, this))), some (vi v1)] [] M (Qx (14, 0) (Qv Q) X)) (s0 : Int32) (M : Mem) (h : w_Model_methodWords_j89 this Q X k49 s0 M) : E γ k_Model_methodWords 6 89 [some (vr (some (11, this))), none] [vi s0] M (Qx (14, 0) (Qv Q) X) := by
  unfold w_Model_methodWords_j89 at h
  refine E_blk (lv' := [some (vr (some (11, this))), some (vi s0)]) (st' := [vi s0, vi (mI M 11 this 43), vr (some (11, this))]) (M1 := M) (pc' := 96) (tb_Model hγ) [.istore_n 1, .aload_n 0, .dup, .getfield 104, .iload_n 1] (by decide +kernel) rfl rfl trivial ?_
  refine E_if_eq (off := 7) (tgt := 103) (by decide +kernel) (by decide) (fun b25 => ?_) (fun b25 => ?_)
  · rw [if_pos b25] at h
    refine E_blk (lv' := [some (vr (some (11, this))), some (vi s0)]) (st' := [vi (0 : Int32), vi (mI M 11 this 43), vr (some (11, this))]) (M1 := M) (pc' := 104) (tb_Model hγ) [.iconst 0] (by decide +kernel) rfl rfl trivial ?_
    refine E_mask [true, true] rfl ?_
    exact lk_Model_methodWords_j104 hγ this Q X k49 hk49 s0 (0 : Int32) (mI M 11 this 43) M h
  · rw [if_neg b25] at h
    refine E_blk (lv' := [some (vr (some (11, this))), some (vi s0)]) (st' := [vi (1 : Int32), vi (mI M 11 this 43), vr (some (11, this))]) (M1 := M) (pc' := 100) (tb_Model hγ) [.iconst 1] (by decide +kernel) rfl rfl trivial ?_
    refine E_goto (off := 4) (tgt := 104) (by decide +kernel) (by decide) ?_
    refine E_mask [true, true] rfl ?_
    exact lk_Model_methodWords_j104 hγ this Q X k49 hk49 s0 (1 : Int32) (mI M 11 this 43) M h
set_option maxRecDepth 4096 in
theorem lk_Model_methodWords_j66 {γ : Gm} (hγ : Gk γ) (this : Nat) (Q : Mem → Prop) (X : Mem → Prop) (k49 : Int32 → Mem → Prop) (hk49 : ∀ (v1 : Int32) (M : Mem), k49 v1 M → E γ k_Model_methodWords 6 49 [some (vr (some (11, this))), some (vi v1)] [] M (Qx (14, 0) (Qv Q) X))  (M : Mem) (h : w_Model_methodWords_j66 this Q X k49  M) : E γ k_Model_methodWords 6 66 [some (vr (some (11, this))), none] [] M (Qx (14, 0) (Qv Q) X) := by
  unfold w_Model_methodWords_j66 at h
  refine E_blk (lv' := [some (vr (some (11, this))), none]) (st' := [vr (some (11, this))]) (M1 := M) (pc' := 67) (tb_Model hγ) [.aload_n 0] (by decide +kernel) rfl rfl trivial ?_
  refine E_callX (κ' := k_Model_addType) (As := []) (st := []) mv_Model_addType (Or.inl (tbk_mem (j := 15) (k := 72) rfl)) rfl (by decide +kernel) (Nat.le_of_ble_eq_true rfl) (Nat.le_of_ble_eq_true rfl) rfl (by decide) rfl (lk_Model_addType hγ this _ _ M h) (fun _ _ => Qv_r) (fun _ h => h) (fun v M22 hp => Qv_k (R := fun st => E γ k_Model_methodWords 6 70 [some (vr (some (11, this))), none] st M22 (Qx (14, 0) (Qv Q) X)) hp (fun h => ?_))
  obtain ⟨c23, h⟩ := h
  refine E_blk (lv' := [some (vr (some (11, this))), none]) (st' := [vi (44 : Int32), vi (mI M22 411 this (mI M22 11 this 43).toNatClampNeg)]) (M1 := M22) (pc' := 81) (tb_Model hγ) [.aload_n 0, .getfield 92, .aload_n 0, .getfield 104, .baload, .bipush 44] (by decide +kernel) rfl rfl ⟨c23, trivial⟩ ?_
  refine E_icmp_ne (off := 7) (tgt := 88) (by decide +kernel) (by decide) (fun b24 => ?_) (fun b24 => ?_)
  · rw [if_pos b24] at h
    refine E_blk (lv' := [some (vr (some (11, this))), none]) (st' := [vi (1 : Int32)]) (M1 := M22) (pc' := 85) (tb_Model hγ) [.iconst 1] (by decide +kernel) rfl rfl trivial ?_
    refine E_goto (off := 4) (tgt := 89) (by decide +kernel) (by decide) ?_
    refine E_mask [true, false] rfl ?_
    exact lk_Model_methodWords_j89 hγ this Q X k49 hk49 (1 : Int32) M22 h
  · rw [if_neg b24] at h
    refine E_blk (lv' := [some (vr (some (11, this))), none]) (st' := [vi (0 : Int32)]) (M1 := M22) (pc' := 89) (tb_Model hγ) [.iconst 0] (by decide +kernel) rfl rfl trivial ?_
    refine E_mask [true, false] rfl ?_
    exact lk_Model_methodWords_j89 hγ this Q X k49 hk49 (0 : Int32) M22 h
set_option maxRecDepth 4096 in
theorem lk_Model_methodWords_L49 {γ : Gm} (hγ : Gk γ) (this : Nat) (Q : Mem → Prop) (X : Mem → Prop) : ∀ (n : Nat) (v1 : Int32) (M : Mem), w_Model_methodWords_L49 this Q X n v1 M → E γ k_Model_methodWords 6 49 [some (vr (some (11, this))), some (vi v1)] [] M (Qx (14, 0) (Qv Q) X) := by
  intro n
  induction n with
  | zero => intro v1 M h; exact h.elim
  | succ n ih =>
    intro v1 M h
    unfold w_Model_methodWords_L49 at h
    refine E_blk (lv' := [some (vr (some (11, this))), some (vi v1)]) (st' := [vi v1]) (M1 := M) (pc' := 50) (tb_Model hγ) [.iload_n 1] (by decide +kernel) rfl rfl trivial ?_
    refine E_if_eq (off := 61) (tgt := 111) (by decide +kernel) (by decide) (fun b19 => ?_) (fun b19 => ?_)
    · rw [if_pos b19] at h
      refine E_mask [true, false] rfl ?_
      exact lk_Model_methodWords_j111 hγ this Q X  M h
    · rw [if_neg b19] at h
      refine E_blk (lv' := [some (vr (some (11, this))), some (vi v1)]) (st' := [vi (6 : Int32), vi (mI M 11 this 56)]) (M1 := M) (pc' := 59) (tb_Model hγ) [.aload_n 0, .getfield 557, .bipush 6] (by decide +kernel) rfl rfl trivial ?_
      refine E_icmp_ne (off := 7) (tgt := 66) (by decide +kernel) (by decide) (fun b20 => ?_) (fun b20 => ?_)
      · rw [if_pos b20] at h
        refine E_blk (lv' := [some (vr (some (11, this))), some (vi v1)]) (st' := [vr (some (11, this))]) (M1 := M) (pc' := 63) (tb_Model hγ) [.aload_n 0] (by decide +kernel) rfl rfl trivial ?_
        refine E_callX (κ' := k_Model_wrong) (As := []) (st := []) mv_Model_wrong (Or.inl (tbk_mem (j := 15) (k := 19) rfl)) rfl (by decide +kernel) (Nat.le_of_ble_eq_true rfl) (Nat.le_of_ble_eq_true rfl) rfl (by decide) rfl (lk_Model_wrong hγ this _ _ M h) (fun _ _ => Qv_r) (fun _ h => h) (fun v M21 hp => Qv_k (R := fun st => E γ k_Model_methodWords 6 66 [some (vr (some (11, this))), some (vi v1)] st M21 (Qx (14, 0) (Qv Q) X)) hp (fun h => ?_))
        refine E_mask [true, false] rfl ?_
        exact lk_Model_methodWords_j66 hγ this Q X (w_Model_methodWords_L49 this Q X n) ih  M21 h
      · rw [if_neg b20] at h
        refine E_mask [true, false] rfl ?_
        exact lk_Model_methodWords_j66 hγ this Q X (w_Model_methodWords_L49 this Q X n) ih  M h
set_option maxRecDepth 4096 in
theorem lk_Model_methodWords {γ : Gm} (hγ : Gk γ) (this : Nat) (Q : Mem → Prop) (X : Mem → Prop) (M : Mem) (h : w_Model_methodWords this Q X M) : E γ k_Model_methodWords 6 0 [some (vr (some (11, this))), none] [] M (Qx (14, 0) (Qv Q) X) := by
  unfold w_Model_methodWords at h
  refine E_blk (lv' := [some (vr (some (11, this))), none]) (st' := [vr (some (11, this)), vr (some (11, this))]) (M1 := M) (pc' := 2) (tb_Model hγ) [.aload_n 0, .aload_n 0] (by decide +kernel) rfl rfl trivial ?_
  refine E_callX (κ' := k_Model_className) (As := []) (st := [vr (some (11, this))]) mv_Model_className (Or.inl (tbk_mem (j := 15) (k := 23) rfl)) rfl (by decide +kernel) (Nat.le_of_ble_eq_true rfl) (Nat.le_of_ble_eq_true rfl) rfl (by decide) rfl (lk_Model_className hγ this _ _ M h) (fun _ _ => Qi_r) (fun _ h => h) (fun v M1 hp => Qi_k (R := fun st => E γ k_Model_methodWords 6 5 [some (vr (some (11, this))), none] st M1 (Qx (14, 0) (Qv Q) X)) hp (fun r2 h => ?_))
  refine E_blk (lv' := [some (vr (some (11, this))), none]) (st' := [vi (46 : Int32), vr (some (11, this))]) (M1 := (sI M1 11 this 88 r2)) (pc' := 11) (tb_Model hγ) [.putfield 1132, .aload_n 0, .bipush 46] (by decide +kernel) rfl rfl trivial ?_
  refine E_callX (κ' := k_Model_need) (As := [vi (46 : Int32)]) (st := []) mv_Model_need (Or.inl (tbk_mem (j := 15) (k := 35) rfl)) rfl (by decide +kernel) (Nat.le_of_ble_eq_true rfl) (Nat.le_of_ble_eq_true rfl) rfl (by decide) rfl (lk_Model_need hγ this (46 : Int32) _ _ (sI M1 11 this 88 r2) h) (fun _ _ => Qv_r) (fun _ h => h) (fun v M3 hp => Qv_k (R := fun st => E γ k_Model_methodWords 6 14 [some (vr (some (11, this))), none] st M3 (Qx (14, 0) (Qv Q) X)) hp (fun h => ?_))
  refine E_blk (lv' := [some (vr (some (11, this))), none]) (st' := [vr (some (11, this)), vr (some (11, this))]) (M1 := M3) (pc' := 16) (tb_Model hγ) [.aload_n 0, .aload_n 0] (by decide +kernel) rfl rfl trivial ?_
  refine E_callX (κ' := k_Model_plainName) (As := []) (st := [vr (some (11, this))]) mv_Model_plainName (Or.inl (tbk_mem (j := 15) (k := 31) rfl)) rfl (by decide +kernel) (Nat.le_of_ble_eq_true rfl) (Nat.le_of_ble_eq_true rfl) rfl (by decide) rfl (lk_Model_plainName hγ this _ _ M3 h) (fun _ _ => Qi_r) (fun _ h => h) (fun v M4 hp => Qi_k (R := fun st => E γ k_Model_methodWords 6 19 [some (vr (some (11, this))), none] st M4 (Qx (14, 0) (Qv Q) X)) hp (fun r5 h => ?_))
  refine E_blk (lv' := [some (vr (some (11, this))), none]) (st' := [vi (40 : Int32), vr (some (11, this))]) (M1 := (sI M4 11 this 91 r5)) (pc' := 25) (tb_Model hγ) [.putfield 1147, .aload_n 0, .bipush 40] (by decide +kernel) rfl rfl trivial ?_
  refine E_callX (κ' := k_Model_need) (As := [vi (40 : Int32)]) (st := []) mv_Model_need (Or.inl (tbk_mem (j := 15) (k := 35) rfl)) rfl (by decide +kernel) (Nat.le_of_ble_eq_true rfl) (Nat.le_of_ble_eq_true rfl) rfl (by decide) rfl (lk_Model_need hγ this (40 : Int32) _ _ (sI M4 11 this 91 r5) h) (fun _ _ => Qv_r) (fun _ h => h) (fun v M6 hp => Qv_k (R := fun st => E γ k_Model_methodWords 6 28 [some (vr (some (11, this))), none] st M6 (Qx (14, 0) (Qv Q) X)) hp (fun h => ?_))
  obtain ⟨c7, h⟩ := h
  refine E_blk (lv' := [some (vr (some (11, this))), none]) (st' := [vi (41 : Int32), vi (mI (sI M6 11 this 56 (0 : Int32)) 411 this (mI (sI M6 11 this 56 (0 : Int32)) 11 this 43).toNatClampNeg)]) (M1 := (sI M6 11 this 56 (0 : Int32))) (pc' := 44) (tb_Model hγ) [.aload_n 0, .iconst 0, .putfield 557, .aload_n 0, .getfield 92, .aload_n 0, .getfield 104, .baload, .bipush 41] (by decide +kernel) rfl rfl ⟨c7, trivial⟩ ?_
  refine E_icmp_eq (off := 67) (tgt := 111) (by decide +kernel) (by decide) (fun b8 => ?_) (fun b8 => ?_)
  · rw [if_pos b8] at h
    refine E_mask [true, false] rfl ?_
    exact lk_Model_methodWords_j111 hγ this Q X  (sI M6 11 this 56 (0 : Int32)) h
  · rw [if_neg b8] at h
    refine E_blk (lv' := [some (vr (some (11, this))), some (vi (1 : Int32))]) (st' := []) (M1 := (sI M6 11 this 56 (0 : Int32))) (pc' := 49) (tb_Model hγ) [.iconst 1, .istore_n 1] (by decide +kernel) rfl rfl trivial ?_
    obtain ⟨n26, h⟩ := h
    refine E_mask [true, true] rfl ?_
    exact lk_Model_methodWords_L49 hγ this Q X n26 (1 : Int32) (sI M6 11 this 56 (0 : Int32)) h
def w_Model_takesLine_j117 (this : Nat) (Q : Int32 → Mem → Prop) (s0 : Nat) (M : Mem) : Prop :=
  Q (0 : Int32) (sI M 11 this 86 (mI M 11 this 50))
def w_Model_takesLine_j95 (this : Nat) (Q : Int32 → Mem → Prop) (k21 : Int32 → Int32 → Int32 → Int32 → Mem → Prop) (v1 : Int32) (v2 : Int32) (v3 : Int32) (v5 : Int32) (M : Mem) : Prop :=
  k21 v1 v2 v3 (v5 + (1 : Int32)) M
def w_Model_takesLine_j78 (this : Nat) (Q : Int32 → Mem → Prop) (k21 : Int32 → Int32 → Int32 → Int32 → Mem → Prop) (v1 : Int32) (v2 : Int32) (v5 : Int32) (M : Mem) : Prop :=
  if v1 = 0 then (w_Model_callWords this (fun M11 => w_Model_takesLine_j95 this Q k21 v1 v2 (1 : Int32) v5 M11) (fun M12 => w_Model_takesLine_j117 this Q 0 M12) M) else (w_Model_methodWords this (fun M13 => w_Model_takesLine_j95 this Q k21 v1 v2 (1 : Int32) v5 M13) (fun M14 => w_Model_takesLine_j117 this Q 0 M14) M)
def w_Model_takesLine_j55 (this : Nat) (Q : Int32 → Mem → Prop) (k21 : Int32 → Int32 → Int32 → Int32 → Mem → Prop) (v1 : Int32) (v2 : Int32) (v3 : Int32) (v4 : Int32) (v5 : Int32) (M : Mem) : Prop :=
  w_Model_cutLine this 1 v4 v5 (fun r7 M6 => if r7 = 0 then (w_Model_takesLine_j95 this Q k21 v1 v2 v3 v5 M6) else (if v3 = 0 then (w_Model_takesLine_j78 this Q k21 v1 v2 v5 M6) else (w_Model_wrong this (fun M15 => w_Model_takesLine_j78 this Q k21 v1 v2 v5 M15) (fun M16 => w_Model_takesLine_j117 this Q 0 M16) M6))) M
def w_Model_takesLine_L31 (this : Nat) (Q : Int32 → Mem → Prop) (k21 : Int32 → Int32 → Int32 → Int32 → Mem → Prop) : Nat → Int32 → Int32 → Int32 → Int32 → Int32 → Mem → Prop
  | 0, _, _, _, _, _, _ => False
  | n + 1, v1, v2, v3, v4, v5, M => if v2 ≤ v5 then (w_Model_takesLine_j55 this Q k21 v1 v2 v3 v4 v5 M) else (vp_in v5 (mL M 402 1) ∧ if (mI M 402 1 v5.toNatClampNeg) = (10 : Int32) then (w_Model_takesLine_j55 this Q k21 v1 v2 v3 v4 v5 M) else ((w_Model_takesLine_L31 this Q k21 n) v1 v2 v3 v4 (v5 + (1 : Int32)) M))
def w_Model_takesLine_L21 (this : Nat) (Q : Int32 → Mem → Prop) : Nat → Int32 → Int32 → Int32 → Int32 → Mem → Prop
  | 0, _, _, _, _, _ => False
  | n + 1, v1, v2, v3, v4, M => if v2 < v4 then (if v3 = 0 then (w_Model_refuse this (1 : Int32) v2 (fun M3 => Q (1 : Int32) M3) (fun M4 => w_Model_takesLine_j117 this Q 0 M4) M) else (Q (1 : Int32) M)) else (∃ n19 : Nat, w_Model_takesLine_L31 this Q (w_Model_takesLine_L21 this Q n) n19 v1 v2 v3 v4 v4 M)
def w_Model_takesLine (this : Nat) (a1 : Int32) (Q : Int32 → Mem → Prop) (M : Mem) : Prop :=
  ∃ n20 : Nat, w_Model_takesLine_L21 this Q n20 a1 (mI M 11 this 85) (0 : Int32) (0 : Int32) (sI (sI M 11 this 85 (0 : Int32)) 11 this 86 (-2 : Int32))
set_option maxRecDepth 4096 in
theorem lk_Model_takesLine_j117 {γ : Gm} (hγ : Gk γ) (this : Nat) (Q : Int32 → Mem → Prop) (s0 : Nat) (M : Mem) (h : w_Model_takesLine_j117 this Q s0 M) : E γ k_Model_takesLine 7 117 [some (vr (some (11, this))), none, none, none, none, none] [vr (some (14, s0))] M (Qi Q) := by
  unfold w_Model_takesLine_j117 at h
  refine E_blk (lv' := [some (vr (some (11, this))), none, none, none, some (vr (some (14, s0))), none]) (st' := [vi (0 : Int32)]) (M1 := (sI M 11 this 86 (mI M 11 this 50))) (pc' := 128) (tb_Model hγ) [.astore 4, .aload_n 0, .aload_n 0, .getfield 529, .putfield 317, .iconst 0] (by decide +kernel) rfl rfl trivial ?_
  exact E_zret rfl (Or.inl rfl) (by decide +kernel) h
set_option maxRecDepth 4096 in
theorem lk_Model_takesLine_j95 {γ : Gm} (hγ : Gk γ) (this : Nat) (Q : Int32 → Mem → Prop) (k21 : Int32 → Int32 → Int32 → Int32 → Mem → Prop) (hk21 : ∀ (v1 : Int32) (v2 : Int32) (v3 : Int32) (v4 : Int32) (M : Mem), k21 v1 v2 v3 v4 M → E γ k_Model_takesLine 7 21 [some (vr (some (11, this))), some (vi v1), some (vi v2), some (vi v3), some (vi v4), none] [] M (Qi Q)) (v1 : Int32) (v2 : Int32) (v3 : Int32) (v5 : Int32) (M : Mem) (h : w_Model_takesLine_j95 this Q k21 v1 v2 v3 v5 M) : E γ k_Model_takesLine 7 95 [some (vr (some (11, this))), some (vi v1), some (vi v2), some (vi v3), none, some (vi v5)] [] M (Qi Q) := by
  unfold w_Model_takesLine_j95 at h
  refine E_blk (lv' := [some (vr (some (11, this))), some (vi v1), some (vi v2), some (vi v3), some (vi (v5 + (1 : Int32))), some (vi v5)]) (st' := []) (M1 := M) (pc' := 101) (tb_Model hγ) [.iload 5, .iconst 1, .iadd, .istore 4] (by decide +kernel) rfl rfl trivial ?_
  refine E_goto (off := -80) (tgt := 21) (by decide +kernel) (by decide) ?_
  refine E_mask [true, true, true, true, true, false] rfl ?_
  exact hk21 v1 v2 v3 (v5 + (1 : Int32)) M h
set_option maxRecDepth 4096 in
theorem lk_Model_takesLine_j78 {γ : Gm} (hγ : Gk γ) (this : Nat) (Q : Int32 → Mem → Prop) (k21 : Int32 → Int32 → Int32 → Int32 → Mem → Prop) (hk21 : ∀ (v1 : Int32) (v2 : Int32) (v3 : Int32) (v4 : Int32) (M : Mem), k21 v1 v2 v3 v4 M → E γ k_Model_takesLine 7 21 [some (vr (some (11, this))), some (vi v1), some (vi v2), some (vi v3), some (vi v4), none] [] M (Qi Q)) (v1 : Int32) (v2 : Int32) (v5 : Int32) (M : Mem) (h : w_Model_takesLine_j78 this Q k21 v1 v2 v5 M) : E γ k_Model_takesLine 7 78 [some (vr (some (11, this))), some (vi v1), some (vi v2), none, none, some (vi v5)] [] M (Qi Q) := by
  unfold w_Model_takesLine_j78 at h
  refine E_blk (lv' := [some (vr (some (11, this))), some (vi v1), some (vi v2), some (vi (1 : Int32)), none, some (vi v5)]) (st' := [vi v1]) (M1 := M) (pc' := 81) (tb_Model hγ) [.iconst 1, .istore_n 3, .iload_n 1] (by decide +kernel) rfl rfl trivial ?_
  refine E_if_ne (off := 10) (tgt := 91) (by decide +kernel) (by decide) (fun b10 => ?_) (fun b10 => ?_)
  · rw [if_pos b10] at h
    refine E_blk (lv' := [some (vr (some (11, this))), some (vi v1), some (vi v2), some (vi (1 : Int32)), none, some (vi v5)]) (st' := [vr (some (11, this))]) (M1 := M) (pc' := 85) (tb_Model hγ) [.aload_n 0] (by decide +kernel) rfl rfl trivial ?_
    refine E_callC (q := (14, 0)) (hp := 117) (ct := 267) (κ' := k_Model_callWords) (As := []) (st := []) mv_Model_callWords (Or.inl (tbk_mem (j := 16) (k := 30) rfl)) rfl (by decide +kernel) (Nat.le_of_ble_eq_true rfl) (Nat.le_of_ble_eq_true rfl) rfl (by decide) rfl (Or.inr ⟨by decide, (show (14 : Nat) < 20 by decide), _, rfl, (tbk_mem (j := 11) (k := 103) rfl)⟩) (lk_Model_callWords hγ this _ _ M h) (fun _ _ => Qv_r) (fun M12 h => ?_) (fun v M11 hp => Qv_k (R := fun st => E γ k_Model_takesLine 7 88 [some (vr (some (11, this))), some (vi v1), some (vi v2), some (vi (1 : Int32)), none, some (vi v5)] st M11 (Qi Q)) hp (fun h => ?_))
    · refine E_mask [true, false, false, false, false, false] rfl ?_
      exact lk_Model_takesLine_j117 hγ this Q 0 M12 h
    · refine E_goto (off := 7) (tgt := 95) (by decide +kernel) (by decide) ?_
      refine E_mask [true, true, true, true, false, true] rfl ?_
      exact lk_Model_takesLine_j95 hγ this Q k21 hk21 v1 v2 (1 : Int32) v5 M11 h
  · rw [if_neg b10] at h
    refine E_blk (lv' := [some (vr (some (11, this))), some (vi v1), some (vi v2), some (vi (1 : Int32)), none, some (vi v5)]) (st' := [vr (some (11, this))]) (M1 := M) (pc' := 92) (tb_Model hγ) [.aload_n 0] (by decide +kernel) rfl rfl trivial ?_
    refine E_callC (q := (14, 0)) (hp := 117) (ct := 267) (κ' := k_Model_methodWords) (As := []) (st := []) mv_Model_methodWords (Or.inl (tbk_mem (j := 16) (k := 34) rfl)) rfl (by decide +kernel) (Nat.le_of_ble_eq_true rfl) (Nat.le_of_ble_eq_true rfl) rfl (by decide) rfl (Or.inr ⟨by decide, (show (14 : Nat) < 20 by decide), _, rfl, (tbk_mem (j := 11) (k := 103) rfl)⟩) (lk_Model_methodWords hγ this _ _ M h) (fun _ _ => Qv_r) (fun M14 h => ?_) (fun v M13 hp => Qv_k (R := fun st => E γ k_Model_takesLine 7 95 [some (vr (some (11, this))), some (vi v1), some (vi v2), some (vi (1 : Int32)), none, some (vi v5)] st M13 (Qi Q)) hp (fun h => ?_))
    · refine E_mask [true, false, false, false, false, false] rfl ?_
      exact lk_Model_takesLine_j117 hγ this Q 0 M14 h
    · refine E_mask [true, true, true, true, false, true] rfl ?_
      exact lk_Model_takesLine_j95 hγ this Q k21 hk21 v1 v2 (1 : Int32) v5 M13 h
set_option maxRecDepth 4096 in
theorem lk_Model_takesLine_j55 {γ : Gm} (hγ : Gk γ) (this : Nat) (Q : Int32 → Mem → Prop) (k21 : Int32 → Int32 → Int32 → Int32 → Mem → Prop) (hk21 : ∀ (v1 : Int32) (v2 : Int32) (v3 : Int32) (v4 : Int32) (M : Mem), k21 v1 v2 v3 v4 M → E γ k_Model_takesLine 7 21 [some (vr (some (11, this))), some (vi v1), some (vi v2), some (vi v3), some (vi v4), none] [] M (Qi Q)) (v1 : Int32) (v2 : Int32) (v3 : Int32) (v4 : Int32) (v5 : Int32) (M : Mem) (h : w_Model_takesLine_j55 this Q k21 v1 v2 v3 v4 v5 M) : E γ k_Model_takesLine 7 55 [some (vr (some (11, this))), some (vi v1), some (vi v2), some (vi v3), some (vi v4), some (vi v5)] [] M (Qi Q) := by
  unfold w_Model_takesLine_j55 at h
  refine E_blk (lv' := [some (vr (some (11, this))), some (vi v1), some (vi v2), some (vi v3), some (vi v4), some (vi v5)]) (st' := [vi v5, vi v4, vr (some (402, 1)), vr (some (11, this))]) (M1 := M) (pc' := 64) (tb_Model hγ) [.aload_n 0, .aload_n 0, .getfield 314, .iload 4, .iload 5] (by decide +kernel) rfl rfl trivial ?_
  refine E_callV (κ' := k_Model_cutLine) (As := [vr (some (402, 1)), vi v4, vi v5]) (st := []) mv_Model_cutLine (Or.inl (tbk_mem (j := 14) (k := 202) rfl)) rfl (by decide +kernel) (Nat.le_of_ble_eq_true rfl) (Nat.le_of_ble_eq_true rfl) rfl (by decide) (lk_Model_cutLine hγ this 1 v4 v5 _ M h) (fun _ _ => Qi_r) (fun v M6 hp => Qi_k (R := fun st => E γ k_Model_takesLine 7 67 [some (vr (some (11, this))), some (vi v1), some (vi v2), some (vi v3), some (vi v4), some (vi v5)] st M6 (Qi Q)) hp (fun r7 h => ?_))
  refine E_if_eq (off := 28) (tgt := 95) (by decide +kernel) (by decide) (fun b8 => ?_) (fun b8 => ?_)
  · rw [if_pos b8] at h
    refine E_mask [true, true, true, true, false, true] rfl ?_
    exact lk_Model_takesLine_j95 hγ this Q k21 hk21 v1 v2 v3 v5 M6 h
  · rw [if_neg b8] at h
    refine E_blk (lv' := [some (vr (some (11, this))), some (vi v1), some (vi v2), some (vi v3), some (vi v4), some (vi v5)]) (st' := [vi v3]) (M1 := M6) (pc' := 71) (tb_Model hγ) [.iload_n 3] (by decide +kernel) rfl rfl trivial ?_
    refine E_if_eq (off := 7) (tgt := 78) (by decide +kernel) (by decide) (fun b9 => ?_) (fun b9 => ?_)
    · rw [if_pos b9] at h
      refine E_mask [true, true, true, false, false, true] rfl ?_
      exact lk_Model_takesLine_j78 hγ this Q k21 hk21 v1 v2 v5 M6 h
    · rw [if_neg b9] at h
      refine E_blk (lv' := [some (vr (some (11, this))), some (vi v1), some (vi v2), some (vi v3), some (vi v4), some (vi v5)]) (st' := [vr (some (11, this))]) (M1 := M6) (pc' := 75) (tb_Model hγ) [.aload_n 0] (by decide +kernel) rfl rfl trivial ?_
      refine E_callC (q := (14, 0)) (hp := 117) (ct := 267) (κ' := k_Model_wrong) (As := []) (st := []) mv_Model_wrong (Or.inl (tbk_mem (j := 15) (k := 19) rfl)) rfl (by decide +kernel) (Nat.le_of_ble_eq_true rfl) (Nat.le_of_ble_eq_true rfl) rfl (by decide) rfl (Or.inr ⟨by decide, (show (14 : Nat) < 20 by decide), _, rfl, (tbk_mem (j := 11) (k := 103) rfl)⟩) (lk_Model_wrong hγ this _ _ M6 h) (fun _ _ => Qv_r) (fun M16 h => ?_) (fun v M15 hp => Qv_k (R := fun st => E γ k_Model_takesLine 7 78 [some (vr (some (11, this))), some (vi v1), some (vi v2), some (vi v3), some (vi v4), some (vi v5)] st M15 (Qi Q)) hp (fun h => ?_))
      · refine E_mask [true, false, false, false, false, false] rfl ?_
        exact lk_Model_takesLine_j117 hγ this Q 0 M16 h
      · refine E_mask [true, true, true, false, false, true] rfl ?_
        exact lk_Model_takesLine_j78 hγ this Q k21 hk21 v1 v2 v5 M15 h
set_option maxRecDepth 4096 in
theorem lk_Model_takesLine_L31 {γ : Gm} (hγ : Gk γ) (this : Nat) (Q : Int32 → Mem → Prop) (k21 : Int32 → Int32 → Int32 → Int32 → Mem → Prop) (hk21 : ∀ (v1 : Int32) (v2 : Int32) (v3 : Int32) (v4 : Int32) (M : Mem), k21 v1 v2 v3 v4 M → E γ k_Model_takesLine 7 21 [some (vr (some (11, this))), some (vi v1), some (vi v2), some (vi v3), some (vi v4), none] [] M (Qi Q)) : ∀ (n : Nat) (v1 : Int32) (v2 : Int32) (v3 : Int32) (v4 : Int32) (v5 : Int32) (M : Mem), w_Model_takesLine_L31 this Q k21 n v1 v2 v3 v4 v5 M → E γ k_Model_takesLine 7 31 [some (vr (some (11, this))), some (vi v1), some (vi v2), some (vi v3), some (vi v4), some (vi v5)] [] M (Qi Q) := by
  intro n
  induction n with
  | zero => intro v1 v2 v3 v4 v5 M h; exact h.elim
  | succ n ih =>
    intro v1 v2 v3 v4 v5 M h
    unfold w_Model_takesLine_L31 at h
    refine E_blk (lv' := [some (vr (some (11, this))), some (vi v1), some (vi v2), some (vi v3), some (vi v4), some (vi v5)]) (st' := [vi v2, vi v5]) (M1 := M) (pc' := 34) (tb_Model hγ) [.iload 5, .iload_n 2] (by decide +kernel) rfl rfl trivial ?_
    refine E_icmp_ge (off := 21) (tgt := 55) (by decide +kernel) (by decide) (fun b5 => ?_) (fun b5 => ?_)
    · rw [if_pos b5] at h
      refine E_mask [true, true, true, true, true, true] rfl ?_
      exact lk_Model_takesLine_j55 hγ this Q k21 hk21 v1 v2 v3 v4 v5 M h
    · rw [if_neg b5] at h
      obtain ⟨c17, h⟩ := h
      refine E_blk (lv' := [some (vr (some (11, this))), some (vi v1), some (vi v2), some (vi v3), some (vi v4), some (vi v5)]) (st' := [vi (10 : Int32), vi (mI M 402 1 v5.toNatClampNeg)]) (M1 := M) (pc' := 46) (tb_Model hγ) [.aload_n 0, .getfield 314, .iload 5, .baload, .bipush 10] (by decide +kernel) rfl rfl ⟨c17, trivial⟩ ?_
      refine E_icmp_eq (off := 9) (tgt := 55) (by decide +kernel) (by decide) (fun b18 => ?_) (fun b18 => ?_)
      · rw [if_pos b18] at h
        refine E_mask [true, true, true, true, true, true] rfl ?_
        exact lk_Model_takesLine_j55 hγ this Q k21 hk21 v1 v2 v3 v4 v5 M h
      · rw [if_neg b18] at h
        refine E_blk (lv' := [some (vr (some (11, this))), some (vi v1), some (vi v2), some (vi v3), some (vi v4), some (vi (v5 + (1 : Int32)))]) (st' := []) (M1 := M) (pc' := 52) (tb_Model hγ) [.iinc 5 1] (by decide +kernel) rfl rfl trivial ?_
        refine E_goto (off := -21) (tgt := 31) (by decide +kernel) (by decide) ?_
        refine E_mask [true, true, true, true, true, true] rfl ?_
        exact ih v1 v2 v3 v4 (v5 + (1 : Int32)) M h
set_option maxRecDepth 4096 in
theorem lk_Model_takesLine_L21 {γ : Gm} (hγ : Gk γ) (this : Nat) (Q : Int32 → Mem → Prop) : ∀ (n : Nat) (v1 : Int32) (v2 : Int32) (v3 : Int32) (v4 : Int32) (M : Mem), w_Model_takesLine_L21 this Q n v1 v2 v3 v4 M → E γ k_Model_takesLine 7 21 [some (vr (some (11, this))), some (vi v1), some (vi v2), some (vi v3), some (vi v4), none] [] M (Qi Q) := by
  intro n
  induction n with
  | zero => intro v1 v2 v3 v4 M h; exact h.elim
  | succ n ih =>
    intro v1 v2 v3 v4 M h
    unfold w_Model_takesLine_L21 at h
    refine E_blk (lv' := [some (vr (some (11, this))), some (vi v1), some (vi v2), some (vi v3), some (vi v4), none]) (st' := [vi v2, vi v4]) (M1 := M) (pc' := 24) (tb_Model hγ) [.iload 4, .iload_n 2] (by decide +kernel) rfl rfl trivial ?_
    refine E_icmp_gt (off := 80) (tgt := 104) (by decide +kernel) (by decide) (fun b1 => ?_) (fun b1 => ?_)
    · rw [if_pos b1] at h
      refine E_blk (lv' := [some (vr (some (11, this))), some (vi v1), some (vi v2), some (vi v3), some (vi v4), none]) (st' := [vi v3]) (M1 := M) (pc' := 105) (tb_Model hγ) [.iload_n 3] (by decide +kernel) rfl rfl trivial ?_
      refine E_if_ne (off := 9) (tgt := 114) (by decide +kernel) (by decide) (fun b2 => ?_) (fun b2 => ?_)
      · rw [if_pos b2] at h
        refine E_blk (lv' := [some (vr (some (11, this))), some (vi v1), some (vi v2), some (vi v3), some (vi v4), none]) (st' := [vi v2, vi (1 : Int32), vr (some (11, this))]) (M1 := M) (pc' := 111) (tb_Model hγ) [.aload_n 0, .iconst 1, .iload_n 2] (by decide +kernel) rfl rfl trivial ?_
        refine E_callC (q := (14, 0)) (hp := 117) (ct := 267) (κ' := k_Model_refuse) (As := [vi (1 : Int32), vi v2]) (st := []) mv_Model_refuse (Or.inl (tbk_mem (j := 15) (k := 3) rfl)) rfl (by decide +kernel) (Nat.le_of_ble_eq_true rfl) (Nat.le_of_ble_eq_true rfl) rfl (by decide) rfl (Or.inr ⟨by decide, (show (14 : Nat) < 20 by decide), _, rfl, (tbk_mem (j := 11) (k := 103) rfl)⟩) (lk_Model_refuse hγ this (1 : Int32) v2 _ _ M h) (fun _ _ => Qv_r) (fun M4 h => ?_) (fun v M3 hp => Qv_k (R := fun st => E γ k_Model_takesLine 7 114 [some (vr (some (11, this))), some (vi v1), some (vi v2), some (vi v3), some (vi v4), none] st M3 (Qi Q)) hp (fun h => ?_))
        · refine E_mask [true, false, false, false, false, false] rfl ?_
          exact lk_Model_takesLine_j117 hγ this Q 0 M4 h
        · refine E_goto (off := 15) (tgt := 129) (by decide +kernel) (by decide) ?_
          refine E_blk (lv' := [some (vr (some (11, this))), some (vi v1), some (vi v2), some (vi v3), some (vi v4), none]) (st' := [vi (1 : Int32)]) (M1 := M3) (pc' := 130) (tb_Model hγ) [.iconst 1] (by decide +kernel) rfl rfl trivial ?_
          exact E_zret rfl (Or.inr rfl) (by decide +kernel) h
      · rw [if_neg b2] at h
        refine E_goto (off := 15) (tgt := 129) (by decide +kernel) (by decide) ?_
        refine E_blk (lv' := [some (vr (some (11, this))), some (vi v1), some (vi v2), some (vi v3), some (vi v4), none]) (st' := [vi (1 : Int32)]) (M1 := M) (pc' := 130) (tb_Model hγ) [.iconst 1] (by decide +kernel) rfl rfl trivial ?_
        exact E_zret rfl (Or.inr rfl) (by decide +kernel) h
    · rw [if_neg b1] at h
      refine E_blk (lv' := [some (vr (some (11, this))), some (vi v1), some (vi v2), some (vi v3), some (vi v4), some (vi v4)]) (st' := []) (M1 := M) (pc' := 31) (tb_Model hγ) [.iload 4, .istore 5] (by decide +kernel) rfl rfl trivial ?_
      obtain ⟨n19, h⟩ := h
      refine E_mask [true, true, true, true, true, true] rfl ?_
      exact lk_Model_takesLine_L31 hγ this Q (w_Model_takesLine_L21 this Q n) ih n19 v1 v2 v3 v4 v4 M h
set_option maxRecDepth 4096 in
theorem lk_Model_takesLine {γ : Gm} (hγ : Gk γ) (this : Nat) (a1 : Int32) (Q : Int32 → Mem → Prop) (M : Mem) (h : w_Model_takesLine this a1 Q M) : E γ k_Model_takesLine 7 0 [some (vr (some (11, this))), some (vi a1), none, none, none, none] [] M (Qi Q) := by
  unfold w_Model_takesLine at h
  refine E_blk (lv' := [some (vr (some (11, this))), some (vi a1), some (vi (mI M 11 this 85)), some (vi (0 : Int32)), some (vi (0 : Int32)), none]) (st' := []) (M1 := (sI (sI M 11 this 85 (0 : Int32)) 11 this 86 (-2 : Int32))) (pc' := 21) (tb_Model hγ) [.aload_n 0, .getfield 1112, .istore_n 2, .aload_n 0, .iconst 0, .putfield 1112, .aload_n 0, .bipush (.negSucc 1), .putfield 317, .iconst 0, .istore_n 3, .iconst 0, .istore 4] (by decide +kernel) rfl rfl trivial ?_
  obtain ⟨n20, h⟩ := h
  refine E_mask [true, true, true, true, true, false] rfl ?_
  exact lk_Model_takesLine_L21 hγ this Q n20 a1 (mI M 11 this 85) (0 : Int32) (0 : Int32) (sI (sI M 11 this 85 (0 : Int32)) 11 this 86 (-2 : Int32)) h
def w_Model_beginRun_L46 (this : Nat) (Q : Mem → Prop) : Nat → Nat → Int32 → Mem → Prop
  | 0, _, _, _ => False
  | n + 1, v1, v2, M => ∃ i5, (mR M 11 this 31) = some (300, i5) ∧ vp_in (mI M 11 this 90) (mL M 300 i5) ∧ if (mI M 300 i5 (mI M 11 this 90).toNatClampNeg) ≤ v2 then (∃ M8, M8 = (sI (sI (sI M 13 v1 10 (0 : Int32)) 13 v1 11 (0 : Int32)) 13 v1 12 (-2 : Int32)) ∧ ∃ M9, M9 = (sI (sI (sI M8 13 v1 13 (0 : Int32)) 13 v1 16 (0 : Int32)) 13 v1 22 (0 : Int32)) ∧ Q M9) else (vp_in v2 (mL M 113 this) ∧ vp_in v2 (mL M 170 v1) ∧ (w_Model_beginRun_L46 this Q n) v1 (v2 + (1 : Int32)) (sI M 170 v1 v2.toNatClampNeg (mI M 113 this v2.toNatClampNeg)))
def w_Model_beginRun (this : Nat) (a1 : Nat) (Q : Mem → Prop) (M : Mem) : Prop :=
  ((0 : Int32) = 0 ∨ (0 : Int32) = 1) ∧ ∃ M2, M2 = (sI (sI (sI M 13 a1 0 (1 : Int32)) 13 a1 1 (0 : Int32)) 13 a1 3 (0 : Int32)) ∧ ∃ M3, M3 = (sI (sI M2 13 a1 4 (0 : Int32)) 13 a1 5 (mI (sI M2 13 a1 4 (0 : Int32)) 11 this 88)) ∧ ∃ M4, M4 = (sI (sI M3 13 a1 6 (mI M3 11 this 89)) 13 a1 7 (mI (sI M3 13 a1 6 (mI M3 11 this 89)) 11 this 90)) ∧ ∃ n12 : Nat, w_Model_beginRun_L46 this Q n12 a1 (0 : Int32) M4
set_option maxRecDepth 4096 in
theorem lk_Model_beginRun_L46 {γ : Gm} (hγ : Gk γ) (this : Nat) (Q : Mem → Prop) : ∀ (n : Nat) (v1 : Nat) (v2 : Int32) (M : Mem), w_Model_beginRun_L46 this Q n v1 v2 M → E γ k_Model_beginRun 0 46 [some (vr (some (11, this))), some (vr (some (13, v1))), some (vi v2)] [] M (Qv Q) := by
  intro n
  induction n with
  | zero => intro v1 v2 M h; exact h.elim
  | succ n ih =>
    intro v1 v2 M h
    unfold w_Model_beginRun_L46 at h
    refine E_blk (lv' := [some (vr (some (11, this))), some (vr (some (13, v1))), some (vi v2)]) (st' := [vr (mR M 11 this 31), vi v2]) (M1 := M) (pc' := 51) (tb_Model hγ) [.iload_n 2, .aload_n 0, .getfield 80] (by decide +kernel) rfl rfl trivial ?_
    obtain ⟨i5, ei5, h⟩ := h
    rw [ei5]
    obtain ⟨c6, h⟩ := h
    refine E_blk (lv' := [some (vr (some (11, this))), some (vr (some (13, v1))), some (vi v2)]) (st' := [vi (mI M 300 i5 (mI M 11 this 90).toNatClampNeg), vi v2]) (M1 := M) (pc' := 56) (tb_Model hγ) [.aload_n 0, .getfield 1138, .iaload] (by decide +kernel) rfl rfl ⟨c6, trivial⟩ ?_
    refine E_icmp_ge (off := 21) (tgt := 77) (by decide +kernel) (by decide) (fun b7 => ?_) (fun b7 => ?_)
    · rw [if_pos b7] at h
      refine E_blk (lv' := [some (vr (some (11, this))), some (vr (some (13, v1))), some (vi v2)]) (st' := []) (M1 := (sI (sI (sI M 13 v1 10 (0 : Int32)) 13 v1 11 (0 : Int32)) 13 v1 12 (-2 : Int32))) (pc' := 93) (tb_Model hγ) [.aload_n 1, .iconst 0, .putfield 974, .aload_n 1, .iconst 0, .putfield 977, .aload_n 1, .bipush (.negSucc 1), .putfield 980] (by decide +kernel) rfl rfl trivial ?_
      obtain ⟨M8, eM8, h⟩ := h
      rw [← eM8]
      refine E_blk (lv' := [some (vr (some (11, this))), some (vr (some (13, v1))), some (vi v2)]) (st' := []) (M1 := (sI (sI (sI M8 13 v1 13 (0 : Int32)) 13 v1 16 (0 : Int32)) 13 v1 22 (0 : Int32))) (pc' := 108) (tb_Model hγ) [.aload_n 1, .iconst 0, .putfield 983, .aload_n 1, .iconst 0, .putfield 945, .aload_n 1, .iconst 0, .putfield 924] (by decide +kernel) rfl rfl trivial ?_
      obtain ⟨M9, eM9, h⟩ := h
      rw [← eM9]
      exact E_vret rfl (by decide +kernel) h
    · rw [if_neg b7] at h
      obtain ⟨c10, c11, h⟩ := h
      refine E_blk (lv' := [some (vr (some (11, this))), some (vr (some (13, v1))), some (vi (v2 + (1 : Int32)))]) (st' := []) (M1 := (sI M 170 v1 v2.toNatClampNeg (mI M 113 this v2.toNatClampNeg))) (pc' := 74) (tb_Model hγ) [.aload_n 1, .getfield 1023, .iload_n 2, .aload_n 0, .getfield 320, .iload_n 2, .iaload, .iastore, .iinc 2 1] (by decide +kernel) rfl rfl ⟨c10, c11, trivial⟩ ?_
      refine E_goto (off := -28) (tgt := 46) (by decide +kernel) (by decide) ?_
      refine E_mask [true, true, true] rfl ?_
      exact ih v1 (v2 + (1 : Int32)) (sI M 170 v1 v2.toNatClampNeg (mI M 113 this v2.toNatClampNeg)) h
set_option maxRecDepth 4096 in
theorem lk_Model_beginRun {γ : Gm} (hγ : Gk γ) (this : Nat) (a1 : Nat) (Q : Mem → Prop) (M : Mem) (h : w_Model_beginRun this a1 Q M) : E γ k_Model_beginRun 0 0 [some (vr (some (11, this))), some (vr (some (13, a1))), none] [] M (Qv Q) := by
  unfold w_Model_beginRun at h
  obtain ⟨c1, h⟩ := h
  refine E_blk (lv' := [some (vr (some (11, this))), some (vr (some (13, a1))), none]) (st' := []) (M1 := (sI (sI (sI M 13 a1 0 (1 : Int32)) 13 a1 1 (0 : Int32)) 13 a1 3 (0 : Int32))) (pc' := 15) (tb_Model hγ) [.aload_n 1, .iconst 1, .putfield 486, .aload_n 1, .iconst 0, .putfield 489, .aload_n 1, .iconst 0, .putfield 921] (by decide +kernel) rfl rfl ⟨c1, trivial⟩ ?_
  obtain ⟨M2, eM2, h⟩ := h
  rw [← eM2]
  refine E_blk (lv' := [some (vr (some (11, this))), some (vr (some (13, a1))), none]) (st' := []) (M1 := (sI (sI M2 13 a1 4 (0 : Int32)) 13 a1 5 (mI (sI M2 13 a1 4 (0 : Int32)) 11 this 88))) (pc' := 28) (tb_Model hγ) [.aload_n 1, .iconst 0, .putfield 1007, .aload_n 1, .aload_n 0, .getfield 1132, .putfield 1010] (by decide +kernel) rfl rfl trivial ?_
  obtain ⟨M3, eM3, h⟩ := h
  rw [← eM3]
  refine E_blk (lv' := [some (vr (some (11, this))), some (vr (some (13, a1))), none]) (st' := []) (M1 := (sI (sI M3 13 a1 6 (mI M3 11 this 89)) 13 a1 7 (mI (sI M3 13 a1 6 (mI M3 11 this 89)) 11 this 90))) (pc' := 44) (tb_Model hγ) [.aload_n 1, .aload_n 0, .getfield 1135, .putfield 1013, .aload_n 1, .aload_n 0, .getfield 1138, .putfield 1016] (by decide +kernel) rfl rfl trivial ?_
  obtain ⟨M4, eM4, h⟩ := h
  rw [← eM4]
  refine E_blk (lv' := [some (vr (some (11, this))), some (vr (some (13, a1))), some (vi (0 : Int32))]) (st' := []) (M1 := M4) (pc' := 46) (tb_Model hγ) [.iconst 0, .istore_n 2] (by decide +kernel) rfl rfl trivial ?_
  obtain ⟨n12, h⟩ := h
  refine E_mask [true, true, true] rfl ?_
  exact lk_Model_beginRun_L46 hγ this Q n12 a1 (0 : Int32) M4 h
def w_Model_isThread (a1 : Int32) (Q : Int32 → Mem → Prop) (M : Mem) : Prop :=
  if a1 < 0 then (Q (0 : Int32) M) else (if (3 : Int32) ≤ a1 then (Q (0 : Int32) M) else (Q (1 : Int32) M))
set_option maxRecDepth 4096 in
theorem lk_Model_isThread {γ : Gm} (hγ : Gk γ) (a1 : Int32) (Q : Int32 → Mem → Prop) (M : Mem) (h : w_Model_isThread a1 Q M) : E γ k_Model_isThread 0 0 [some (vi a1)] [] M (Qi Q) := by
  unfold w_Model_isThread at h
  refine E_blk (lv' := [some (vi a1)]) (st' := [vi a1]) (M1 := M) (pc' := 1) (tb_Model hγ) [.iload_n 0] (by decide +kernel) rfl rfl trivial ?_
  refine E_if_lt (off := 12) (tgt := 13) (by decide +kernel) (by decide) (fun b1 => ?_) (fun b1 => ?_)
  · rw [if_pos b1] at h
    refine E_blk (lv' := [some (vi a1)]) (st' := [vi (0 : Int32)]) (M1 := M) (pc' := 14) (tb_Model hγ) [.iconst 0] (by decide +kernel) rfl rfl trivial ?_
    exact E_zret rfl (Or.inl rfl) (by decide +kernel) h
  · rw [if_neg b1] at h
    refine E_blk (lv' := [some (vi a1)]) (st' := [vi (3 : Int32), vi a1]) (M1 := M) (pc' := 6) (tb_Model hγ) [.iload_n 0, .iconst 3] (by decide +kernel) rfl rfl trivial ?_
    refine E_icmp_ge (off := 7) (tgt := 13) (by decide +kernel) (by decide) (fun b2 => ?_) (fun b2 => ?_)
    · rw [if_pos b2] at h
      refine E_blk (lv' := [some (vi a1)]) (st' := [vi (0 : Int32)]) (M1 := M) (pc' := 14) (tb_Model hγ) [.iconst 0] (by decide +kernel) rfl rfl trivial ?_
      exact E_zret rfl (Or.inl rfl) (by decide +kernel) h
    · rw [if_neg b2] at h
      refine E_blk (lv' := [some (vi a1)]) (st' := [vi (1 : Int32)]) (M1 := M) (pc' := 10) (tb_Model hγ) [.iconst 1] (by decide +kernel) rfl rfl trivial ?_
      refine E_goto (off := 4) (tgt := 14) (by decide +kernel) (by decide) ?_
      exact E_zret rfl (Or.inr rfl) (by decide +kernel) h
def w_Model_call (this : Nat) (a1 : Int32) (a2 : Int32) (Q : Int32 → Mem → Prop) (M : Mem) : Prop :=
  w_Model_isWorld this a1 (fun r2 M1 => if r2 = 0 then (Q (-1 : Int32) M1) else (w_Model_isThread a2 (fun r5 M4 => if r5 = 0 then (Q (-1 : Int32) M4) else (vp_in a1 (mL M4 703 0) ∧ ∃ i8, (mR M4 703 0 a1.toNatClampNeg) = some (12, i8) ∧ vp_in a2 (mL M4 704 i8) ∧ ∃ i10, (mR M4 704 i8 a2.toNatClampNeg) = some (13, i10) ∧ if (mI M4 13 i10 0) = (1 : Int32) then (Q (-2 : Int32) M4) else (w_Model_takesLine this (0 : Int32) (fun r13 M12 => if r13 = 0 then (vp_in a1 (mL M12 703 0) ∧ ∃ i16, (mR M12 703 0 a1.toNatClampNeg) = some (12, i16) ∧ vp_in a2 (mL M12 704 i16) ∧ ∃ i18, (mR M12 704 i16 a2.toNatClampNeg) = some (13, i18) ∧ Q (-11 : Int32) (sI M12 13 i18 0 (-2 : Int32))) else (vp_in a1 (mL M12 703 0) ∧ ∃ i20, (mR M12 703 0 a1.toNatClampNeg) = some (12, i20) ∧ vp_in a2 (mL M12 704 i20) ∧ ∃ i22, (mR M12 704 i20 a2.toNatClampNeg) = some (13, i22) ∧ w_Model_beginRun this i22 (fun M23 => Q (0 : Int32) M23) M12)) M4))) M1)) M
set_option maxRecDepth 4096 in
theorem lk_Model_call {γ : Gm} (hγ : Gk γ) (this : Nat) (a1 : Int32) (a2 : Int32) (Q : Int32 → Mem → Prop) (M : Mem) (h : w_Model_call this a1 a2 Q M) : E γ k_Model_call 8 0 [some (vr (some (11, this))), some (vi a1), some (vi a2)] [] M (Qi Q) := by
  unfold w_Model_call at h
  refine E_blk (lv' := [some (vr (some (11, this))), some (vi a1), some (vi a2)]) (st' := [vi a1, vr (some (11, this))]) (M1 := M) (pc' := 2) (tb_Model hγ) [.aload_n 0, .iload_n 1] (by decide +kernel) rfl rfl trivial ?_
  refine E_callV (κ' := k_Model_isWorld) (As := [vi a1]) (st := []) mv_Model_isWorld (Or.inl (tbk_mem (j := 14) (k := 190) rfl)) rfl (by decide +kernel) (Nat.le_of_ble_eq_true rfl) (Nat.le_of_ble_eq_true rfl) rfl (by decide) (lk_Model_isWorld hγ this a1 _ M h) (fun _ _ => Qi_r) (fun v M1 hp => Qi_k (R := fun st => E γ k_Model_call 8 5 [some (vr (some (11, this))), some (vi a1), some (vi a2)] st M1 (Qi Q)) hp (fun r2 h => ?_))
  refine E_if_eq (off := 10) (tgt := 15) (by decide +kernel) (by decide) (fun b3 => ?_) (fun b3 => ?_)
  · rw [if_pos b3] at h
    refine E_blk (lv' := [some (vr (some (11, this))), some (vi a1), some (vi a2)]) (st' := [vi (-1 : Int32)]) (M1 := M1) (pc' := 16) (tb_Model hγ) [.iconst (.negSucc 0)] (by decide +kernel) rfl rfl trivial ?_
    exact E_iret rfl (by decide +kernel) h
  · rw [if_neg b3] at h
    refine E_blk (lv' := [some (vr (some (11, this))), some (vi a1), some (vi a2)]) (st' := [vi a2]) (M1 := M1) (pc' := 9) (tb_Model hγ) [.iload_n 2] (by decide +kernel) rfl rfl trivial ?_
    refine E_callS (κ' := k_Model_isThread) (As := [vi a2]) (st := []) ms_Model_isThread (Or.inl (tbk_mem (j := 16) (k := 23) rfl)) rfl (by decide +kernel) (Nat.le_of_ble_eq_true rfl) (Nat.le_of_ble_eq_true rfl) rfl (by decide) (lk_Model_isThread hγ a2 _ M1 h) (fun _ _ => Qi_r) (fun v M4 hp => Qi_k (R := fun st => E γ k_Model_call 8 12 [some (vr (some (11, this))), some (vi a1), some (vi a2)] st M4 (Qi Q)) hp (fun r5 h => ?_))
    refine E_if_ne (off := 5) (tgt := 17) (by decide +kernel) (by decide) (fun b6 => ?_) (fun b6 => ?_)
    · rw [if_pos b6] at h
      refine E_blk (lv' := [some (vr (some (11, this))), some (vi a1), some (vi a2)]) (st' := [vi (-1 : Int32)]) (M1 := M4) (pc' := 16) (tb_Model hγ) [.iconst (.negSucc 0)] (by decide +kernel) rfl rfl trivial ?_
      exact E_iret rfl (by decide +kernel) h
    · rw [if_neg b6] at h
      obtain ⟨c7, h⟩ := h
      refine E_blk (lv' := [some (vr (some (11, this))), some (vi a1), some (vi a2)]) (st' := [vr (mR M4 703 0 a1.toNatClampNeg)]) (M1 := M4) (pc' := 23) (tb_Model hγ) [.aload_n 0, .getfield 263, .iload_n 1, .aaload] (by decide +kernel) rfl rfl ⟨c7, trivial⟩ ?_
      obtain ⟨i8, ei8, h⟩ := h
      rw [ei8]
      obtain ⟨c9, h⟩ := h
      refine E_blk (lv' := [some (vr (some (11, this))), some (vi a1), some (vi a2)]) (st' := [vr (mR M4 704 i8 a2.toNatClampNeg)]) (M1 := M4) (pc' := 28) (tb_Model hγ) [.getfield 406, .iload_n 2, .aaload] (by decide +kernel) rfl rfl ⟨c9, trivial⟩ ?_
      obtain ⟨i10, ei10, h⟩ := h
      rw [ei10]
      refine E_blk (lv' := [some (vr (some (11, this))), some (vi a1), some (vi a2)]) (st' := [vi (1 : Int32), vi (mI M4 13 i10 0)]) (M1 := M4) (pc' := 32) (tb_Model hγ) [.getfield 486, .iconst 1] (by decide +kernel) rfl rfl trivial ?_
      refine E_icmp_ne (off := 6) (tgt := 38) (by decide +kernel) (by decide) (fun b11 => ?_) (fun b11 => ?_)
      · rw [if_pos b11] at h
        refine E_blk (lv' := [some (vr (some (11, this))), some (vi a1), some (vi a2)]) (st' := [vi (-2 : Int32)]) (M1 := M4) (pc' := 37) (tb_Model hγ) [.bipush (.negSucc 1)] (by decide +kernel) rfl rfl trivial ?_
        exact E_iret rfl (by decide +kernel) h
      · rw [if_neg b11] at h
        refine E_blk (lv' := [some (vr (some (11, this))), some (vi a1), some (vi a2)]) (st' := [vi (0 : Int32), vr (some (11, this))]) (M1 := M4) (pc' := 40) (tb_Model hγ) [.aload_n 0, .iconst 0] (by decide +kernel) rfl rfl trivial ?_
        refine E_callV (κ' := k_Model_takesLine) (As := [vi (0 : Int32)]) (st := []) mv_Model_takesLine (Or.inl (tbk_mem (j := 16) (k := 26) rfl)) rfl (by decide +kernel) (Nat.le_of_ble_eq_true rfl) (Nat.le_of_ble_eq_true rfl) rfl (by decide) (lk_Model_takesLine hγ this (0 : Int32) _ M4 h) (fun _ _ => Qi_r) (fun v M12 hp => Qi_k (R := fun st => E γ k_Model_call 8 43 [some (vr (some (11, this))), some (vi a1), some (vi a2)] st M12 (Qi Q)) hp (fun r13 h => ?_))
        refine E_if_ne (off := 22) (tgt := 65) (by decide +kernel) (by decide) (fun b14 => ?_) (fun b14 => ?_)
        · rw [if_pos b14] at h
          obtain ⟨c15, h⟩ := h
          refine E_blk (lv' := [some (vr (some (11, this))), some (vi a1), some (vi a2)]) (st' := [vr (mR M12 703 0 a1.toNatClampNeg)]) (M1 := M12) (pc' := 52) (tb_Model hγ) [.aload_n 0, .getfield 263, .iload_n 1, .aaload] (by decide +kernel) rfl rfl ⟨c15, trivial⟩ ?_
          obtain ⟨i16, ei16, h⟩ := h
          rw [ei16]
          obtain ⟨c17, h⟩ := h
          refine E_blk (lv' := [some (vr (some (11, this))), some (vi a1), some (vi a2)]) (st' := [vr (mR M12 704 i16 a2.toNatClampNeg)]) (M1 := M12) (pc' := 57) (tb_Model hγ) [.getfield 406, .iload_n 2, .aaload] (by decide +kernel) rfl rfl ⟨c17, trivial⟩ ?_
          obtain ⟨i18, ei18, h⟩ := h
          rw [ei18]
          refine E_blk (lv' := [some (vr (some (11, this))), some (vi a1), some (vi a2)]) (st' := [vi (-11 : Int32)]) (M1 := (sI M12 13 i18 0 (-2 : Int32))) (pc' := 64) (tb_Model hγ) [.bipush (.negSucc 1), .putfield 486, .bipush (.negSucc 10)] (by decide +kernel) rfl rfl trivial ?_
          exact E_iret rfl (by decide +kernel) h
        · rw [if_neg b14] at h
          obtain ⟨c19, h⟩ := h
          refine E_blk (lv' := [some (vr (some (11, this))), some (vi a1), some (vi a2)]) (st' := [vr (mR M12 703 0 a1.toNatClampNeg), vr (some (11, this))]) (M1 := M12) (pc' := 72) (tb_Model hγ) [.aload_n 0, .aload_n 0, .getfield 263, .iload_n 1, .aaload] (by decide +kernel) rfl rfl ⟨c19, trivial⟩ ?_
          obtain ⟨i20, ei20, h⟩ := h
          rw [ei20]
          obtain ⟨c21, h⟩ := h
          refine E_blk (lv' := [some (vr (some (11, this))), some (vi a1), some (vi a2)]) (st' := [vr (mR M12 704 i20 a2.toNatClampNeg), vr (some (11, this))]) (M1 := M12) (pc' := 77) (tb_Model hγ) [.getfield 406, .iload_n 2, .aaload] (by decide +kernel) rfl rfl ⟨c21, trivial⟩ ?_
          obtain ⟨i22, ei22, h⟩ := h
          rw [ei22]
          refine E_callV (κ' := k_Model_beginRun) (As := [vr (some (13, i22))]) (st := []) mv_Model_beginRun (Or.inl (tbk_mem (j := 16) (k := 38) rfl)) rfl (by decide +kernel) (Nat.le_of_ble_eq_true rfl) (Nat.le_of_ble_eq_true rfl) rfl (by decide) (lk_Model_beginRun hγ this i22 _ M12 h) (fun _ _ => Qv_r) (fun v M23 hp => Qv_k (R := fun st => E γ k_Model_call 8 80 [some (vr (some (11, this))), some (vi a1), some (vi a2)] st M23 (Qi Q)) hp (fun h => ?_))
          refine E_blk (lv' := [some (vr (some (11, this))), some (vi a1), some (vi a2)]) (st' := [vi (0 : Int32)]) (M1 := M23) (pc' := 81) (tb_Model hγ) [.iconst 0] (by decide +kernel) rfl rfl trivial ?_
          exact E_iret rfl (by decide +kernel) h
def w_Model_quantum (this : Nat) (a1 : Int32) (a2 : Int32) (Q : Int32 → Mem → Prop) (M : Mem) : Prop :=
  w_Model_isWorld this a1 (fun r2 M1 => if r2 = 0 then (Q (-1 : Int32) M1) else (if a2 < (1 : Int32) then (Q (-1 : Int32) M1) else (if a2 ≤ (200 : Int32) then (vp_in a1 (mL M1 703 0) ∧ ∃ i7, (mR M1 703 0 a1.toNatClampNeg) = some (12, i7) ∧ vp_in a1 (mL M1 703 0) ∧ ∃ i9, (mR M1 703 0 a1.toNatClampNeg) = some (12, i9) ∧ Q (mI M1 12 i7 65) (sI M1 12 i9 65 a2)) else (Q (-1 : Int32) M1)))) M
set_option maxRecDepth 4096 in
theorem lk_Model_quantum {γ : Gm} (hγ : Gk γ) (this : Nat) (a1 : Int32) (a2 : Int32) (Q : Int32 → Mem → Prop) (M : Mem) (h : w_Model_quantum this a1 a2 Q M) : E γ k_Model_quantum 1 0 [some (vr (some (11, this))), some (vi a1), some (vi a2), none] [] M (Qi Q) := by
  unfold w_Model_quantum at h
  refine E_blk (lv' := [some (vr (some (11, this))), some (vi a1), some (vi a2), none]) (st' := [vi a1, vr (some (11, this))]) (M1 := M) (pc' := 2) (tb_Model hγ) [.aload_n 0, .iload_n 1] (by decide +kernel) rfl rfl trivial ?_
  refine E_callV (κ' := k_Model_isWorld) (As := [vi a1]) (st := []) mv_Model_isWorld (Or.inl (tbk_mem (j := 14) (k := 190) rfl)) rfl (by decide +kernel) (Nat.le_of_ble_eq_true rfl) (Nat.le_of_ble_eq_true rfl) rfl (by decide) (lk_Model_isWorld hγ this a1 _ M h) (fun _ _ => Qi_r) (fun v M1 hp => Qi_k (R := fun st => E γ k_Model_quantum 1 5 [some (vr (some (11, this))), some (vi a1), some (vi a2), none] st M1 (Qi Q)) hp (fun r2 h => ?_))
  refine E_if_eq (off := 15) (tgt := 20) (by decide +kernel) (by decide) (fun b3 => ?_) (fun b3 => ?_)
  · rw [if_pos b3] at h
    refine E_blk (lv' := [some (vr (some (11, this))), some (vi a1), some (vi a2), none]) (st' := [vi (-1 : Int32)]) (M1 := M1) (pc' := 21) (tb_Model hγ) [.iconst (.negSucc 0)] (by decide +kernel) rfl rfl trivial ?_
    exact E_iret rfl (by decide +kernel) h
  · rw [if_neg b3] at h
    refine E_blk (lv' := [some (vr (some (11, this))), some (vi a1), some (vi a2), none]) (st' := [vi (1 : Int32), vi a2]) (M1 := M1) (pc' := 10) (tb_Model hγ) [.iload_n 2, .iconst 1] (by decide +kernel) rfl rfl trivial ?_
    refine E_icmp_lt (off := 10) (tgt := 20) (by decide +kernel) (by decide) (fun b4 => ?_) (fun b4 => ?_)
    · rw [if_pos b4] at h
      refine E_blk (lv' := [some (vr (some (11, this))), some (vi a1), some (vi a2), none]) (st' := [vi (-1 : Int32)]) (M1 := M1) (pc' := 21) (tb_Model hγ) [.iconst (.negSucc 0)] (by decide +kernel) rfl rfl trivial ?_
      exact E_iret rfl (by decide +kernel) h
    · rw [if_neg b4] at h
      refine E_blk (lv' := [some (vr (some (11, this))), some (vi a1), some (vi a2), none]) (st' := [vi (200 : Int32), vi a2]) (M1 := M1) (pc' := 17) (tb_Model hγ) [.iload_n 2, .sipush 200] (by decide +kernel) rfl rfl trivial ?_
      refine E_icmp_le (off := 5) (tgt := 22) (by decide +kernel) (by decide) (fun b5 => ?_) (fun b5 => ?_)
      · rw [if_pos b5] at h
        obtain ⟨c6, h⟩ := h
        refine E_blk (lv' := [some (vr (some (11, this))), some (vi a1), some (vi a2), none]) (st' := [vr (mR M1 703 0 a1.toNatClampNeg)]) (M1 := M1) (pc' := 28) (tb_Model hγ) [.aload_n 0, .getfield 263, .iload_n 1, .aaload] (by decide +kernel) rfl rfl ⟨c6, trivial⟩ ?_
        obtain ⟨i7, ei7, h⟩ := h
        rw [ei7]
        obtain ⟨c8, h⟩ := h
        refine E_blk (lv' := [some (vr (some (11, this))), some (vi a1), some (vi a2), some (vi (mI M1 12 i7 65))]) (st' := [vr (mR M1 703 0 a1.toNatClampNeg)]) (M1 := M1) (pc' := 38) (tb_Model hγ) [.getfield 495, .istore_n 3, .aload_n 0, .getfield 263, .iload_n 1, .aaload] (by decide +kernel) rfl rfl ⟨c8, trivial⟩ ?_
        obtain ⟨i9, ei9, h⟩ := h
        rw [ei9]
        refine E_blk (lv' := [some (vr (some (11, this))), some (vi a1), some (vi a2), some (vi (mI M1 12 i7 65))]) (st' := [vi (mI M1 12 i7 65)]) (M1 := (sI M1 12 i9 65 a2)) (pc' := 43) (tb_Model hγ) [.iload_n 2, .putfield 495, .iload_n 3] (by decide +kernel) rfl rfl trivial ?_
        exact E_iret rfl (by decide +kernel) h
      · rw [if_neg b5] at h
        refine E_blk (lv' := [some (vr (some (11, this))), some (vi a1), some (vi a2), none]) (st' := [vi (-1 : Int32)]) (M1 := M1) (pc' := 21) (tb_Model hγ) [.iconst (.negSucc 0)] (by decide +kernel) rfl rfl trivial ?_
        exact E_iret rfl (by decide +kernel) h
def w_Model_halt_L167 (this : Nat) (Q : Int32 → Mem → Prop) : Nat → Int32 → Int32 → Mem → Prop
  | 0, _, _, _ => False
  | n + 1, v2, v3, M => ∃ i10, (mR M 11 this 45) = some (12, i10) ∧ if (mI M 12 i10 56) ≤ v3 then (∃ i12, (mR M 11 this 45) = some (12, i12) ∧ ∃ i13, (mR (sI M 12 i12 63 (0 : Int32)) 11 this 45) = some (12, i13) ∧ ∃ i14, (mR (sI M 12 i12 63 (0 : Int32)) 11 this 45) = some (12, i14) ∧ ∃ M15, M15 = (sI (sI M 12 i12 63 (0 : Int32)) 12 i13 64 (mI (sI M 12 i12 63 (0 : Int32)) 12 i14 65)) ∧ Q v2 M15) else (∃ i16, (mR M 11 this 45) = some (12, i16) ∧ ∃ i17, (mR M 12 i16 55) = some (300, i17) ∧ vp_in v3 (mL M 300 i17) ∧ (w_Model_halt_L167 this Q n) v2 (v3 + (1 : Int32)) (sI M 300 i17 v3.toNatClampNeg (0 : Int32)))
def w_Model_halt_L142 (this : Nat) (Q : Int32 → Mem → Prop) : Nat → Int32 → Int32 → Mem → Prop
  | 0, _, _, _ => False
  | n + 1, v2, v3, M => if (800 : Int32) < v3 then (∃ n19 : Nat, w_Model_halt_L167 this Q n19 v2 (0 : Int32) M) else (∃ i20, (mR M 11 this 45) = some (12, i20) ∧ vp_in v3 (mL M 160 i20) ∧ (w_Model_halt_L142 this Q n) v2 (v3 + (1 : Int32)) (sI M 160 i20 v3.toNatClampNeg (0 : Int32)))
def w_Model_halt_j133 (this : Nat) (Q : Int32 → Mem → Prop) (k88 : Int32 → Int32 → Mem → Prop) (v2 : Int32) (v3 : Int32) (s0 : Int32) (s1 : Int32) (s2 : Nat) (M : Mem) : Prop :=
  vp_in s1 (mL M 137 s2) ∧ k88 v2 (v3 + (1 : Int32)) (sI M 137 s2 s1.toNatClampNeg s0)
def w_Model_halt_L88 (this : Nat) (Q : Int32 → Mem → Prop) : Nat → Int32 → Int32 → Mem → Prop
  | 0, _, _, _ => False
  | n + 1, v2, v3, M => ∃ i7, (mR M 11 this 45) = some (12, i7) ∧ if (mI M 12 i7 2) ≤ v3 then (∃ n22 : Nat, w_Model_halt_L142 this Q n22 v2 (1 : Int32) M) else (∃ i23, (mR M 11 this 45) = some (12, i23) ∧ ∃ i24, (mR M 11 this 45) = some (12, i24) ∧ vp_in v3 (mL M 137 i24) ∧ if (mI M 137 i24 v3.toNatClampNeg) = (1 : Int32) then (w_Model_halt_j133 this Q (w_Model_halt_L88 this Q n) v2 v3 (3 : Int32) v3 i23 M) else (∃ i28, (mR M 11 this 45) = some (12, i28) ∧ vp_in v3 (mL M 137 i28) ∧ w_Model_halt_j133 this Q (w_Model_halt_L88 this Q n) v2 v3 (mI M 137 i28 v3.toNatClampNeg) v3 i23 M))
def w_Model_halt_j51 (this : Nat) (Q : Int32 → Mem → Prop) (k24 : Int32 → Int32 → Mem → Prop) (v3 : Int32) (s0 : Int32) (s1 : Int32) (M : Mem) : Prop :=
  ∃ i35, (mR M 11 this 45) = some (12, i35) ∧ vp_in v3 (mL M 704 i35) ∧ ∃ i37, (mR M 704 i35 v3.toNatClampNeg) = some (13, i37) ∧ ∃ i38, (mR (sI M 13 i37 0 (-2 : Int32)) 11 this 45) = some (12, i38) ∧ vp_in v3 (mL (sI M 13 i37 0 (-2 : Int32)) 704 i38) ∧ ∃ i40, (mR (sI M 13 i37 0 (-2 : Int32)) 704 i38 v3.toNatClampNeg) = some (13, i40) ∧ ((0 : Int32) = 0 ∨ (0 : Int32) = 1) ∧ k24 (s1 + s0) (v3 + (1 : Int32)) (sI (sI M 13 i37 0 (-2 : Int32)) 13 i40 1 (0 : Int32))
def w_Model_halt_L24 (this : Nat) (Q : Int32 → Mem → Prop) : Nat → Int32 → Int32 → Mem → Prop
  | 0, _, _, _ => False
  | n + 1, v2, v3, M => if (3 : Int32) ≤ v3 then (∃ n30 : Nat, w_Model_halt_L88 this Q n30 v2 (0 : Int32) M) else (∃ i31, (mR M 11 this 45) = some (12, i31) ∧ vp_in v3 (mL M 704 i31) ∧ ∃ i33, (mR M 704 i31 v3.toNatClampNeg) = some (13, i33) ∧ if (mI M 13 i33 0) = (1 : Int32) then (w_Model_halt_j51 this Q (w_Model_halt_L24 this Q n) v3 (1 : Int32) v2 M) else (w_Model_halt_j51 this Q (w_Model_halt_L24 this Q n) v3 (0 : Int32) v2 M))
def w_Model_halt (this : Nat) (a1 : Int32) (Q : Int32 → Mem → Prop) (M : Mem) : Prop :=
  w_Model_isWorld this a1 (fun r2 M1 => if r2 = 0 then (Q (-1 : Int32) M1) else (vp_in a1 (mL M1 703 0) ∧ ∃ i5, (mR M1 703 0 a1.toNatClampNeg) = some (12, i5) ∧ ∃ n42 : Nat, w_Model_halt_L24 this Q n42 (0 : Int32) (0 : Int32) (sR M1 11 this 45 (some (12, i5))))) M
set_option maxRecDepth 4096 in
theorem lk_Model_halt_L167 {γ : Gm} (hγ : Gk γ) (this : Nat) (Q : Int32 → Mem → Prop) : ∀ (n : Nat) (v2 : Int32) (v3 : Int32) (M : Mem), w_Model_halt_L167 this Q n v2 v3 M → E γ k_Model_halt 1 167 [some (vr (some (11, this))), none, some (vi v2), some (vi v3)] [] M (Qi Q) := by
  intro n
  induction n with
  | zero => intro v2 v3 M h; exact h.elim
  | succ n ih =>
    intro v2 v3 M h
    unfold w_Model_halt_L167 at h
    refine E_blk (lv' := [some (vr (some (11, this))), none, some (vi v2), some (vi v3)]) (st' := [vr (mR M 11 this 45), vi v3]) (M1 := M) (pc' := 172) (tb_Model hγ) [.iload_n 3, .aload_n 0, .getfield 522] (by decide +kernel) rfl rfl trivial ?_
    obtain ⟨i10, ei10, h⟩ := h
    rw [ei10]
    refine E_blk (lv' := [some (vr (some (11, this))), none, some (vi v2), some (vi v3)]) (st' := [vi (mI M 12 i10 56), vi v3]) (M1 := M) (pc' := 175) (tb_Model hγ) [.getfield 516] (by decide +kernel) rfl rfl trivial ?_
    refine E_icmp_ge (off := 19) (tgt := 194) (by decide +kernel) (by decide) (fun b11 => ?_) (fun b11 => ?_)
    · rw [if_pos b11] at h
      refine E_blk (lv' := [some (vr (some (11, this))), none, some (vi v2), some (vi v3)]) (st' := [vr (mR M 11 this 45)]) (M1 := M) (pc' := 198) (tb_Model hγ) [.aload_n 0, .getfield 522] (by decide +kernel) rfl rfl trivial ?_
      obtain ⟨i12, ei12, h⟩ := h
      rw [ei12]
      refine E_blk (lv' := [some (vr (some (11, this))), none, some (vi v2), some (vi v3)]) (st' := [vr (mR (sI M 12 i12 63 (0 : Int32)) 11 this 45)]) (M1 := (sI M 12 i12 63 (0 : Int32))) (pc' := 206) (tb_Model hγ) [.iconst 0, .putfield 492, .aload_n 0, .getfield 522] (by decide +kernel) rfl rfl trivial ?_
      obtain ⟨i13, ei13, h⟩ := h
      rw [ei13]
      refine E_blk (lv' := [some (vr (some (11, this))), none, some (vi v2), some (vi v3)]) (st' := [vr (mR (sI M 12 i12 63 (0 : Int32)) 11 this 45), vr (some (12, i13))]) (M1 := (sI M 12 i12 63 (0 : Int32))) (pc' := 210) (tb_Model hγ) [.aload_n 0, .getfield 522] (by decide +kernel) rfl rfl trivial ?_
      obtain ⟨i14, ei14, h⟩ := h
      rw [ei14]
      refine E_blk (lv' := [some (vr (some (11, this))), none, some (vi v2), some (vi v3)]) (st' := []) (M1 := (sI (sI M 12 i12 63 (0 : Int32)) 12 i13 64 (mI (sI M 12 i12 63 (0 : Int32)) 12 i14 65))) (pc' := 216) (tb_Model hγ) [.getfield 495, .putfield 498] (by decide +kernel) rfl rfl trivial ?_
      obtain ⟨M15, eM15, h⟩ := h
      rw [← eM15]
      refine E_blk (lv' := [some (vr (some (11, this))), none, some (vi v2), some (vi v3)]) (st' := [vi v2]) (M1 := M15) (pc' := 217) (tb_Model hγ) [.iload_n 2] (by decide +kernel) rfl rfl trivial ?_
      exact E_iret rfl (by decide +kernel) h
    · rw [if_neg b11] at h
      refine E_blk (lv' := [some (vr (some (11, this))), none, some (vi v2), some (vi v3)]) (st' := [vr (mR M 11 this 45)]) (M1 := M) (pc' := 182) (tb_Model hγ) [.aload_n 0, .getfield 522] (by decide +kernel) rfl rfl trivial ?_
      obtain ⟨i16, ei16, h⟩ := h
      rw [ei16]
      refine E_blk (lv' := [some (vr (some (11, this))), none, some (vi v2), some (vi v3)]) (st' := [vr (mR M 12 i16 55)]) (M1 := M) (pc' := 185) (tb_Model hγ) [.getfield 878] (by decide +kernel) rfl rfl trivial ?_
      obtain ⟨i17, ei17, h⟩ := h
      rw [ei17]
      obtain ⟨c18, h⟩ := h
      refine E_blk (lv' := [some (vr (some (11, this))), none, some (vi v2), some (vi (v3 + (1 : Int32)))]) (st' := []) (M1 := (sI M 300 i17 v3.toNatClampNeg (0 : Int32))) (pc' := 191) (tb_Model hγ) [.iload_n 3, .iconst 0, .iastore, .iinc 3 1] (by decide +kernel) rfl rfl ⟨c18, trivial⟩ ?_
      refine E_goto (off := -24) (tgt := 167) (by decide +kernel) (by decide) ?_
      refine E_mask [true, false, true, true] rfl ?_
      exact ih v2 (v3 + (1 : Int32)) (sI M 300 i17 v3.toNatClampNeg (0 : Int32)) h
set_option maxRecDepth 4096 in
theorem lk_Model_halt_L142 {γ : Gm} (hγ : Gk γ) (this : Nat) (Q : Int32 → Mem → Prop) : ∀ (n : Nat) (v2 : Int32) (v3 : Int32) (M : Mem), w_Model_halt_L142 this Q n v2 v3 M → E γ k_Model_halt 1 142 [some (vr (some (11, this))), none, some (vi v2), some (vi v3)] [] M (Qi Q) := by
  intro n
  induction n with
  | zero => intro v2 v3 M h; exact h.elim
  | succ n ih =>
    intro v2 v3 M h
    unfold w_Model_halt_L142 at h
    refine E_blk (lv' := [some (vr (some (11, this))), none, some (vi v2), some (vi v3)]) (st' := [vi (800 : Int32), vi v3]) (M1 := M) (pc' := 146) (tb_Model hγ) [.iload_n 3, .sipush 800] (by decide +kernel) rfl rfl trivial ?_
    refine E_icmp_gt (off := 19) (tgt := 165) (by decide +kernel) (by decide) (fun b9 => ?_) (fun b9 => ?_)
    · rw [if_pos b9] at h
      refine E_blk (lv' := [some (vr (some (11, this))), none, some (vi v2), some (vi (0 : Int32))]) (st' := []) (M1 := M) (pc' := 167) (tb_Model hγ) [.iconst 0, .istore_n 3] (by decide +kernel) rfl rfl trivial ?_
      obtain ⟨n19, h⟩ := h
      refine E_mask [true, false, true, true] rfl ?_
      exact lk_Model_halt_L167 hγ this Q n19 v2 (0 : Int32) M h
    · rw [if_neg b9] at h
      refine E_blk (lv' := [some (vr (some (11, this))), none, some (vi v2), some (vi v3)]) (st' := [vr (mR M 11 this 45)]) (M1 := M) (pc' := 153) (tb_Model hγ) [.aload_n 0, .getfield 522] (by decide +kernel) rfl rfl trivial ?_
      obtain ⟨i20, ei20, h⟩ := h
      rw [ei20]
      obtain ⟨c21, h⟩ := h
      refine E_blk (lv' := [some (vr (some (11, this))), none, some (vi v2), some (vi (v3 + (1 : Int32)))]) (st' := []) (M1 := (sI M 160 i20 v3.toNatClampNeg (0 : Int32))) (pc' := 162) (tb_Model hγ) [.getfield 890, .iload_n 3, .iconst 0, .iastore, .iinc 3 1] (by decide +kernel) rfl rfl ⟨c21, trivial⟩ ?_
      refine E_goto (off := -20) (tgt := 142) (by decide +kernel) (by decide) ?_
      refine E_mask [true, false, true, true] rfl ?_
      exact ih v2 (v3 + (1 : Int32)) (sI M 160 i20 v3.toNatClampNeg (0 : Int32)) h
set_option maxRecDepth 4096 in
theorem lk_Model_halt_j133 {γ : Gm} (hγ : Gk γ) (this : Nat) (Q : Int32 → Mem → Prop) (k88 : Int32 → Int32 → Mem → Prop) (hk88 : ∀ (v2 : Int32) (v3 : Int32) (M : Mem), k88 v2 v3 M → E γ k_Model_halt 1 88 [some (vr (some (11, this))), none, some (vi v2), some (vi v3)] [] M (Qi Q)) (v2 : Int32) (v3 : Int32) (s0 : Int32) (s1 : Int32) (s2 : Nat) (M : Mem) (h : w_Model_halt_j133 this Q k88 v2 v3 s0 s1 s2 M) : E γ k_Model_halt 1 133 [some (vr (some (11, this))), none, some (vi v2), some (vi v3)] [vi s0, vi s1, vr (some (137, s2))] M (Qi Q) := by
  unfold w_Model_halt_j133 at h
  obtain ⟨c27, h⟩ := h
  refine E_blk (lv' := [some (vr (some (11, this))), none, some (vi v2), some (vi (v3 + (1 : Int32)))]) (st' := []) (M1 := (sI M 137 s2 s1.toNatClampNeg s0)) (pc' := 137) (tb_Model hγ) [.iastore, .iinc 3 1] (by decide +kernel) rfl rfl ⟨c27, trivial⟩ ?_
  refine E_goto (off := -49) (tgt := 88) (by decide +kernel) (by decide) ?_
  refine E_mask [true, false, true, true] rfl ?_
  exact hk88 v2 (v3 + (1 : Int32)) (sI M 137 s2 s1.toNatClampNeg s0) h
set_option maxRecDepth 4096 in
theorem lk_Model_halt_L88 {γ : Gm} (hγ : Gk γ) (this : Nat) (Q : Int32 → Mem → Prop) : ∀ (n : Nat) (v2 : Int32) (v3 : Int32) (M : Mem), w_Model_halt_L88 this Q n v2 v3 M → E γ k_Model_halt 1 88 [some (vr (some (11, this))), none, some (vi v2), some (vi v3)] [] M (Qi Q) := by
  intro n
  induction n with
  | zero => intro v2 v3 M h; exact h.elim
  | succ n ih =>
    intro v2 v3 M h
    unfold w_Model_halt_L88 at h
    refine E_blk (lv' := [some (vr (some (11, this))), none, some (vi v2), some (vi v3)]) (st' := [vr (mR M 11 this 45), vi v3]) (M1 := M) (pc' := 93) (tb_Model hγ) [.iload_n 3, .aload_n 0, .getfield 522] (by decide +kernel) rfl rfl trivial ?_
    obtain ⟨i7, ei7, h⟩ := h
    rw [ei7]
    refine E_blk (lv' := [some (vr (some (11, this))), none, some (vi v2), some (vi v3)]) (st' := [vi (mI M 12 i7 2), vi v3]) (M1 := M) (pc' := 96) (tb_Model hγ) [.getfield 420] (by decide +kernel) rfl rfl trivial ?_
    refine E_icmp_ge (off := 44) (tgt := 140) (by decide +kernel) (by decide) (fun b8 => ?_) (fun b8 => ?_)
    · rw [if_pos b8] at h
      refine E_blk (lv' := [some (vr (some (11, this))), none, some (vi v2), some (vi (1 : Int32))]) (st' := []) (M1 := M) (pc' := 142) (tb_Model hγ) [.iconst 1, .istore_n 3] (by decide +kernel) rfl rfl trivial ?_
      obtain ⟨n22, h⟩ := h
      refine E_mask [true, false, true, true] rfl ?_
      exact lk_Model_halt_L142 hγ this Q n22 v2 (1 : Int32) M h
    · rw [if_neg b8] at h
      refine E_blk (lv' := [some (vr (some (11, this))), none, some (vi v2), some (vi v3)]) (st' := [vr (mR M 11 this 45)]) (M1 := M) (pc' := 103) (tb_Model hγ) [.aload_n 0, .getfield 522] (by decide +kernel) rfl rfl trivial ?_
      obtain ⟨i23, ei23, h⟩ := h
      rw [ei23]
      refine E_blk (lv' := [some (vr (some (11, this))), none, some (vi v2), some (vi v3)]) (st' := [vr (mR M 11 this 45), vi v3, vr (some (137, i23))]) (M1 := M) (pc' := 111) (tb_Model hγ) [.getfield 441, .iload_n 3, .aload_n 0, .getfield 522] (by decide +kernel) rfl rfl trivial ?_
      obtain ⟨i24, ei24, h⟩ := h
      rw [ei24]
      obtain ⟨c25, h⟩ := h
      refine E_blk (lv' := [some (vr (some (11, this))), none, some (vi v2), some (vi v3)]) (st' := [vi (1 : Int32), vi (mI M 137 i24 v3.toNatClampNeg), vi v3, vr (some (137, i23))]) (M1 := M) (pc' := 117) (tb_Model hγ) [.getfield 441, .iload_n 3, .iaload, .iconst 1] (by decide +kernel) rfl rfl ⟨c25, trivial⟩ ?_
      refine E_icmp_ne (off := 7) (tgt := 124) (by decide +kernel) (by decide) (fun b26 => ?_) (fun b26 => ?_)
      · rw [if_pos b26] at h
        refine E_blk (lv' := [some (vr (some (11, this))), none, some (vi v2), some (vi v3)]) (st' := [vi (3 : Int32), vi v3, vr (some (137, i23))]) (M1 := M) (pc' := 121) (tb_Model hγ) [.iconst 3] (by decide +kernel) rfl rfl trivial ?_
        refine E_goto (off := 12) (tgt := 133) (by decide +kernel) (by decide) ?_
        refine E_mask [true, false, true, true] rfl ?_
        exact lk_Model_halt_j133 hγ this Q (w_Model_halt_L88 this Q n) ih v2 v3 (3 : Int32) v3 i23 M h
      · rw [if_neg b26] at h
        refine E_blk (lv' := [some (vr (some (11, this))), none, some (vi v2), some (vi v3)]) (st' := [vr (mR M 11 this 45), vi v3, vr (some (137, i23))]) (M1 := M) (pc' := 128) (tb_Model hγ) [.aload_n 0, .getfield 522] (by decide +kernel) rfl rfl trivial ?_
        obtain ⟨i28, ei28, h⟩ := h
        rw [ei28]
        obtain ⟨c29, h⟩ := h
        refine E_blk (lv' := [some (vr (some (11, this))), none, some (vi v2), some (vi v3)]) (st' := [vi (mI M 137 i28 v3.toNatClampNeg), vi v3, vr (some (137, i23))]) (M1 := M) (pc' := 133) (tb_Model hγ) [.getfield 441, .iload_n 3, .iaload] (by decide +kernel) rfl rfl ⟨c29, trivial⟩ ?_
        refine E_mask [true, false, true, true] rfl ?_
        exact lk_Model_halt_j133 hγ this Q (w_Model_halt_L88 this Q n) ih v2 v3 (mI M 137 i28 v3.toNatClampNeg) v3 i23 M h
set_option maxRecDepth 4096 in
theorem lk_Model_halt_j51 {γ : Gm} (hγ : Gk γ) (this : Nat) (Q : Int32 → Mem → Prop) (k24 : Int32 → Int32 → Mem → Prop) (hk24 : ∀ (v2 : Int32) (v3 : Int32) (M : Mem), k24 v2 v3 M → E γ k_Model_halt 1 24 [some (vr (some (11, this))), none, some (vi v2), some (vi v3)] [] M (Qi Q)) (v3 : Int32) (s0 : Int32) (s1 : Int32) (M : Mem) (h : w_Model_halt_j51 this Q k24 v3 s0 s1 M) : E γ k_Model_halt 1 51 [some (vr (some (11, this))), none, none, some (vi v3)] [vi s0, vi s1] M (Qi Q) := by
  unfold w_Model_halt_j51 at h
  refine E_blk (lv' := [some (vr (some (11, this))), none, some (vi (s1 + s0)), some (vi v3)]) (st' := [vr (mR M 11 this 45)]) (M1 := M) (pc' := 57) (tb_Model hγ) [.iadd, .istore_n 2, .aload_n 0, .getfield 522] (by decide +kernel) rfl rfl trivial ?_
  obtain ⟨i35, ei35, h⟩ := h
  rw [ei35]
  obtain ⟨c36, h⟩ := h
  refine E_blk (lv' := [some (vr (some (11, this))), none, some (vi (s1 + s0)), some (vi v3)]) (st' := [vr (mR M 704 i35 v3.toNatClampNeg)]) (M1 := M) (pc' := 62) (tb_Model hγ) [.getfield 406, .iload_n 3, .aaload] (by decide +kernel) rfl rfl ⟨c36, trivial⟩ ?_
  obtain ⟨i37, ei37, h⟩ := h
  rw [ei37]
  refine E_blk (lv' := [some (vr (some (11, this))), none, some (vi (s1 + s0)), some (vi v3)]) (st' := [vr (mR (sI M 13 i37 0 (-2 : Int32)) 11 this 45)]) (M1 := (sI M 13 i37 0 (-2 : Int32))) (pc' := 71) (tb_Model hγ) [.bipush (.negSucc 1), .putfield 486, .aload_n 0, .getfield 522] (by decide +kernel) rfl rfl trivial ?_
  obtain ⟨i38, ei38, h⟩ := h
  rw [ei38]
  obtain ⟨c39, h⟩ := h
  refine E_blk (lv' := [some (vr (some (11, this))), none, some (vi (s1 + s0)), some (vi v3)]) (st' := [vr (mR (sI M 13 i37 0 (-2 : Int32)) 704 i38 v3.toNatClampNeg)]) (M1 := (sI M 13 i37 0 (-2 : Int32))) (pc' := 76) (tb_Model hγ) [.getfield 406, .iload_n 3, .aaload] (by decide +kernel) rfl rfl ⟨c39, trivial⟩ ?_
  obtain ⟨i40, ei40, h⟩ := h
  rw [ei40]
  obtain ⟨c41, h⟩ := h
  refine E_blk (lv' := [some (vr (some (11, this))), none, some (vi (s1 + s0)), some (vi (v3 + (1 : Int32)))]) (st' := []) (M1 := (sI (sI M 13 i37 0 (-2 : Int32)) 13 i40 1 (0 : Int32))) (pc' := 83) (tb_Model hγ) [.iconst 0, .putfield 489, .iinc 3 1] (by decide +kernel) rfl rfl ⟨c41, trivial⟩ ?_
  refine E_goto (off := -59) (tgt := 24) (by decide +kernel) (by decide) ?_
  refine E_mask [true, false, true, true] rfl ?_
  exact hk24 (s1 + s0) (v3 + (1 : Int32)) (sI (sI M 13 i37 0 (-2 : Int32)) 13 i40 1 (0 : Int32)) h
set_option maxRecDepth 4096 in
theorem lk_Model_halt_L24 {γ : Gm} (hγ : Gk γ) (this : Nat) (Q : Int32 → Mem → Prop) : ∀ (n : Nat) (v2 : Int32) (v3 : Int32) (M : Mem), w_Model_halt_L24 this Q n v2 v3 M → E γ k_Model_halt 1 24 [some (vr (some (11, this))), none, some (vi v2), some (vi v3)] [] M (Qi Q) := by
  intro n
  induction n with
  | zero => intro v2 v3 M h; exact h.elim
  | succ n ih =>
    intro v2 v3 M h
    unfold w_Model_halt_L24 at h
    refine E_blk (lv' := [some (vr (some (11, this))), none, some (vi v2), some (vi v3)]) (st' := [vi (3 : Int32), vi v3]) (M1 := M) (pc' := 26) (tb_Model hγ) [.iload_n 3, .iconst 3] (by decide +kernel) rfl rfl trivial ?_
    refine E_icmp_ge (off := 60) (tgt := 86) (by decide +kernel) (by decide) (fun b6 => ?_) (fun b6 => ?_)
    · rw [if_pos b6] at h
      refine E_blk (lv' := [some (vr (some (11, this))), none, some (vi v2), some (vi (0 : Int32))]) (st' := []) (M1 := M) (pc' := 88) (tb_Model hγ) [.iconst 0, .istore_n 3] (by decide +kernel) rfl rfl trivial ?_
      obtain ⟨n30, h⟩ := h
      refine E_mask [true, false, true, true] rfl ?_
      exact lk_Model_halt_L88 hγ this Q n30 v2 (0 : Int32) M h
    · rw [if_neg b6] at h
      refine E_blk (lv' := [some (vr (some (11, this))), none, some (vi v2), some (vi v3)]) (st' := [vr (mR M 11 this 45), vi v2]) (M1 := M) (pc' := 34) (tb_Model hγ) [.iload_n 2, .aload_n 0, .getfield 522] (by decide +kernel) rfl rfl trivial ?_
      obtain ⟨i31, ei31, h⟩ := h
      rw [ei31]
      obtain ⟨c32, h⟩ := h
      refine E_blk (lv' := [some (vr (some (11, this))), none, some (vi v2), some (vi v3)]) (st' := [vr (mR M 704 i31 v3.toNatClampNeg), vi v2]) (M1 := M) (pc' := 39) (tb_Model hγ) [.getfield 406, .iload_n 3, .aaload] (by decide +kernel) rfl rfl ⟨c32, trivial⟩ ?_
      obtain ⟨i33, ei33, h⟩ := h
      rw [ei33]
      refine E_blk (lv' := [some (vr (some (11, this))), none, some (vi v2), some (vi v3)]) (st' := [vi (1 : Int32), vi (mI M 13 i33 0), vi v2]) (M1 := M) (pc' := 43) (tb_Model hγ) [.getfield 486, .iconst 1] (by decide +kernel) rfl rfl trivial ?_
      refine E_icmp_ne (off := 7) (tgt := 50) (by decide +kernel) (by decide) (fun b34 => ?_) (fun b34 => ?_)
      · rw [if_pos b34] at h
        refine E_blk (lv' := [some (vr (some (11, this))), none, some (vi v2), some (vi v3)]) (st' := [vi (1 : Int32), vi v2]) (M1 := M) (pc' := 47) (tb_Model hγ) [.iconst 1] (by decide +kernel) rfl rfl trivial ?_
        refine E_goto (off := 4) (tgt := 51) (by decide +kernel) (by decide) ?_
        refine E_mask [true, false, false, true] rfl ?_
        exact lk_Model_halt_j51 hγ this Q (w_Model_halt_L24 this Q n) ih v3 (1 : Int32) v2 M h
      · rw [if_neg b34] at h
        refine E_blk (lv' := [some (vr (some (11, this))), none, some (vi v2), some (vi v3)]) (st' := [vi (0 : Int32), vi v2]) (M1 := M) (pc' := 51) (tb_Model hγ) [.iconst 0] (by decide +kernel) rfl rfl trivial ?_
        refine E_mask [true, false, false, true] rfl ?_
        exact lk_Model_halt_j51 hγ this Q (w_Model_halt_L24 this Q n) ih v3 (0 : Int32) v2 M h
set_option maxRecDepth 4096 in
theorem lk_Model_halt {γ : Gm} (hγ : Gk γ) (this : Nat) (a1 : Int32) (Q : Int32 → Mem → Prop) (M : Mem) (h : w_Model_halt this a1 Q M) : E γ k_Model_halt 1 0 [some (vr (some (11, this))), some (vi a1), none, none] [] M (Qi Q) := by
  unfold w_Model_halt at h
  refine E_blk (lv' := [some (vr (some (11, this))), some (vi a1), none, none]) (st' := [vi a1, vr (some (11, this))]) (M1 := M) (pc' := 2) (tb_Model hγ) [.aload_n 0, .iload_n 1] (by decide +kernel) rfl rfl trivial ?_
  refine E_callV (κ' := k_Model_isWorld) (As := [vi a1]) (st := []) mv_Model_isWorld (Or.inl (tbk_mem (j := 14) (k := 190) rfl)) rfl (by decide +kernel) (Nat.le_of_ble_eq_true rfl) (Nat.le_of_ble_eq_true rfl) rfl (by decide) (lk_Model_isWorld hγ this a1 _ M h) (fun _ _ => Qi_r) (fun v M1 hp => Qi_k (R := fun st => E γ k_Model_halt 1 5 [some (vr (some (11, this))), some (vi a1), none, none] st M1 (Qi Q)) hp (fun r2 h => ?_))
  refine E_if_ne (off := 5) (tgt := 10) (by decide +kernel) (by decide) (fun b3 => ?_) (fun b3 => ?_)
  · rw [if_pos b3] at h
    refine E_blk (lv' := [some (vr (some (11, this))), some (vi a1), none, none]) (st' := [vi (-1 : Int32)]) (M1 := M1) (pc' := 9) (tb_Model hγ) [.iconst (.negSucc 0)] (by decide +kernel) rfl rfl trivial ?_
    exact E_iret rfl (by decide +kernel) h
  · rw [if_neg b3] at h
    obtain ⟨c4, h⟩ := h
    refine E_blk (lv' := [some (vr (some (11, this))), some (vi a1), none, none]) (st' := [vr (mR M1 703 0 a1.toNatClampNeg), vr (some (11, this))]) (M1 := M1) (pc' := 17) (tb_Model hγ) [.aload_n 0, .aload_n 0, .getfield 263, .iload_n 1, .aaload] (by decide +kernel) rfl rfl ⟨c4, trivial⟩ ?_
    obtain ⟨i5, ei5, h⟩ := h
    rw [ei5]
    refine E_blk (lv' := [some (vr (some (11, this))), some (vi a1), some (vi (0 : Int32)), some (vi (0 : Int32))]) (st' := []) (M1 := (sR M1 11 this 45 (some (12, i5)))) (pc' := 24) (tb_Model hγ) [.putfield 522, .iconst 0, .istore_n 2, .iconst 0, .istore_n 3] (by decide +kernel) rfl rfl trivial ?_
    obtain ⟨n42, h⟩ := h
    refine E_mask [true, false, true, true] rfl ?_
    exact lk_Model_halt_L24 hγ this Q n42 (0 : Int32) (0 : Int32) (sR M1 11 this 45 (some (12, i5))) h
def w_Model_step_j86 (this : Nat) (Q : Int32 → Mem → Prop) (v2 : Int32) (M : Mem) : Prop :=
  ∃ i20, (mR M 11 this 45) = some (12, i20) ∧ w_Model_isAnyOn this i20 (fun r22 M21 => if r22 = 0 then (Q (0 : Int32) M21) else (if v2 ≤ ((60000 : Int32) - (mI M21 11 this 93)) then (w_Model_goOn this v2 (fun r26 M25 => Q r26 (sI M25 11 this 93 ((mI M25 11 this 93) + (mI M25 11 this 83)))) M21) else (Q (-3 : Int32) M21))) M
def w_Model_step (this : Nat) (a1 : Int32) (a2 : Int32) (Q : Int32 → Mem → Prop) (M : Mem) : Prop :=
  w_Model_isWorld this a1 (fun r2 M1 => if r2 = 0 then (Q (-1 : Int32) M1) else (if a2 < (1 : Int32) then (Q (-1 : Int32) M1) else (if a2 ≤ (4000 : Int32) then (vp_in a1 (mL M1 703 0) ∧ ∃ i7, (mR M1 703 0 a1.toNatClampNeg) = some (12, i7) ∧ ∃ i8, (mR (sR M1 11 this 45 (some (12, i7))) 11 this 45) = some (12, i8) ∧ vp_in (0 : Int32) (mL (sR M1 11 this 45 (some (12, i7))) 704 i8) ∧ ∃ i10, (mR (sR M1 11 this 45 (some (12, i7))) 704 i8 (0 : Int32).toNatClampNeg) = some (13, i10) ∧ if (mI (sR M1 11 this 45 (some (12, i7))) 13 i10 0) = (-2 : Int32) then (∃ i12, (mR (sR M1 11 this 45 (some (12, i7))) 11 this 45) = some (12, i12) ∧ vp_in (1 : Int32) (mL (sR M1 11 this 45 (some (12, i7))) 704 i12) ∧ ∃ i14, (mR (sR M1 11 this 45 (some (12, i7))) 704 i12 (1 : Int32).toNatClampNeg) = some (13, i14) ∧ if (mI (sR M1 11 this 45 (some (12, i7))) 13 i14 0) = (-2 : Int32) then (∃ i16, (mR (sR M1 11 this 45 (some (12, i7))) 11 this 45) = some (12, i16) ∧ vp_in (2 : Int32) (mL (sR M1 11 this 45 (some (12, i7))) 704 i16) ∧ ∃ i18, (mR (sR M1 11 this 45 (some (12, i7))) 704 i16 (2 : Int32).toNatClampNeg) = some (13, i18) ∧ if (mI (sR M1 11 this 45 (some (12, i7))) 13 i18 0) = (-2 : Int32) then (Q (-2 : Int32) (sR M1 11 this 45 (some (12, i7)))) else (w_Model_step_j86 this Q a2 (sR M1 11 this 45 (some (12, i7))))) else (w_Model_step_j86 this Q a2 (sR M1 11 this 45 (some (12, i7))))) else (w_Model_step_j86 this Q a2 (sR M1 11 this 45 (some (12, i7))))) else (Q (-1 : Int32) M1)))) M
set_option maxRecDepth 4096 in
theorem lk_Model_step_j86 {γ : Gm} (hγ : Gk γ) (this : Nat) (Q : Int32 → Mem → Prop) (v2 : Int32) (M : Mem) (h : w_Model_step_j86 this Q v2 M) : E γ k_Model_step 135 86 [some (vr (some (11, this))), none, some (vi v2), none] [] M (Qi Q) := by
  unfold w_Model_step_j86 at h
  refine E_blk (lv' := [some (vr (some (11, this))), none, some (vi v2), none]) (st' := [vr (mR M 11 this 45), vr (some (11, this))]) (M1 := M) (pc' := 91) (tb_Model hγ) [.aload_n 0, .aload_n 0, .getfield 522] (by decide +kernel) rfl rfl trivial ?_
  obtain ⟨i20, ei20, h⟩ := h
  rw [ei20]
  refine E_callV (κ' := k_Model_isAnyOn) (As := [vr (some (12, i20))]) (st := []) mv_Model_isAnyOn (Or.inl (tbk_mem (j := 16) (k := 54) rfl)) rfl (by decide +kernel) (Nat.le_of_ble_eq_true rfl) (Nat.le_of_ble_eq_true rfl) rfl (by decide) (lk_Model_isAnyOn hγ this i20 _ M h) (fun _ _ => Qi_r) (fun v M21 hp => Qi_k (R := fun st => E γ k_Model_step 135 94 [some (vr (some (11, this))), none, some (vi v2), none] st M21 (Qi Q)) hp (fun r22 h => ?_))
  refine E_if_ne (off := 5) (tgt := 99) (by decide +kernel) (by decide) (fun b23 => ?_) (fun b23 => ?_)
  · rw [if_pos b23] at h
    refine E_blk (lv' := [some (vr (some (11, this))), none, some (vi v2), none]) (st' := [vi (0 : Int32)]) (M1 := M21) (pc' := 98) (tb_Model hγ) [.iconst 0] (by decide +kernel) rfl rfl trivial ?_
    exact E_iret rfl (by decide +kernel) h
  · rw [if_neg b23] at h
    refine E_blk (lv' := [some (vr (some (11, this))), none, some (vi v2), none]) (st' := [vi ((60000 : Int32) - (mI M21 11 this 93)), vi v2]) (M1 := M21) (pc' := 108) (tb_Model hγ) [.iload_n 2, .ldc_w 1163, .aload_n 0, .getfield 1164, .isub] (by decide +kernel) rfl rfl trivial ?_
    refine E_icmp_le (off := 6) (tgt := 114) (by decide +kernel) (by decide) (fun b24 => ?_) (fun b24 => ?_)
    · rw [if_pos b24] at h
      refine E_blk (lv' := [some (vr (some (11, this))), none, some (vi v2), none]) (st' := [vi v2, vr (some (11, this))]) (M1 := M21) (pc' := 116) (tb_Model hγ) [.aload_n 0, .iload_n 2] (by decide +kernel) rfl rfl trivial ?_
      refine E_callV (κ' := k_Model_goOn) (As := [vi v2]) (st := []) mv_Model_goOn (Or.inl (tbk_mem (j := 16) (k := 59) rfl)) rfl (by decide +kernel) (Nat.le_of_ble_eq_true rfl) (Nat.le_of_ble_eq_true rfl) rfl (by decide) (lk_Model_goOn hγ this v2 _ M21 h) (fun _ _ => Qi_r) (fun v M25 hp => Qi_k (R := fun st => E γ k_Model_step 135 119 [some (vr (some (11, this))), none, some (vi v2), none] st M25 (Qi Q)) hp (fun r26 h => ?_))
      refine E_blk (lv' := [some (vr (some (11, this))), none, some (vi v2), some (vi r26)]) (st' := [vi r26]) (M1 := (sI M25 11 this 93 ((mI M25 11 this 93) + (mI M25 11 this 83)))) (pc' := 134) (tb_Model hγ) [.istore_n 3, .aload_n 0, .dup, .getfield 1164, .aload_n 0, .getfield 1099, .iadd, .putfield 1164, .iload_n 3] (by decide +kernel) rfl rfl trivial ?_
      exact E_iret rfl (by decide +kernel) h
    · rw [if_neg b24] at h
      refine E_blk (lv' := [some (vr (some (11, this))), none, some (vi v2), none]) (st' := [vi (-3 : Int32)]) (M1 := M21) (pc' := 113) (tb_Model hγ) [.bipush (.negSucc 2)] (by decide +kernel) rfl rfl trivial ?_
      exact E_iret rfl (by decide +kernel) h
set_option maxRecDepth 4096 in
theorem lk_Model_step {γ : Gm} (hγ : Gk γ) (this : Nat) (a1 : Int32) (a2 : Int32) (Q : Int32 → Mem → Prop) (M : Mem) (h : w_Model_step this a1 a2 Q M) : E γ k_Model_step 135 0 [some (vr (some (11, this))), some (vi a1), some (vi a2), none] [] M (Qi Q) := by
  unfold w_Model_step at h
  refine E_blk (lv' := [some (vr (some (11, this))), some (vi a1), some (vi a2), none]) (st' := [vi a1, vr (some (11, this))]) (M1 := M) (pc' := 2) (tb_Model hγ) [.aload_n 0, .iload_n 1] (by decide +kernel) rfl rfl trivial ?_
  refine E_callV (κ' := k_Model_isWorld) (As := [vi a1]) (st := []) mv_Model_isWorld (Or.inl (tbk_mem (j := 14) (k := 190) rfl)) rfl (by decide +kernel) (Nat.le_of_ble_eq_true rfl) (Nat.le_of_ble_eq_true rfl) rfl (by decide) (lk_Model_isWorld hγ this a1 _ M h) (fun _ _ => Qi_r) (fun v M1 hp => Qi_k (R := fun st => E γ k_Model_step 135 5 [some (vr (some (11, this))), some (vi a1), some (vi a2), none] st M1 (Qi Q)) hp (fun r2 h => ?_))
  refine E_if_eq (off := 15) (tgt := 20) (by decide +kernel) (by decide) (fun b3 => ?_) (fun b3 => ?_)
  · rw [if_pos b3] at h
    refine E_blk (lv' := [some (vr (some (11, this))), some (vi a1), some (vi a2), none]) (st' := [vi (-1 : Int32)]) (M1 := M1) (pc' := 21) (tb_Model hγ) [.iconst (.negSucc 0)] (by decide +kernel) rfl rfl trivial ?_
    exact E_iret rfl (by decide +kernel) h
  · rw [if_neg b3] at h
    refine E_blk (lv' := [some (vr (some (11, this))), some (vi a1), some (vi a2), none]) (st' := [vi (1 : Int32), vi a2]) (M1 := M1) (pc' := 10) (tb_Model hγ) [.iload_n 2, .iconst 1] (by decide +kernel) rfl rfl trivial ?_
    refine E_icmp_lt (off := 10) (tgt := 20) (by decide +kernel) (by decide) (fun b4 => ?_) (fun b4 => ?_)
    · rw [if_pos b4] at h
      refine E_blk (lv' := [some (vr (some (11, this))), some (vi a1), some (vi a2), none]) (st' := [vi (-1 : Int32)]) (M1 := M1) (pc' := 21) (tb_Model hγ) [.iconst (.negSucc 0)] (by decide +kernel) rfl rfl trivial ?_
      exact E_iret rfl (by decide +kernel) h
    · rw [if_neg b4] at h
      refine E_blk (lv' := [some (vr (some (11, this))), some (vi a1), some (vi a2), none]) (st' := [vi (4000 : Int32), vi a2]) (M1 := M1) (pc' := 17) (tb_Model hγ) [.iload_n 2, .sipush 4000] (by decide +kernel) rfl rfl trivial ?_
      refine E_icmp_le (off := 5) (tgt := 22) (by decide +kernel) (by decide) (fun b5 => ?_) (fun b5 => ?_)
      · rw [if_pos b5] at h
        obtain ⟨c6, h⟩ := h
        refine E_blk (lv' := [some (vr (some (11, this))), some (vi a1), some (vi a2), none]) (st' := [vr (mR M1 703 0 a1.toNatClampNeg), vr (some (11, this))]) (M1 := M1) (pc' := 29) (tb_Model hγ) [.aload_n 0, .aload_n 0, .getfield 263, .iload_n 1, .aaload] (by decide +kernel) rfl rfl ⟨c6, trivial⟩ ?_
        obtain ⟨i7, ei7, h⟩ := h
        rw [ei7]
        refine E_blk (lv' := [some (vr (some (11, this))), some (vi a1), some (vi a2), none]) (st' := [vr (mR (sR M1 11 this 45 (some (12, i7))) 11 this 45)]) (M1 := (sR M1 11 this 45 (some (12, i7)))) (pc' := 36) (tb_Model hγ) [.putfield 522, .aload_n 0, .getfield 522] (by decide +kernel) rfl rfl trivial ?_
        obtain ⟨i8, ei8, h⟩ := h
        rw [ei8]
        obtain ⟨c9, h⟩ := h
        refine E_blk (lv' := [some (vr (some (11, this))), some (vi a1), some (vi a2), none]) (st' := [vr (mR (sR M1 11 this 45 (some (12, i7))) 704 i8 (0 : Int32).toNatClampNeg)]) (M1 := (sR M1 11 this 45 (some (12, i7)))) (pc' := 41) (tb_Model hγ) [.getfield 406, .iconst 0, .aaload] (by decide +kernel) rfl rfl ⟨c9, trivial⟩ ?_
        obtain ⟨i10, ei10, h⟩ := h
        rw [ei10]
        refine E_blk (lv' := [some (vr (some (11, this))), some (vi a1), some (vi a2), none]) (st' := [vi (-2 : Int32), vi (mI (sR M1 11 this 45 (some (12, i7))) 13 i10 0)]) (M1 := (sR M1 11 this 45 (some (12, i7)))) (pc' := 46) (tb_Model hγ) [.getfield 486, .bipush (.negSucc 1)] (by decide +kernel) rfl rfl trivial ?_
        refine E_icmp_ne (off := 40) (tgt := 86) (by decide +kernel) (by decide) (fun b11 => ?_) (fun b11 => ?_)
        · rw [if_pos b11] at h
          refine E_blk (lv' := [some (vr (some (11, this))), some (vi a1), some (vi a2), none]) (st' := [vr (mR (sR M1 11 this 45 (some (12, i7))) 11 this 45)]) (M1 := (sR M1 11 this 45 (some (12, i7)))) (pc' := 53) (tb_Model hγ) [.aload_n 0, .getfield 522] (by decide +kernel) rfl rfl trivial ?_
          obtain ⟨i12, ei12, h⟩ := h
          rw [ei12]
          obtain ⟨c13, h⟩ := h
          refine E_blk (lv' := [some (vr (some (11, this))), some (vi a1), some (vi a2), none]) (st' := [vr (mR (sR M1 11 this 45 (some (12, i7))) 704 i12 (1 : Int32).toNatClampNeg)]) (M1 := (sR M1 11 this 45 (some (12, i7)))) (pc' := 58) (tb_Model hγ) [.getfield 406, .iconst 1, .aaload] (by decide +kernel) rfl rfl ⟨c13, trivial⟩ ?_
          obtain ⟨i14, ei14, h⟩ := h
          rw [ei14]
          refine E_blk (lv' := [some (vr (some (11, this))), some (vi a1), some (vi a2), none]) (st' := [vi (-2 : Int32), vi (mI (sR M1 11 this 45 (some (12, i7))) 13 i14 0)]) (M1 := (sR M1 11 this 45 (some (12, i7)))) (pc' := 63) (tb_Model hγ) [.getfield 486, .bipush (.negSucc 1)] (by decide +kernel) rfl rfl trivial ?_
          refine E_icmp_ne (off := 23) (tgt := 86) (by decide +kernel) (by decide) (fun b15 => ?_) (fun b15 => ?_)
          · rw [if_pos b15] at h
            refine E_blk (lv' := [some (vr (some (11, this))), some (vi a1), some (vi a2), none]) (st' := [vr (mR (sR M1 11 this 45 (some (12, i7))) 11 this 45)]) (M1 := (sR M1 11 this 45 (some (12, i7)))) (pc' := 70) (tb_Model hγ) [.aload_n 0, .getfield 522] (by decide +kernel) rfl rfl trivial ?_
            obtain ⟨i16, ei16, h⟩ := h
            rw [ei16]
            obtain ⟨c17, h⟩ := h
            refine E_blk (lv' := [some (vr (some (11, this))), some (vi a1), some (vi a2), none]) (st' := [vr (mR (sR M1 11 this 45 (some (12, i7))) 704 i16 (2 : Int32).toNatClampNeg)]) (M1 := (sR M1 11 this 45 (some (12, i7)))) (pc' := 75) (tb_Model hγ) [.getfield 406, .iconst 2, .aaload] (by decide +kernel) rfl rfl ⟨c17, trivial⟩ ?_
            obtain ⟨i18, ei18, h⟩ := h
            rw [ei18]
            refine E_blk (lv' := [some (vr (some (11, this))), some (vi a1), some (vi a2), none]) (st' := [vi (-2 : Int32), vi (mI (sR M1 11 this 45 (some (12, i7))) 13 i18 0)]) (M1 := (sR M1 11 this 45 (some (12, i7)))) (pc' := 80) (tb_Model hγ) [.getfield 486, .bipush (.negSucc 1)] (by decide +kernel) rfl rfl trivial ?_
            refine E_icmp_ne (off := 6) (tgt := 86) (by decide +kernel) (by decide) (fun b19 => ?_) (fun b19 => ?_)
            · rw [if_pos b19] at h
              refine E_blk (lv' := [some (vr (some (11, this))), some (vi a1), some (vi a2), none]) (st' := [vi (-2 : Int32)]) (M1 := (sR M1 11 this 45 (some (12, i7)))) (pc' := 85) (tb_Model hγ) [.bipush (.negSucc 1)] (by decide +kernel) rfl rfl trivial ?_
              exact E_iret rfl (by decide +kernel) h
            · rw [if_neg b19] at h
              refine E_mask [true, false, true, false] rfl ?_
              exact lk_Model_step_j86 hγ this Q a2 (sR M1 11 this 45 (some (12, i7))) h
          · rw [if_neg b15] at h
            refine E_mask [true, false, true, false] rfl ?_
            exact lk_Model_step_j86 hγ this Q a2 (sR M1 11 this 45 (some (12, i7))) h
        · rw [if_neg b11] at h
          refine E_mask [true, false, true, false] rfl ?_
          exact lk_Model_step_j86 hγ this Q a2 (sR M1 11 this 45 (some (12, i7))) h
      · rw [if_neg b5] at h
        refine E_blk (lv' := [some (vr (some (11, this))), some (vi a1), some (vi a2), none]) (st' := [vi (-1 : Int32)]) (M1 := M1) (pc' := 21) (tb_Model hγ) [.iconst (.negSucc 0)] (by decide +kernel) rfl rfl trivial ?_
        exact E_iret rfl (by decide +kernel) h
def w_Model_run_j148 (this : Nat) (Q : Int32 → Mem → Prop) (v2 : Int32) (v3 : Int32) (v4 : Nat) (v5 : Nat) (v6 : Int32) (s0 : Int32) (M : Mem) : Prop :=
  if v3 = (0 : Int32) then (if (mI (sR M 11 this 45 (some (12, v4))) 13 v5 0) = (1 : Int32) then (w_Model_canGo this v2 (fun r38 M37 => if r38 = 0 then (Q (4 : Int32) M37) else (Q (mI M37 13 v5 0) M37)) (sR M 11 this 45 (some (12, v4)))) else (Q (mI (sR M 11 this 45 (some (12, v4))) 13 v5 0) (sR M 11 this 45 (some (12, v4))))) else (if v3 = (1 : Int32) then (if v6 = 0 then (Q (0 : Int32) M) else (Q (mI M 13 v5 3) M)) else (if v3 = (2 : Int32) then (if v6 = 0 then (Q (0 : Int32) M) else (Q (mI M 13 v5 10) M)) else (if v3 = (3 : Int32) then (if v6 = 0 then (Q (0 : Int32) M) else (Q (mI M 13 v5 11) M)) else (if v3 = (4 : Int32) then (if v6 = 0 then (Q (-2 : Int32) M) else (Q (mI M 13 v5 12) M)) else (if v3 = (5 : Int32) then (if v6 = 0 then (Q (0 : Int32) M) else (Q (mI M 13 v5 13) M)) else (if v3 = (6 : Int32) then (if v6 = 0 then (Q (0 : Int32) M) else (Q (mI M 13 v5 22) M)) else (if v3 = (7 : Int32) then (if 0 ≤ s0 then (¬ (12 : Int32) = 0 ∧ Q (s0 / (12 : Int32)) M) else (Q (-2 : Int32) M)) else (if v3 = (8 : Int32) then (if 0 ≤ s0 then (¬ (12 : Int32) = 0 ∧ Q (s0 - s0 / (12 : Int32) * (12 : Int32)) M) else (Q (-2 : Int32) M)) else (if 0 ≤ s0 then (vp_in ((mI M 13 v5 22) - (1 : Int32)) (mL M 174 v5) ∧ Q (mI M 174 v5 ((mI M 13 v5 22) - (1 : Int32)).toNatClampNeg) M) else (Q (-2 : Int32) M))))))))))
def w_Model_run_j146 (this : Nat) (Q : Int32 → Mem → Prop) (v2 : Int32) (v3 : Int32) (v4 : Nat) (v5 : Nat) (v6 : Int32) (M : Mem) : Prop :=
  w_Model_run_j148 this Q v2 v3 v4 v5 v6 (-2 : Int32) M
def w_Model_run_j115 (this : Nat) (Q : Int32 → Mem → Prop) (v2 : Int32) (v3 : Int32) (v4 : Nat) (v5 : Nat) (s0 : Int32) (M : Mem) : Prop :=
  if s0 = 0 then (w_Model_run_j146 this Q v2 v3 v4 v5 s0 M) else (if (mI M 13 v5 22) ≤ 0 then (w_Model_run_j146 this Q v2 v3 v4 v5 s0 M) else (vp_in ((mI M 13 v5 22) - (1 : Int32)) (mL M 173 v5) ∧ w_Model_run_j148 this Q v2 v3 v4 v5 s0 (mI M 173 v5 ((mI M 13 v5 22) - (1 : Int32)).toNatClampNeg) M))
def w_Model_run (this : Nat) (a1 : Int32) (a2 : Int32) (a3 : Int32) (Q : Int32 → Mem → Prop) (M : Mem) : Prop :=
  w_Model_isWorld this a1 (fun r2 M1 => if r2 = 0 then (Q (-1 : Int32) M1) else (w_Model_isThread a2 (fun r5 M4 => if r5 = 0 then (Q (-1 : Int32) M4) else (if a3 < 0 then (Q (-1 : Int32) M4) else (if a3 ≤ (13 : Int32) then (vp_in a1 (mL M4 703 0) ∧ ∃ i10, (mR M4 703 0 a1.toNatClampNeg) = some (12, i10) ∧ vp_in a2 (mL M4 704 i10) ∧ ∃ i12, (mR M4 704 i10 a2.toNatClampNeg) = some (13, i12) ∧ if a3 = (10 : Int32) then (Q (mI M4 12 i10 50) M4) else (if a3 = (11 : Int32) then (Q (mI M4 12 i10 52) M4) else (if a3 = (12 : Int32) then (Q (mI M4 12 i10 60) M4) else (if a3 = (13 : Int32) then (Q (mI M4 12 i10 63) M4) else (if (mI M4 13 i12 0) = (-2 : Int32) then (w_Model_run_j115 this Q a2 a3 i10 i12 (0 : Int32) M4) else (w_Model_run_j115 this Q a2 a3 i10 i12 (1 : Int32) M4)))))) else (Q (-1 : Int32) M4)))) M1)) M
set_option maxRecDepth 4096 in
theorem lk_Model_run_j148 {γ : Gm} (hγ : Gk γ) (this : Nat) (Q : Int32 → Mem → Prop) (v2 : Int32) (v3 : Int32) (v4 : Nat) (v5 : Nat) (v6 : Int32) (s0 : Int32) (M : Mem) (h : w_Model_run_j148 this Q v2 v3 v4 v5 v6 s0 M) : E γ k_Model_run 2 148 [some (vr (some (11, this))), none, some (vi v2), some (vi v3), some (vr (some (12, v4))), some (vr (some (13, v5))), some (vi v6), none] [vi s0] M (Qi Q) := by
  unfold w_Model_run_j148 at h
  refine E_blk (lv' := [some (vr (some (11, this))), none, some (vi v2), some (vi v3), some (vr (some (12, v4))), some (vr (some (13, v5))), some (vi v6), some (vi s0)]) (st' := [vi v3]) (M1 := M) (pc' := 151) (tb_Model hγ) [.istore 7, .iload_n 3] (by decide +kernel) rfl rfl trivial ?_
  by_cases b17 : v3 = (0 : Int32)
  · rw [if_pos b17] at h
    refine E.up (fun _ _ hJ => J_tswI (len := 49) (dflt := 205) (lo := 0) (hi := 8) (offs := #[49, 82, 97, 112, 127, 143, 158, 173, 189]) (off := 49) (tgt := 200) (by decide +kernel) (by rw [b17]; decide) (by rw [b17]; decide) (by rw [b17]; rfl) (by decide) hJ) ?_
    refine E_blk (lv' := [some (vr (some (11, this))), none, some (vi v2), some (vi v3), some (vr (some (12, v4))), some (vr (some (13, v5))), some (vi v6), some (vi s0)]) (st' := [vi (1 : Int32), vi (mI (sR M 11 this 45 (some (12, v4))) 13 v5 0)]) (M1 := (sR M 11 this 45 (some (12, v4)))) (pc' := 212) (tb_Model hγ) [.aload_n 0, .aload 4, .putfield 522, .aload 5, .getfield 486, .iconst 1] (by decide +kernel) rfl rfl trivial ?_
    refine E_icmp_ne (off := 15) (tgt := 227) (by decide +kernel) (by decide) (fun b36 => ?_) (fun b36 => ?_)
    · rw [if_pos b36] at h
      refine E_blk (lv' := [some (vr (some (11, this))), none, some (vi v2), some (vi v3), some (vr (some (12, v4))), some (vr (some (13, v5))), some (vi v6), some (vi s0)]) (st' := [vi v2, vr (some (11, this))]) (M1 := (sR M 11 this 45 (some (12, v4)))) (pc' := 217) (tb_Model hγ) [.aload_n 0, .iload_n 2] (by decide +kernel) rfl rfl trivial ?_
      refine E_callV (κ' := k_Model_canGo) (As := [vi v2]) (st := []) mv_Model_canGo (Or.inl (tbk_mem (j := 16) (k := 63) rfl)) rfl (by decide +kernel) (Nat.le_of_ble_eq_true rfl) (Nat.le_of_ble_eq_true rfl) rfl (by decide) (lk_Model_canGo hγ this v2 _ (sR M 11 this 45 (some (12, v4))) h) (fun _ _ => Qi_r) (fun v M37 hp => Qi_k (R := fun st => E γ k_Model_run 2 220 [some (vr (some (11, this))), none, some (vi v2), some (vi v3), some (vr (some (12, v4))), some (vr (some (13, v5))), some (vi v6), some (vi s0)] st M37 (Qi Q)) hp (fun r38 h => ?_))
      refine E_if_ne (off := 7) (tgt := 227) (by decide +kernel) (by decide) (fun b39 => ?_) (fun b39 => ?_)
      · rw [if_pos b39] at h
        refine E_blk (lv' := [some (vr (some (11, this))), none, some (vi v2), some (vi v3), some (vr (some (12, v4))), some (vr (some (13, v5))), some (vi v6), some (vi s0)]) (st' := [vi (4 : Int32)]) (M1 := M37) (pc' := 224) (tb_Model hγ) [.iconst 4] (by decide +kernel) rfl rfl trivial ?_
        refine E_goto (off := 8) (tgt := 232) (by decide +kernel) (by decide) ?_
        exact E_iret rfl (by decide +kernel) h
      · rw [if_neg b39] at h
        refine E_blk (lv' := [some (vr (some (11, this))), none, some (vi v2), some (vi v3), some (vr (some (12, v4))), some (vr (some (13, v5))), some (vi v6), some (vi s0)]) (st' := [vi (mI M37 13 v5 0)]) (M1 := M37) (pc' := 232) (tb_Model hγ) [.aload 5, .getfield 486] (by decide +kernel) rfl rfl trivial ?_
        exact E_iret rfl (by decide +kernel) h
    · rw [if_neg b36] at h
      refine E_blk (lv' := [some (vr (some (11, this))), none, some (vi v2), some (vi v3), some (vr (some (12, v4))), some (vr (some (13, v5))), some (vi v6), some (vi s0)]) (st' := [vi (mI (sR M 11 this 45 (some (12, v4))) 13 v5 0)]) (M1 := (sR M 11 this 45 (some (12, v4)))) (pc' := 232) (tb_Model hγ) [.aload 5, .getfield 486] (by decide +kernel) rfl rfl trivial ?_
      exact E_iret rfl (by decide +kernel) h
  · rw [if_neg b17] at h
    by_cases b18 : v3 = (1 : Int32)
    · rw [if_pos b18] at h
      refine E.up (fun _ _ hJ => J_tswI (len := 49) (dflt := 205) (lo := 0) (hi := 8) (offs := #[49, 82, 97, 112, 127, 143, 158, 173, 189]) (off := 82) (tgt := 233) (by decide +kernel) (by rw [b18]; decide) (by rw [b18]; decide) (by rw [b18]; rfl) (by decide) hJ) ?_
      refine E_blk (lv' := [some (vr (some (11, this))), none, some (vi v2), some (vi v3), some (vr (some (12, v4))), some (vr (some (13, v5))), some (vi v6), some (vi s0)]) (st' := [vi v6]) (M1 := M) (pc' := 235) (tb_Model hγ) [.iload 6] (by decide +kernel) rfl rfl trivial ?_
      refine E_if_eq (off := 11) (tgt := 246) (by decide +kernel) (by decide) (fun b35 => ?_) (fun b35 => ?_)
      · rw [if_pos b35] at h
        refine E_blk (lv' := [some (vr (some (11, this))), none, some (vi v2), some (vi v3), some (vr (some (12, v4))), some (vr (some (13, v5))), some (vi v6), some (vi s0)]) (st' := [vi (0 : Int32)]) (M1 := M) (pc' := 247) (tb_Model hγ) [.iconst 0] (by decide +kernel) rfl rfl trivial ?_
        exact E_iret rfl (by decide +kernel) h
      · rw [if_neg b35] at h
        refine E_blk (lv' := [some (vr (some (11, this))), none, some (vi v2), some (vi v3), some (vr (some (12, v4))), some (vr (some (13, v5))), some (vi v6), some (vi s0)]) (st' := [vi (mI M 13 v5 3)]) (M1 := M) (pc' := 243) (tb_Model hγ) [.aload 5, .getfield 921] (by decide +kernel) rfl rfl trivial ?_
        refine E_goto (off := 4) (tgt := 247) (by decide +kernel) (by decide) ?_
        exact E_iret rfl (by decide +kernel) h
    · rw [if_neg b18] at h
      by_cases b19 : v3 = (2 : Int32)
      · rw [if_pos b19] at h
        refine E.up (fun _ _ hJ => J_tswI (len := 49) (dflt := 205) (lo := 0) (hi := 8) (offs := #[49, 82, 97, 112, 127, 143, 158, 173, 189]) (off := 97) (tgt := 248) (by decide +kernel) (by rw [b19]; decide) (by rw [b19]; decide) (by rw [b19]; rfl) (by decide) hJ) ?_
        refine E_blk (lv' := [some (vr (some (11, this))), none, some (vi v2), some (vi v3), some (vr (some (12, v4))), some (vr (some (13, v5))), some (vi v6), some (vi s0)]) (st' := [vi v6]) (M1 := M) (pc' := 250) (tb_Model hγ) [.iload 6] (by decide +kernel) rfl rfl trivial ?_
        refine E_if_eq (off := 11) (tgt := 261) (by decide +kernel) (by decide) (fun b34 => ?_) (fun b34 => ?_)
        · rw [if_pos b34] at h
          refine E_blk (lv' := [some (vr (some (11, this))), none, some (vi v2), some (vi v3), some (vr (some (12, v4))), some (vr (some (13, v5))), some (vi v6), some (vi s0)]) (st' := [vi (0 : Int32)]) (M1 := M) (pc' := 262) (tb_Model hγ) [.iconst 0] (by decide +kernel) rfl rfl trivial ?_
          exact E_iret rfl (by decide +kernel) h
        · rw [if_neg b34] at h
          refine E_blk (lv' := [some (vr (some (11, this))), none, some (vi v2), some (vi v3), some (vr (some (12, v4))), some (vr (some (13, v5))), some (vi v6), some (vi s0)]) (st' := [vi (mI M 13 v5 10)]) (M1 := M) (pc' := 258) (tb_Model hγ) [.aload 5, .getfield 974] (by decide +kernel) rfl rfl trivial ?_
          refine E_goto (off := 4) (tgt := 262) (by decide +kernel) (by decide) ?_
          exact E_iret rfl (by decide +kernel) h
      · rw [if_neg b19] at h
        by_cases b20 : v3 = (3 : Int32)
        · rw [if_pos b20] at h
          refine E.up (fun _ _ hJ => J_tswI (len := 49) (dflt := 205) (lo := 0) (hi := 8) (offs := #[49, 82, 97, 112, 127, 143, 158, 173, 189]) (off := 112) (tgt := 263) (by decide +kernel) (by rw [b20]; decide) (by rw [b20]; decide) (by rw [b20]; rfl) (by decide) hJ) ?_
          refine E_blk (lv' := [some (vr (some (11, this))), none, some (vi v2), some (vi v3), some (vr (some (12, v4))), some (vr (some (13, v5))), some (vi v6), some (vi s0)]) (st' := [vi v6]) (M1 := M) (pc' := 265) (tb_Model hγ) [.iload 6] (by decide +kernel) rfl rfl trivial ?_
          refine E_if_eq (off := 11) (tgt := 276) (by decide +kernel) (by decide) (fun b33 => ?_) (fun b33 => ?_)
          · rw [if_pos b33] at h
            refine E_blk (lv' := [some (vr (some (11, this))), none, some (vi v2), some (vi v3), some (vr (some (12, v4))), some (vr (some (13, v5))), some (vi v6), some (vi s0)]) (st' := [vi (0 : Int32)]) (M1 := M) (pc' := 277) (tb_Model hγ) [.iconst 0] (by decide +kernel) rfl rfl trivial ?_
            exact E_iret rfl (by decide +kernel) h
          · rw [if_neg b33] at h
            refine E_blk (lv' := [some (vr (some (11, this))), none, some (vi v2), some (vi v3), some (vr (some (12, v4))), some (vr (some (13, v5))), some (vi v6), some (vi s0)]) (st' := [vi (mI M 13 v5 11)]) (M1 := M) (pc' := 273) (tb_Model hγ) [.aload 5, .getfield 977] (by decide +kernel) rfl rfl trivial ?_
            refine E_goto (off := 4) (tgt := 277) (by decide +kernel) (by decide) ?_
            exact E_iret rfl (by decide +kernel) h
        · rw [if_neg b20] at h
          by_cases b21 : v3 = (4 : Int32)
          · rw [if_pos b21] at h
            refine E.up (fun _ _ hJ => J_tswI (len := 49) (dflt := 205) (lo := 0) (hi := 8) (offs := #[49, 82, 97, 112, 127, 143, 158, 173, 189]) (off := 127) (tgt := 278) (by decide +kernel) (by rw [b21]; decide) (by rw [b21]; decide) (by rw [b21]; rfl) (by decide) hJ) ?_
            refine E_blk (lv' := [some (vr (some (11, this))), none, some (vi v2), some (vi v3), some (vr (some (12, v4))), some (vr (some (13, v5))), some (vi v6), some (vi s0)]) (st' := [vi v6]) (M1 := M) (pc' := 280) (tb_Model hγ) [.iload 6] (by decide +kernel) rfl rfl trivial ?_
            refine E_if_eq (off := 11) (tgt := 291) (by decide +kernel) (by decide) (fun b32 => ?_) (fun b32 => ?_)
            · rw [if_pos b32] at h
              refine E_blk (lv' := [some (vr (some (11, this))), none, some (vi v2), some (vi v3), some (vr (some (12, v4))), some (vr (some (13, v5))), some (vi v6), some (vi s0)]) (st' := [vi (-2 : Int32)]) (M1 := M) (pc' := 293) (tb_Model hγ) [.bipush (.negSucc 1)] (by decide +kernel) rfl rfl trivial ?_
              exact E_iret rfl (by decide +kernel) h
            · rw [if_neg b32] at h
              refine E_blk (lv' := [some (vr (some (11, this))), none, some (vi v2), some (vi v3), some (vr (some (12, v4))), some (vr (some (13, v5))), some (vi v6), some (vi s0)]) (st' := [vi (mI M 13 v5 12)]) (M1 := M) (pc' := 288) (tb_Model hγ) [.aload 5, .getfield 980] (by decide +kernel) rfl rfl trivial ?_
              refine E_goto (off := 5) (tgt := 293) (by decide +kernel) (by decide) ?_
              exact E_iret rfl (by decide +kernel) h
          · rw [if_neg b21] at h
            by_cases b22 : v3 = (5 : Int32)
            · rw [if_pos b22] at h
              refine E.up (fun _ _ hJ => J_tswI (len := 49) (dflt := 205) (lo := 0) (hi := 8) (offs := #[49, 82, 97, 112, 127, 143, 158, 173, 189]) (off := 143) (tgt := 294) (by decide +kernel) (by rw [b22]; decide) (by rw [b22]; decide) (by rw [b22]; rfl) (by decide) hJ) ?_
              refine E_blk (lv' := [some (vr (some (11, this))), none, some (vi v2), some (vi v3), some (vr (some (12, v4))), some (vr (some (13, v5))), some (vi v6), some (vi s0)]) (st' := [vi v6]) (M1 := M) (pc' := 296) (tb_Model hγ) [.iload 6] (by decide +kernel) rfl rfl trivial ?_
              refine E_if_eq (off := 11) (tgt := 307) (by decide +kernel) (by decide) (fun b31 => ?_) (fun b31 => ?_)
              · rw [if_pos b31] at h
                refine E_blk (lv' := [some (vr (some (11, this))), none, some (vi v2), some (vi v3), some (vr (some (12, v4))), some (vr (some (13, v5))), some (vi v6), some (vi s0)]) (st' := [vi (0 : Int32)]) (M1 := M) (pc' := 308) (tb_Model hγ) [.iconst 0] (by decide +kernel) rfl rfl trivial ?_
                exact E_iret rfl (by decide +kernel) h
              · rw [if_neg b31] at h
                refine E_blk (lv' := [some (vr (some (11, this))), none, some (vi v2), some (vi v3), some (vr (some (12, v4))), some (vr (some (13, v5))), some (vi v6), some (vi s0)]) (st' := [vi (mI M 13 v5 13)]) (M1 := M) (pc' := 304) (tb_Model hγ) [.aload 5, .getfield 983] (by decide +kernel) rfl rfl trivial ?_
                refine E_goto (off := 4) (tgt := 308) (by decide +kernel) (by decide) ?_
                exact E_iret rfl (by decide +kernel) h
            · rw [if_neg b22] at h
              by_cases b23 : v3 = (6 : Int32)
              · rw [if_pos b23] at h
                refine E.up (fun _ _ hJ => J_tswI (len := 49) (dflt := 205) (lo := 0) (hi := 8) (offs := #[49, 82, 97, 112, 127, 143, 158, 173, 189]) (off := 158) (tgt := 309) (by decide +kernel) (by rw [b23]; decide) (by rw [b23]; decide) (by rw [b23]; rfl) (by decide) hJ) ?_
                refine E_blk (lv' := [some (vr (some (11, this))), none, some (vi v2), some (vi v3), some (vr (some (12, v4))), some (vr (some (13, v5))), some (vi v6), some (vi s0)]) (st' := [vi v6]) (M1 := M) (pc' := 311) (tb_Model hγ) [.iload 6] (by decide +kernel) rfl rfl trivial ?_
                refine E_if_eq (off := 11) (tgt := 322) (by decide +kernel) (by decide) (fun b30 => ?_) (fun b30 => ?_)
                · rw [if_pos b30] at h
                  refine E_blk (lv' := [some (vr (some (11, this))), none, some (vi v2), some (vi v3), some (vr (some (12, v4))), some (vr (some (13, v5))), some (vi v6), some (vi s0)]) (st' := [vi (0 : Int32)]) (M1 := M) (pc' := 323) (tb_Model hγ) [.iconst 0] (by decide +kernel) rfl rfl trivial ?_
                  exact E_iret rfl (by decide +kernel) h
                · rw [if_neg b30] at h
                  refine E_blk (lv' := [some (vr (some (11, this))), none, some (vi v2), some (vi v3), some (vr (some (12, v4))), some (vr (some (13, v5))), some (vi v6), some (vi s0)]) (st' := [vi (mI M 13 v5 22)]) (M1 := M) (pc' := 319) (tb_Model hγ) [.aload 5, .getfield 924] (by decide +kernel) rfl rfl trivial ?_
                  refine E_goto (off := 4) (tgt := 323) (by decide +kernel) (by decide) ?_
                  exact E_iret rfl (by decide +kernel) h
              · rw [if_neg b23] at h
                by_cases b24 : v3 = (7 : Int32)
                · rw [if_pos b24] at h
                  refine E.up (fun _ _ hJ => J_tswI (len := 49) (dflt := 205) (lo := 0) (hi := 8) (offs := #[49, 82, 97, 112, 127, 143, 158, 173, 189]) (off := 173) (tgt := 324) (by decide +kernel) (by rw [b24]; decide) (by rw [b24]; decide) (by rw [b24]; rfl) (by decide) hJ) ?_
                  refine E_blk (lv' := [some (vr (some (11, this))), none, some (vi v2), some (vi v3), some (vr (some (12, v4))), some (vr (some (13, v5))), some (vi v6), some (vi s0)]) (st' := [vi s0]) (M1 := M) (pc' := 326) (tb_Model hγ) [.iload 7] (by decide +kernel) rfl rfl trivial ?_
                  refine E_if_ge (off := 8) (tgt := 334) (by decide +kernel) (by decide) (fun b28 => ?_) (fun b28 => ?_)
                  · rw [if_pos b28] at h
                    obtain ⟨c29, h⟩ := h
                    refine E_blk (lv' := [some (vr (some (11, this))), none, some (vi v2), some (vi v3), some (vr (some (12, v4))), some (vr (some (13, v5))), some (vi v6), some (vi s0)]) (st' := [vi (s0 / (12 : Int32))]) (M1 := M) (pc' := 339) (tb_Model hγ) [.iload 7, .bipush 12, .idiv] (by decide +kernel) rfl rfl ⟨c29, trivial⟩ ?_
                    exact E_iret rfl (by decide +kernel) h
                  · rw [if_neg b28] at h
                    refine E_blk (lv' := [some (vr (some (11, this))), none, some (vi v2), some (vi v3), some (vr (some (12, v4))), some (vr (some (13, v5))), some (vi v6), some (vi s0)]) (st' := [vi (-2 : Int32)]) (M1 := M) (pc' := 331) (tb_Model hγ) [.bipush (.negSucc 1)] (by decide +kernel) rfl rfl trivial ?_
                    refine E_goto (off := 8) (tgt := 339) (by decide +kernel) (by decide) ?_
                    exact E_iret rfl (by decide +kernel) h
                · rw [if_neg b24] at h
                  by_cases b25 : v3 = (8 : Int32)
                  · rw [if_pos b25] at h
                    refine E.up (fun _ _ hJ => J_tswI (len := 49) (dflt := 205) (lo := 0) (hi := 8) (offs := #[49, 82, 97, 112, 127, 143, 158, 173, 189]) (off := 189) (tgt := 340) (by decide +kernel) (by rw [b25]; decide) (by rw [b25]; decide) (by rw [b25]; rfl) (by decide) hJ) ?_
                    refine E_blk (lv' := [some (vr (some (11, this))), none, some (vi v2), some (vi v3), some (vr (some (12, v4))), some (vr (some (13, v5))), some (vi v6), some (vi s0)]) (st' := [vi s0]) (M1 := M) (pc' := 342) (tb_Model hγ) [.iload 7] (by decide +kernel) rfl rfl trivial ?_
                    refine E_if_ge (off := 8) (tgt := 350) (by decide +kernel) (by decide) (fun b26 => ?_) (fun b26 => ?_)
                    · rw [if_pos b26] at h
                      obtain ⟨c27, h⟩ := h
                      refine E_blk (lv' := [some (vr (some (11, this))), none, some (vi v2), some (vi v3), some (vr (some (12, v4))), some (vr (some (13, v5))), some (vi v6), some (vi s0)]) (st' := [vi (s0 - s0 / (12 : Int32) * (12 : Int32))]) (M1 := M) (pc' := 355) (tb_Model hγ) [.iload 7, .bipush 12, .irem] (by decide +kernel) rfl rfl ⟨c27, trivial⟩ ?_
                      exact E_iret rfl (by decide +kernel) h
                    · rw [if_neg b26] at h
                      refine E_blk (lv' := [some (vr (some (11, this))), none, some (vi v2), some (vi v3), some (vr (some (12, v4))), some (vr (some (13, v5))), some (vi v6), some (vi s0)]) (st' := [vi (-2 : Int32)]) (M1 := M) (pc' := 347) (tb_Model hγ) [.bipush (.negSucc 1)] (by decide +kernel) rfl rfl trivial ?_
                      refine E_goto (off := 8) (tgt := 355) (by decide +kernel) (by decide) ?_
                      exact E_iret rfl (by decide +kernel) h
                  · rw [if_neg b25] at h
                    refine E.up (fun _ _ hJ => J_tswO (len := 49) (dflt := 205) (lo := 0) (hi := 8) (offs := #[49, 82, 97, 112, 127, 143, 158, 173, 189]) (tgt := 356) (by decide +kernel) ?_ (by decide) hJ) ?_
                    · have q := sw0 (x := v3) 0
                      replace q : (v3).toInt < 0 ∨ 1 ≤ (v3).toInt := sw1 q b17 rfl rfl
                      replace q : (v3).toInt < 0 ∨ 2 ≤ (v3).toInt := sw1 q b18 rfl rfl
                      replace q : (v3).toInt < 0 ∨ 3 ≤ (v3).toInt := sw1 q b19 rfl rfl
                      replace q : (v3).toInt < 0 ∨ 4 ≤ (v3).toInt := sw1 q b20 rfl rfl
                      replace q : (v3).toInt < 0 ∨ 5 ≤ (v3).toInt := sw1 q b21 rfl rfl
                      replace q : (v3).toInt < 0 ∨ 6 ≤ (v3).toInt := sw1 q b22 rfl rfl
                      replace q : (v3).toInt < 0 ∨ 7 ≤ (v3).toInt := sw1 q b23 rfl rfl
                      replace q : (v3).toInt < 0 ∨ 8 ≤ (v3).toInt := sw1 q b24 rfl rfl
                      replace q : (v3).toInt < 0 ∨ 9 ≤ (v3).toInt := sw1 q b25 rfl rfl
                      omega
                    · refine E_blk (lv' := [some (vr (some (11, this))), none, some (vi v2), some (vi v3), some (vr (some (12, v4))), some (vr (some (13, v5))), some (vi v6), some (vi s0)]) (st' := [vi s0]) (M1 := M) (pc' := 358) (tb_Model hγ) [.iload 7] (by decide +kernel) rfl rfl trivial ?_
                      refine E_if_ge (off := 8) (tgt := 366) (by decide +kernel) (by decide) (fun b15 => ?_) (fun b15 => ?_)
                      · rw [if_pos b15] at h
                        obtain ⟨c16, h⟩ := h
                        refine E_blk (lv' := [some (vr (some (11, this))), none, some (vi v2), some (vi v3), some (vr (some (12, v4))), some (vr (some (13, v5))), some (vi v6), some (vi s0)]) (st' := [vi (mI M 174 v5 ((mI M 13 v5 22) - (1 : Int32)).toNatClampNeg)]) (M1 := M) (pc' := 379) (tb_Model hγ) [.aload 5, .getfield 930, .aload 5, .getfield 924, .iconst 1, .isub, .iaload] (by decide +kernel) rfl rfl ⟨c16, trivial⟩ ?_
                        exact E_iret rfl (by decide +kernel) h
                      · rw [if_neg b15] at h
                        refine E_blk (lv' := [some (vr (some (11, this))), none, some (vi v2), some (vi v3), some (vr (some (12, v4))), some (vr (some (13, v5))), some (vi v6), some (vi s0)]) (st' := [vi (-2 : Int32)]) (M1 := M) (pc' := 363) (tb_Model hγ) [.bipush (.negSucc 1)] (by decide +kernel) rfl rfl trivial ?_
                        refine E_goto (off := 16) (tgt := 379) (by decide +kernel) (by decide) ?_
                        exact E_iret rfl (by decide +kernel) h
set_option maxRecDepth 4096 in
theorem lk_Model_run_j146 {γ : Gm} (hγ : Gk γ) (this : Nat) (Q : Int32 → Mem → Prop) (v2 : Int32) (v3 : Int32) (v4 : Nat) (v5 : Nat) (v6 : Int32) (M : Mem) (h : w_Model_run_j146 this Q v2 v3 v4 v5 v6 M) : E γ k_Model_run 2 146 [some (vr (some (11, this))), none, some (vi v2), some (vi v3), some (vr (some (12, v4))), some (vr (some (13, v5))), some (vi v6), none] [] M (Qi Q) := by
  unfold w_Model_run_j146 at h
  refine E_blk (lv' := [some (vr (some (11, this))), none, some (vi v2), some (vi v3), some (vr (some (12, v4))), some (vr (some (13, v5))), some (vi v6), none]) (st' := [vi (-2 : Int32)]) (M1 := M) (pc' := 148) (tb_Model hγ) [.bipush (.negSucc 1)] (by decide +kernel) rfl rfl trivial ?_
  refine E_mask [true, false, true, true, true, true, true, false] rfl ?_
  exact lk_Model_run_j148 hγ this Q v2 v3 v4 v5 v6 (-2 : Int32) M h
set_option maxRecDepth 4096 in
theorem lk_Model_run_j115 {γ : Gm} (hγ : Gk γ) (this : Nat) (Q : Int32 → Mem → Prop) (v2 : Int32) (v3 : Int32) (v4 : Nat) (v5 : Nat) (s0 : Int32) (M : Mem) (h : w_Model_run_j115 this Q v2 v3 v4 v5 s0 M) : E γ k_Model_run 2 115 [some (vr (some (11, this))), none, some (vi v2), some (vi v3), some (vr (some (12, v4))), some (vr (some (13, v5))), none, none] [vi s0] M (Qi Q) := by
  unfold w_Model_run_j115 at h
  refine E_blk (lv' := [some (vr (some (11, this))), none, some (vi v2), some (vi v3), some (vr (some (12, v4))), some (vr (some (13, v5))), some (vi s0), none]) (st' := [vi s0]) (M1 := M) (pc' := 119) (tb_Model hγ) [.istore 6, .iload 6] (by decide +kernel) rfl rfl trivial ?_
  refine E_if_eq (off := 27) (tgt := 146) (by decide +kernel) (by decide) (fun b14 => ?_) (fun b14 => ?_)
  · rw [if_pos b14] at h
    refine E_mask [true, false, true, true, true, true, true, false] rfl ?_
    exact lk_Model_run_j146 hγ this Q v2 v3 v4 v5 s0 M h
  · rw [if_neg b14] at h
    refine E_blk (lv' := [some (vr (some (11, this))), none, some (vi v2), some (vi v3), some (vr (some (12, v4))), some (vr (some (13, v5))), some (vi s0), none]) (st' := [vi (mI M 13 v5 22)]) (M1 := M) (pc' := 127) (tb_Model hγ) [.aload 5, .getfield 924] (by decide +kernel) rfl rfl trivial ?_
    refine E_if_le (off := 19) (tgt := 146) (by decide +kernel) (by decide) (fun b40 => ?_) (fun b40 => ?_)
    · rw [if_pos b40] at h
      refine E_mask [true, false, true, true, true, true, true, false] rfl ?_
      exact lk_Model_run_j146 hγ this Q v2 v3 v4 v5 s0 M h
    · rw [if_neg b40] at h
      obtain ⟨c41, h⟩ := h
      refine E_blk (lv' := [some (vr (some (11, this))), none, some (vi v2), some (vi v3), some (vr (some (12, v4))), some (vr (some (13, v5))), some (vi s0), none]) (st' := [vi (mI M 173 v5 ((mI M 13 v5 22) - (1 : Int32)).toNatClampNeg)]) (M1 := M) (pc' := 143) (tb_Model hγ) [.aload 5, .getfield 927, .aload 5, .getfield 924, .iconst 1, .isub, .iaload] (by decide +kernel) rfl rfl ⟨c41, trivial⟩ ?_
      refine E_goto (off := 5) (tgt := 148) (by decide +kernel) (by decide) ?_
      refine E_mask [true, false, true, true, true, true, true, false] rfl ?_
      exact lk_Model_run_j148 hγ this Q v2 v3 v4 v5 s0 (mI M 173 v5 ((mI M 13 v5 22) - (1 : Int32)).toNatClampNeg) M h
set_option maxRecDepth 4096 in
theorem lk_Model_run {γ : Gm} (hγ : Gk γ) (this : Nat) (a1 : Int32) (a2 : Int32) (a3 : Int32) (Q : Int32 → Mem → Prop) (M : Mem) (h : w_Model_run this a1 a2 a3 Q M) : E γ k_Model_run 2 0 [some (vr (some (11, this))), some (vi a1), some (vi a2), some (vi a3), none, none, none, none] [] M (Qi Q) := by
  unfold w_Model_run at h
  refine E_blk (lv' := [some (vr (some (11, this))), some (vi a1), some (vi a2), some (vi a3), none, none, none, none]) (st' := [vi a1, vr (some (11, this))]) (M1 := M) (pc' := 2) (tb_Model hγ) [.aload_n 0, .iload_n 1] (by decide +kernel) rfl rfl trivial ?_
  refine E_callV (κ' := k_Model_isWorld) (As := [vi a1]) (st := []) mv_Model_isWorld (Or.inl (tbk_mem (j := 14) (k := 190) rfl)) rfl (by decide +kernel) (Nat.le_of_ble_eq_true rfl) (Nat.le_of_ble_eq_true rfl) rfl (by decide) (lk_Model_isWorld hγ this a1 _ M h) (fun _ _ => Qi_r) (fun v M1 hp => Qi_k (R := fun st => E γ k_Model_run 2 5 [some (vr (some (11, this))), some (vi a1), some (vi a2), some (vi a3), none, none, none, none] st M1 (Qi Q)) hp (fun r2 h => ?_))
  refine E_if_eq (off := 20) (tgt := 25) (by decide +kernel) (by decide) (fun b3 => ?_) (fun b3 => ?_)
  · rw [if_pos b3] at h
    refine E_blk (lv' := [some (vr (some (11, this))), some (vi a1), some (vi a2), some (vi a3), none, none, none, none]) (st' := [vi (-1 : Int32)]) (M1 := M1) (pc' := 26) (tb_Model hγ) [.iconst (.negSucc 0)] (by decide +kernel) rfl rfl trivial ?_
    exact E_iret rfl (by decide +kernel) h
  · rw [if_neg b3] at h
    refine E_blk (lv' := [some (vr (some (11, this))), some (vi a1), some (vi a2), some (vi a3), none, none, none, none]) (st' := [vi a2]) (M1 := M1) (pc' := 9) (tb_Model hγ) [.iload_n 2] (by decide +kernel) rfl rfl trivial ?_
    refine E_callS (κ' := k_Model_isThread) (As := [vi a2]) (st := []) ms_Model_isThread (Or.inl (tbk_mem (j := 16) (k := 23) rfl)) rfl (by decide +kernel) (Nat.le_of_ble_eq_true rfl) (Nat.le_of_ble_eq_true rfl) rfl (by decide) (lk_Model_isThread hγ a2 _ M1 h) (fun _ _ => Qi_r) (fun v M4 hp => Qi_k (R := fun st => E γ k_Model_run 2 12 [some (vr (some (11, this))), some (vi a1), some (vi a2), some (vi a3), none, none, none, none] st M4 (Qi Q)) hp (fun r5 h => ?_))
    refine E_if_eq (off := 13) (tgt := 25) (by decide +kernel) (by decide) (fun b6 => ?_) (fun b6 => ?_)
    · rw [if_pos b6] at h
      refine E_blk (lv' := [some (vr (some (11, this))), some (vi a1), some (vi a2), some (vi a3), none, none, none, none]) (st' := [vi (-1 : Int32)]) (M1 := M4) (pc' := 26) (tb_Model hγ) [.iconst (.negSucc 0)] (by decide +kernel) rfl rfl trivial ?_
      exact E_iret rfl (by decide +kernel) h
    · rw [if_neg b6] at h
      refine E_blk (lv' := [some (vr (some (11, this))), some (vi a1), some (vi a2), some (vi a3), none, none, none, none]) (st' := [vi a3]) (M1 := M4) (pc' := 16) (tb_Model hγ) [.iload_n 3] (by decide +kernel) rfl rfl trivial ?_
      refine E_if_lt (off := 9) (tgt := 25) (by decide +kernel) (by decide) (fun b7 => ?_) (fun b7 => ?_)
      · rw [if_pos b7] at h
        refine E_blk (lv' := [some (vr (some (11, this))), some (vi a1), some (vi a2), some (vi a3), none, none, none, none]) (st' := [vi (-1 : Int32)]) (M1 := M4) (pc' := 26) (tb_Model hγ) [.iconst (.negSucc 0)] (by decide +kernel) rfl rfl trivial ?_
        exact E_iret rfl (by decide +kernel) h
      · rw [if_neg b7] at h
        refine E_blk (lv' := [some (vr (some (11, this))), some (vi a1), some (vi a2), some (vi a3), none, none, none, none]) (st' := [vi (13 : Int32), vi a3]) (M1 := M4) (pc' := 22) (tb_Model hγ) [.iload_n 3, .bipush 13] (by decide +kernel) rfl rfl trivial ?_
        refine E_icmp_le (off := 5) (tgt := 27) (by decide +kernel) (by decide) (fun b8 => ?_) (fun b8 => ?_)
        · rw [if_pos b8] at h
          obtain ⟨c9, h⟩ := h
          refine E_blk (lv' := [some (vr (some (11, this))), some (vi a1), some (vi a2), some (vi a3), none, none, none, none]) (st' := [vr (mR M4 703 0 a1.toNatClampNeg)]) (M1 := M4) (pc' := 33) (tb_Model hγ) [.aload_n 0, .getfield 263, .iload_n 1, .aaload] (by decide +kernel) rfl rfl ⟨c9, trivial⟩ ?_
          obtain ⟨i10, ei10, h⟩ := h
          rw [ei10]
          obtain ⟨c11, h⟩ := h
          refine E_blk (lv' := [some (vr (some (11, this))), some (vi a1), some (vi a2), some (vi a3), some (vr (some (12, i10))), none, none, none]) (st' := [vr (mR M4 704 i10 a2.toNatClampNeg)]) (M1 := M4) (pc' := 42) (tb_Model hγ) [.astore 4, .aload 4, .getfield 406, .iload_n 2, .aaload] (by decide +kernel) rfl rfl ⟨c11, trivial⟩ ?_
          obtain ⟨i12, ei12, h⟩ := h
          rw [ei12]
          refine E_blk (lv' := [some (vr (some (11, this))), some (vi a1), some (vi a2), some (vi a3), some (vr (some (12, i10))), some (vr (some (13, i12))), none, none]) (st' := [vi a3]) (M1 := M4) (pc' := 45) (tb_Model hγ) [.astore 5, .iload_n 3] (by decide +kernel) rfl rfl trivial ?_
          by_cases b42 : a3 = (10 : Int32)
          · rw [if_pos b42] at h
            refine E.up (fun _ _ hJ => J_tswI (len := 31) (dflt := 55) (lo := 10) (hi := 13) (offs := #[31, 37, 43, 49]) (off := 31) (tgt := 76) (by decide +kernel) (by rw [b42]; decide) (by rw [b42]; decide) (by rw [b42]; rfl) (by decide) hJ) ?_
            refine E_blk (lv' := [some (vr (some (11, this))), some (vi a1), some (vi a2), some (vi a3), some (vr (some (12, i10))), some (vr (some (13, i12))), none, none]) (st' := [vi (mI M4 12 i10 50)]) (M1 := M4) (pc' := 81) (tb_Model hγ) [.aload 4, .getfield 507] (by decide +kernel) rfl rfl trivial ?_
            exact E_iret rfl (by decide +kernel) h
          · rw [if_neg b42] at h
            by_cases b43 : a3 = (11 : Int32)
            · rw [if_pos b43] at h
              refine E.up (fun _ _ hJ => J_tswI (len := 31) (dflt := 55) (lo := 10) (hi := 13) (offs := #[31, 37, 43, 49]) (off := 37) (tgt := 82) (by decide +kernel) (by rw [b43]; decide) (by rw [b43]; decide) (by rw [b43]; rfl) (by decide) hJ) ?_
              refine E_blk (lv' := [some (vr (some (11, this))), some (vi a1), some (vi a2), some (vi a3), some (vr (some (12, i10))), some (vr (some (13, i12))), none, none]) (st' := [vi (mI M4 12 i10 52)]) (M1 := M4) (pc' := 87) (tb_Model hγ) [.aload 4, .getfield 513] (by decide +kernel) rfl rfl trivial ?_
              exact E_iret rfl (by decide +kernel) h
            · rw [if_neg b43] at h
              by_cases b44 : a3 = (12 : Int32)
              · rw [if_pos b44] at h
                refine E.up (fun _ _ hJ => J_tswI (len := 31) (dflt := 55) (lo := 10) (hi := 13) (offs := #[31, 37, 43, 49]) (off := 43) (tgt := 88) (by decide +kernel) (by rw [b44]; decide) (by rw [b44]; decide) (by rw [b44]; rfl) (by decide) hJ) ?_
                refine E_blk (lv' := [some (vr (some (11, this))), some (vi a1), some (vi a2), some (vi a3), some (vr (some (12, i10))), some (vr (some (13, i12))), none, none]) (st' := [vi (mI M4 12 i10 60)]) (M1 := M4) (pc' := 93) (tb_Model hγ) [.aload 4, .getfield 519] (by decide +kernel) rfl rfl trivial ?_
                exact E_iret rfl (by decide +kernel) h
              · rw [if_neg b44] at h
                by_cases b45 : a3 = (13 : Int32)
                · rw [if_pos b45] at h
                  refine E.up (fun _ _ hJ => J_tswI (len := 31) (dflt := 55) (lo := 10) (hi := 13) (offs := #[31, 37, 43, 49]) (off := 49) (tgt := 94) (by decide +kernel) (by rw [b45]; decide) (by rw [b45]; decide) (by rw [b45]; rfl) (by decide) hJ) ?_
                  refine E_blk (lv' := [some (vr (some (11, this))), some (vi a1), some (vi a2), some (vi a3), some (vr (some (12, i10))), some (vr (some (13, i12))), none, none]) (st' := [vi (mI M4 12 i10 63)]) (M1 := M4) (pc' := 99) (tb_Model hγ) [.aload 4, .getfield 492] (by decide +kernel) rfl rfl trivial ?_
                  exact E_iret rfl (by decide +kernel) h
                · rw [if_neg b45] at h
                  refine E.up (fun _ _ hJ => J_tswO (len := 31) (dflt := 55) (lo := 10) (hi := 13) (offs := #[31, 37, 43, 49]) (tgt := 100) (by decide +kernel) ?_ (by decide) hJ) ?_
                  · have q := sw0 (x := a3) 10
                    replace q : (a3).toInt < 10 ∨ 11 ≤ (a3).toInt := sw1 q b42 rfl rfl
                    replace q : (a3).toInt < 10 ∨ 12 ≤ (a3).toInt := sw1 q b43 rfl rfl
                    replace q : (a3).toInt < 10 ∨ 13 ≤ (a3).toInt := sw1 q b44 rfl rfl
                    replace q : (a3).toInt < 10 ∨ 14 ≤ (a3).toInt := sw1 q b45 rfl rfl
                    omega
                  · refine E_blk (lv' := [some (vr (some (11, this))), some (vi a1), some (vi a2), some (vi a3), some (vr (some (12, i10))), some (vr (some (13, i12))), none, none]) (st' := [vi (-2 : Int32), vi (mI M4 13 i12 0)]) (M1 := M4) (pc' := 107) (tb_Model hγ) [.aload 5, .getfield 486, .bipush (.negSucc 1)] (by decide +kernel) rfl rfl trivial ?_
                    refine E_icmp_eq (off := 7) (tgt := 114) (by decide +kernel) (by decide) (fun b13 => ?_) (fun b13 => ?_)
                    · rw [if_pos b13] at h
                      refine E_blk (lv' := [some (vr (some (11, this))), some (vi a1), some (vi a2), some (vi a3), some (vr (some (12, i10))), some (vr (some (13, i12))), none, none]) (st' := [vi (0 : Int32)]) (M1 := M4) (pc' := 115) (tb_Model hγ) [.iconst 0] (by decide +kernel) rfl rfl trivial ?_
                      refine E_mask [true, false, true, true, true, true, false, false] rfl ?_
                      exact lk_Model_run_j115 hγ this Q a2 a3 i10 i12 (0 : Int32) M4 h
                    · rw [if_neg b13] at h
                      refine E_blk (lv' := [some (vr (some (11, this))), some (vi a1), some (vi a2), some (vi a3), some (vr (some (12, i10))), some (vr (some (13, i12))), none, none]) (st' := [vi (1 : Int32)]) (M1 := M4) (pc' := 111) (tb_Model hγ) [.iconst 1] (by decide +kernel) rfl rfl trivial ?_
                      refine E_goto (off := 4) (tgt := 115) (by decide +kernel) (by decide) ?_
                      refine E_mask [true, false, true, true, true, true, false, false] rfl ?_
                      exact lk_Model_run_j115 hγ this Q a2 a3 i10 i12 (1 : Int32) M4 h
        · rw [if_neg b8] at h
          refine E_blk (lv' := [some (vr (some (11, this))), some (vi a1), some (vi a2), some (vi a3), none, none, none, none]) (st' := [vi (-1 : Int32)]) (M1 := M4) (pc' := 26) (tb_Model hγ) [.iconst (.negSucc 0)] (by decide +kernel) rfl rfl trivial ?_
          exact E_iret rfl (by decide +kernel) h
def w_Model_started (this : Nat) (a1 : Int32) (a2 : Int32) (Q : Int32 → Mem → Prop) (M : Mem) : Prop :=
  w_Model_isWorld this a1 (fun r2 M1 => if r2 = 0 then (Q (-1 : Int32) M1) else (if a2 < 0 then (Q (-1 : Int32) M1) else (vp_in a1 (mL M1 703 0) ∧ ∃ i6, (mR M1 703 0 a1.toNatClampNeg) = some (12, i6) ∧ if (mI M1 12 i6 60) ≤ a2 then (Q (-1 : Int32) M1) else (vp_in a1 (mL M1 703 0) ∧ ∃ i9, (mR M1 703 0 a1.toNatClampNeg) = some (12, i9) ∧ vp_in a2 (mL M1 163 i9) ∧ Q (mI M1 163 i9 a2.toNatClampNeg) M1)))) M
set_option maxRecDepth 4096 in
theorem lk_Model_started {γ : Gm} (hγ : Gk γ) (this : Nat) (a1 : Int32) (a2 : Int32) (Q : Int32 → Mem → Prop) (M : Mem) (h : w_Model_started this a1 a2 Q M) : E γ k_Model_started 1 0 [some (vr (some (11, this))), some (vi a1), some (vi a2)] [] M (Qi Q) := by
  unfold w_Model_started at h
  refine E_blk (lv' := [some (vr (some (11, this))), some (vi a1), some (vi a2)]) (st' := [vi a1, vr (some (11, this))]) (M1 := M) (pc' := 2) (tb_Model hγ) [.aload_n 0, .iload_n 1] (by decide +kernel) rfl rfl trivial ?_
  refine E_callV (κ' := k_Model_isWorld) (As := [vi a1]) (st := []) mv_Model_isWorld (Or.inl (tbk_mem (j := 14) (k := 190) rfl)) rfl (by decide +kernel) (Nat.le_of_ble_eq_true rfl) (Nat.le_of_ble_eq_true rfl) rfl (by decide) (lk_Model_isWorld hγ this a1 _ M h) (fun _ _ => Qi_r) (fun v M1 hp => Qi_k (R := fun st => E γ k_Model_started 1 5 [some (vr (some (11, this))), some (vi a1), some (vi a2)] st M1 (Qi Q)) hp (fun r2 h => ?_))
  refine E_if_eq (off := 34) (tgt := 39) (by decide +kernel) (by decide) (fun b3 => ?_) (fun b3 => ?_)
  · rw [if_pos b3] at h
    refine E_blk (lv' := [some (vr (some (11, this))), some (vi a1), some (vi a2)]) (st' := [vi (-1 : Int32)]) (M1 := M1) (pc' := 40) (tb_Model hγ) [.iconst (.negSucc 0)] (by decide +kernel) rfl rfl trivial ?_
    exact E_iret rfl (by decide +kernel) h
  · rw [if_neg b3] at h
    refine E_blk (lv' := [some (vr (some (11, this))), some (vi a1), some (vi a2)]) (st' := [vi a2]) (M1 := M1) (pc' := 9) (tb_Model hγ) [.iload_n 2] (by decide +kernel) rfl rfl trivial ?_
    refine E_if_lt (off := 30) (tgt := 39) (by decide +kernel) (by decide) (fun b4 => ?_) (fun b4 => ?_)
    · rw [if_pos b4] at h
      refine E_blk (lv' := [some (vr (some (11, this))), some (vi a1), some (vi a2)]) (st' := [vi (-1 : Int32)]) (M1 := M1) (pc' := 40) (tb_Model hγ) [.iconst (.negSucc 0)] (by decide +kernel) rfl rfl trivial ?_
      exact E_iret rfl (by decide +kernel) h
    · rw [if_neg b4] at h
      obtain ⟨c5, h⟩ := h
      refine E_blk (lv' := [some (vr (some (11, this))), some (vi a1), some (vi a2)]) (st' := [vr (mR M1 703 0 a1.toNatClampNeg), vi a2]) (M1 := M1) (pc' := 19) (tb_Model hγ) [.iload_n 2, .aload_n 0, .getfield 263, .iload_n 1, .aaload] (by decide +kernel) rfl rfl ⟨c5, trivial⟩ ?_
      obtain ⟨i6, ei6, h⟩ := h
      rw [ei6]
      refine E_blk (lv' := [some (vr (some (11, this))), some (vi a1), some (vi a2)]) (st' := [vi (mI M1 12 i6 60), vi a2]) (M1 := M1) (pc' := 22) (tb_Model hγ) [.getfield 519] (by decide +kernel) rfl rfl trivial ?_
      refine E_icmp_ge (off := 17) (tgt := 39) (by decide +kernel) (by decide) (fun b7 => ?_) (fun b7 => ?_)
      · rw [if_pos b7] at h
        refine E_blk (lv' := [some (vr (some (11, this))), some (vi a1), some (vi a2)]) (st' := [vi (-1 : Int32)]) (M1 := M1) (pc' := 40) (tb_Model hγ) [.iconst (.negSucc 0)] (by decide +kernel) rfl rfl trivial ?_
        exact E_iret rfl (by decide +kernel) h
      · rw [if_neg b7] at h
        obtain ⟨c8, h⟩ := h
        refine E_blk (lv' := [some (vr (some (11, this))), some (vi a1), some (vi a2)]) (st' := [vr (mR M1 703 0 a1.toNatClampNeg)]) (M1 := M1) (pc' := 31) (tb_Model hγ) [.aload_n 0, .getfield 263, .iload_n 1, .aaload] (by decide +kernel) rfl rfl ⟨c8, trivial⟩ ?_
        obtain ⟨i9, ei9, h⟩ := h
        rw [ei9]
        obtain ⟨c10, h⟩ := h
        refine E_blk (lv' := [some (vr (some (11, this))), some (vi a1), some (vi a2)]) (st' := [vi (mI M1 163 i9 a2.toNatClampNeg)]) (M1 := M1) (pc' := 36) (tb_Model hγ) [.getfield 995, .iload_n 2, .iaload] (by decide +kernel) rfl rfl ⟨c10, trivial⟩ ?_
        refine E_goto (off := 4) (tgt := 40) (by decide +kernel) (by decide) ?_
        exact E_iret rfl (by decide +kernel) h
def w_Model_shown (a1 : Int32) (a2 : Int32) (Q : Int32 → Mem → Prop) (M : Mem) : Prop :=
  if a2 = 0 then (Q a1 M) else (if a1 < (1001 : Int32) then (Q a1 M) else (Q (0 : Int32) M))
set_option maxRecDepth 4096 in
theorem lk_Model_shown {γ : Gm} (hγ : Gk γ) (a1 : Int32) (a2 : Int32) (Q : Int32 → Mem → Prop) (M : Mem) (h : w_Model_shown a1 a2 Q M) : E γ k_Model_shown 0 0 [some (vi a1), some (vi a2)] [] M (Qi Q) := by
  unfold w_Model_shown at h
  refine E_blk (lv' := [some (vi a1), some (vi a2)]) (st' := [vi a2]) (M1 := M) (pc' := 1) (tb_Model hγ) [.iload_n 1] (by decide +kernel) rfl rfl trivial ?_
  refine E_if_eq (off := 14) (tgt := 15) (by decide +kernel) (by decide) (fun b1 => ?_) (fun b1 => ?_)
  · rw [if_pos b1] at h
    refine E_blk (lv' := [some (vi a1), some (vi a2)]) (st' := [vi a1]) (M1 := M) (pc' := 16) (tb_Model hγ) [.iload_n 0] (by decide +kernel) rfl rfl trivial ?_
    exact E_iret rfl (by decide +kernel) h
  · rw [if_neg b1] at h
    refine E_blk (lv' := [some (vi a1), some (vi a2)]) (st' := [vi (1001 : Int32), vi a1]) (M1 := M) (pc' := 8) (tb_Model hγ) [.iload_n 0, .sipush 1001] (by decide +kernel) rfl rfl trivial ?_
    refine E_icmp_lt (off := 7) (tgt := 15) (by decide +kernel) (by decide) (fun b2 => ?_) (fun b2 => ?_)
    · rw [if_pos b2] at h
      refine E_blk (lv' := [some (vi a1), some (vi a2)]) (st' := [vi a1]) (M1 := M) (pc' := 16) (tb_Model hγ) [.iload_n 0] (by decide +kernel) rfl rfl trivial ?_
      exact E_iret rfl (by decide +kernel) h
    · rw [if_neg b2] at h
      refine E_blk (lv' := [some (vi a1), some (vi a2)]) (st' := [vi (0 : Int32)]) (M1 := M) (pc' := 12) (tb_Model hγ) [.iconst 0] (by decide +kernel) rfl rfl trivial ?_
      refine E_goto (off := 4) (tgt := 16) (by decide +kernel) (by decide) ?_
      exact E_iret rfl (by decide +kernel) h
def w_Model_value_j133 (this : Nat) (Q : Int32 → Mem → Prop) (v6 : Nat) (s0 : Int32) (s1 : Int32) (M : Mem) : Prop :=
  vp_in (s1 + s0) (mL M 176 v6) ∧ vp_in (s1 + s0) (mL M 525 v6) ∧ w_Model_shown (mI M 176 v6 (s1 + s0).toNatClampNeg) (mI M 525 v6 (s1 + s0).toNatClampNeg) (fun r22 M21 => Q r22 M21) M
def w_Model_value_j98 (this : Nat) (Q : Int32 → Mem → Prop) (v3 : Int32) (v4 : Int32) (v6 : Nat) (v7 : Int32) (s0 : Int32) (s1 : Int32) (M : Mem) : Prop :=
  if s1 < s0 then (if v3 = 0 then (w_Model_value_j133 this Q v6 v4 ((44 : Int32) * v7) M) else (vp_in v7 (mL M 175 v6) ∧ w_Model_value_j133 this Q v6 ((((20 : Int32) + (mI M 175 v6 v7.toNatClampNeg)) - (1 : Int32)) - v4) ((44 : Int32) * v7) M)) else (Q (-1 : Int32) M)
def w_Model_value_j60 (this : Nat) (Q : Int32 → Mem → Prop) (v3 : Int32) (v4 : Int32) (v5 : Nat) (v6 : Nat) (s0 : Int32) (M : Mem) : Prop :=
  if s0 < 0 then (Q (-1 : Int32) M) else (if v3 = 0 then (vp_in s0 (mL M 173 v6) ∧ vp_in (mI M 173 v6 s0.toNatClampNeg) (mL M 148 v5) ∧ w_Model_value_j98 this Q v3 v4 v6 s0 (mI M 148 v5 (mI M 173 v6 s0.toNatClampNeg).toNatClampNeg) v4 M) else (vp_in s0 (mL M 175 v6) ∧ w_Model_value_j98 this Q v3 v4 v6 s0 (mI M 175 v6 s0.toNatClampNeg) v4 M))
def w_Model_value (this : Nat) (a1 : Int32) (a2 : Int32) (a3 : Int32) (a4 : Int32) (Q : Int32 → Mem → Prop) (M : Mem) : Prop :=
  w_Model_isWorld this a1 (fun r2 M1 => if r2 = 0 then (Q (-1 : Int32) M1) else (w_Model_isThread a2 (fun r5 M4 => if r5 = 0 then (Q (-1 : Int32) M4) else (if 0 ≤ a4 then (vp_in a1 (mL M4 703 0) ∧ ∃ i9, (mR M4 703 0 a1.toNatClampNeg) = some (12, i9) ∧ vp_in a2 (mL M4 704 i9) ∧ ∃ i11, (mR M4 704 i9 a2.toNatClampNeg) = some (13, i11) ∧ if (mI M4 13 i11 0) = (-2 : Int32) then (w_Model_value_j60 this Q a3 a4 i9 i11 (-1 : Int32) M4) else (w_Model_value_j60 this Q a3 a4 i9 i11 ((mI M4 13 i11 22) - (1 : Int32)) M4)) else (Q (-1 : Int32) M4))) M1)) M
set_option maxRecDepth 4096 in
theorem lk_Model_value_j133 {γ : Gm} (hγ : Gk γ) (this : Nat) (Q : Int32 → Mem → Prop) (v6 : Nat) (s0 : Int32) (s1 : Int32) (M : Mem) (h : w_Model_value_j133 this Q v6 s0 s1 M) : E γ k_Model_value 1 133 [none, none, none, none, none, none, some (vr (some (13, v6))), none, none] [vi s0, vi s1] M (Qi Q) := by
  unfold w_Model_value_j133 at h
  obtain ⟨c19, c20, h⟩ := h
  refine E_blk (lv' := [none, none, none, none, none, none, some (vr (some (13, v6))), none, some (vi (s1 + s0))]) (st' := [vi (mI M 525 v6 (s1 + s0).toNatClampNeg), vi (mI M 176 v6 (s1 + s0).toNatClampNeg)]) (M1 := M) (pc' := 152) (tb_Model hγ) [.iadd, .istore 8, .aload 6, .getfield 936, .iload 8, .iaload, .aload 6, .getfield 939, .iload 8, .baload] (by decide +kernel) rfl rfl ⟨c19, c20, trivial⟩ ?_
  refine E_callS (κ' := k_Model_shown) (As := [vi (mI M 176 v6 (s1 + s0).toNatClampNeg), vi (mI M 525 v6 (s1 + s0).toNatClampNeg)]) (st := []) ms_Model_shown (Or.inl (tbk_mem (j := 17) (k := 15) rfl)) rfl (by decide +kernel) (Nat.le_of_ble_eq_true rfl) (Nat.le_of_ble_eq_true rfl) rfl (by decide) (lk_Model_shown hγ (mI M 176 v6 (s1 + s0).toNatClampNeg) (mI M 525 v6 (s1 + s0).toNatClampNeg) _ M h) (fun _ _ => Qi_r) (fun v M21 hp => Qi_k (R := fun st => E γ k_Model_value 1 155 [none, none, none, none, none, none, some (vr (some (13, v6))), none, some (vi (s1 + s0))] st M21 (Qi Q)) hp (fun r22 h => ?_))
  exact E_iret rfl (by decide +kernel) h
set_option maxRecDepth 4096 in
theorem lk_Model_value_j98 {γ : Gm} (hγ : Gk γ) (this : Nat) (Q : Int32 → Mem → Prop) (v3 : Int32) (v4 : Int32) (v6 : Nat) (v7 : Int32) (s0 : Int32) (s1 : Int32) (M : Mem) (h : w_Model_value_j98 this Q v3 v4 v6 v7 s0 s1 M) : E γ k_Model_value 1 98 [none, none, none, some (vi v3), some (vi v4), none, some (vr (some (13, v6))), some (vi v7), none] [vi s0, vi s1] M (Qi Q) := by
  unfold w_Model_value_j98 at h
  refine E_icmp_lt (off := 5) (tgt := 103) (by decide +kernel) (by decide) (fun b17 => ?_) (fun b17 => ?_)
  · rw [if_pos b17] at h
    refine E_blk (lv' := [none, none, none, some (vi v3), some (vi v4), none, some (vr (some (13, v6))), some (vi v7), none]) (st' := [vi v3, vi ((44 : Int32) * v7)]) (M1 := M) (pc' := 109) (tb_Model hγ) [.bipush 44, .iload 7, .imul, .iload_n 3] (by decide +kernel) rfl rfl trivial ?_
    refine E_if_eq (off := 22) (tgt := 131) (by decide +kernel) (by decide) (fun b18 => ?_) (fun b18 => ?_)
    · rw [if_pos b18] at h
      refine E_blk (lv' := [none, none, none, some (vi v3), some (vi v4), none, some (vr (some (13, v6))), some (vi v7), none]) (st' := [vi v4, vi ((44 : Int32) * v7)]) (M1 := M) (pc' := 133) (tb_Model hγ) [.iload 4] (by decide +kernel) rfl rfl trivial ?_
      refine E_mask [false, false, false, false, false, false, true, false, false] rfl ?_
      exact lk_Model_value_j133 hγ this Q v6 v4 ((44 : Int32) * v7) M h
    · rw [if_neg b18] at h
      obtain ⟨c23, h⟩ := h
      refine E_blk (lv' := [none, none, none, some (vi v3), some (vi v4), none, some (vr (some (13, v6))), some (vi v7), none]) (st' := [vi ((((20 : Int32) + (mI M 175 v6 v7.toNatClampNeg)) - (1 : Int32)) - v4), vi ((44 : Int32) * v7)]) (M1 := M) (pc' := 128) (tb_Model hγ) [.bipush 20, .aload 6, .getfield 933, .iload 7, .iaload, .iadd, .iconst 1, .isub, .iload 4, .isub] (by decide +kernel) rfl rfl ⟨c23, trivial⟩ ?_
      refine E_goto (off := 5) (tgt := 133) (by decide +kernel) (by decide) ?_
      refine E_mask [false, false, false, false, false, false, true, false, false] rfl ?_
      exact lk_Model_value_j133 hγ this Q v6 ((((20 : Int32) + (mI M 175 v6 v7.toNatClampNeg)) - (1 : Int32)) - v4) ((44 : Int32) * v7) M h
  · rw [if_neg b17] at h
    refine E_blk (lv' := [none, none, none, some (vi v3), some (vi v4), none, some (vr (some (13, v6))), some (vi v7), none]) (st' := [vi (-1 : Int32)]) (M1 := M) (pc' := 102) (tb_Model hγ) [.iconst (.negSucc 0)] (by decide +kernel) rfl rfl trivial ?_
    exact E_iret rfl (by decide +kernel) h
set_option maxRecDepth 4096 in
theorem lk_Model_value_j60 {γ : Gm} (hγ : Gk γ) (this : Nat) (Q : Int32 → Mem → Prop) (v3 : Int32) (v4 : Int32) (v5 : Nat) (v6 : Nat) (s0 : Int32) (M : Mem) (h : w_Model_value_j60 this Q v3 v4 v5 v6 s0 M) : E γ k_Model_value 1 60 [none, none, none, some (vi v3), some (vi v4), some (vr (some (12, v5))), some (vr (some (13, v6))), none, none] [vi s0] M (Qi Q) := by
  unfold w_Model_value_j60 at h
  refine E_blk (lv' := [none, none, none, some (vi v3), some (vi v4), some (vr (some (12, v5))), some (vr (some (13, v6))), some (vi s0), none]) (st' := [vi s0]) (M1 := M) (pc' := 64) (tb_Model hγ) [.istore 7, .iload 7] (by decide +kernel) rfl rfl trivial ?_
  refine E_if_lt (off := 37) (tgt := 101) (by decide +kernel) (by decide) (fun b13 => ?_) (fun b13 => ?_)
  · rw [if_pos b13] at h
    refine E_blk (lv' := [none, none, none, some (vi v3), some (vi v4), some (vr (some (12, v5))), some (vr (some (13, v6))), some (vi s0), none]) (st' := [vi (-1 : Int32)]) (M1 := M) (pc' := 102) (tb_Model hγ) [.iconst (.negSucc 0)] (by decide +kernel) rfl rfl trivial ?_
    exact E_iret rfl (by decide +kernel) h
  · rw [if_neg b13] at h
    refine E_blk (lv' := [none, none, none, some (vi v3), some (vi v4), some (vr (some (12, v5))), some (vr (some (13, v6))), some (vi s0), none]) (st' := [vi v3, vi v4]) (M1 := M) (pc' := 70) (tb_Model hγ) [.iload 4, .iload_n 3] (by decide +kernel) rfl rfl trivial ?_
    refine E_if_eq (off := 14) (tgt := 84) (by decide +kernel) (by decide) (fun b14 => ?_) (fun b14 => ?_)
    · rw [if_pos b14] at h
      obtain ⟨c15, c16, h⟩ := h
      refine E_blk (lv' := [none, none, none, some (vi v3), some (vi v4), some (vr (some (12, v5))), some (vr (some (13, v6))), some (vi s0), none]) (st' := [vi (mI M 148 v5 (mI M 173 v6 s0.toNatClampNeg).toNatClampNeg), vi v4]) (M1 := M) (pc' := 98) (tb_Model hγ) [.aload 5, .getfield 459, .aload 6, .getfield 927, .iload 7, .iaload, .iaload] (by decide +kernel) rfl rfl ⟨c15, c16, trivial⟩ ?_
      refine E_mask [false, false, false, true, true, false, true, true, false] rfl ?_
      exact lk_Model_value_j98 hγ this Q v3 v4 v6 s0 (mI M 148 v5 (mI M 173 v6 s0.toNatClampNeg).toNatClampNeg) v4 M h
    · rw [if_neg b14] at h
      obtain ⟨c24, h⟩ := h
      refine E_blk (lv' := [none, none, none, some (vi v3), some (vi v4), some (vr (some (12, v5))), some (vr (some (13, v6))), some (vi s0), none]) (st' := [vi (mI M 175 v6 s0.toNatClampNeg), vi v4]) (M1 := M) (pc' := 81) (tb_Model hγ) [.aload 6, .getfield 933, .iload 7, .iaload] (by decide +kernel) rfl rfl ⟨c24, trivial⟩ ?_
      refine E_goto (off := 17) (tgt := 98) (by decide +kernel) (by decide) ?_
      refine E_mask [false, false, false, true, true, false, true, true, false] rfl ?_
      exact lk_Model_value_j98 hγ this Q v3 v4 v6 s0 (mI M 175 v6 s0.toNatClampNeg) v4 M h
set_option maxRecDepth 4096 in
theorem lk_Model_value {γ : Gm} (hγ : Gk γ) (this : Nat) (a1 : Int32) (a2 : Int32) (a3 : Int32) (a4 : Int32) (Q : Int32 → Mem → Prop) (M : Mem) (h : w_Model_value this a1 a2 a3 a4 Q M) : E γ k_Model_value 1 0 [some (vr (some (11, this))), some (vi a1), some (vi a2), some (vi a3), some (vi a4), none, none, none, none] [] M (Qi Q) := by
  unfold w_Model_value at h
  refine E_blk (lv' := [some (vr (some (11, this))), some (vi a1), some (vi a2), some (vi a3), some (vi a4), none, none, none, none]) (st' := [vi a1, vr (some (11, this))]) (M1 := M) (pc' := 2) (tb_Model hγ) [.aload_n 0, .iload_n 1] (by decide +kernel) rfl rfl trivial ?_
  refine E_callV (κ' := k_Model_isWorld) (As := [vi a1]) (st := []) mv_Model_isWorld (Or.inl (tbk_mem (j := 14) (k := 190) rfl)) rfl (by decide +kernel) (Nat.le_of_ble_eq_true rfl) (Nat.le_of_ble_eq_true rfl) rfl (by decide) (lk_Model_isWorld hγ this a1 _ M h) (fun _ _ => Qi_r) (fun v M1 hp => Qi_k (R := fun st => E γ k_Model_value 1 5 [some (vr (some (11, this))), some (vi a1), some (vi a2), some (vi a3), some (vi a4), none, none, none, none] st M1 (Qi Q)) hp (fun r2 h => ?_))
  refine E_if_eq (off := 15) (tgt := 20) (by decide +kernel) (by decide) (fun b3 => ?_) (fun b3 => ?_)
  · rw [if_pos b3] at h
    refine E_blk (lv' := [some (vr (some (11, this))), some (vi a1), some (vi a2), some (vi a3), some (vi a4), none, none, none, none]) (st' := [vi (-1 : Int32)]) (M1 := M1) (pc' := 21) (tb_Model hγ) [.iconst (.negSucc 0)] (by decide +kernel) rfl rfl trivial ?_
    exact E_iret rfl (by decide +kernel) h
  · rw [if_neg b3] at h
    refine E_blk (lv' := [some (vr (some (11, this))), some (vi a1), some (vi a2), some (vi a3), some (vi a4), none, none, none, none]) (st' := [vi a2]) (M1 := M1) (pc' := 9) (tb_Model hγ) [.iload_n 2] (by decide +kernel) rfl rfl trivial ?_
    refine E_callS (κ' := k_Model_isThread) (As := [vi a2]) (st := []) ms_Model_isThread (Or.inl (tbk_mem (j := 16) (k := 23) rfl)) rfl (by decide +kernel) (Nat.le_of_ble_eq_true rfl) (Nat.le_of_ble_eq_true rfl) rfl (by decide) (lk_Model_isThread hγ a2 _ M1 h) (fun _ _ => Qi_r) (fun v M4 hp => Qi_k (R := fun st => E γ k_Model_value 1 12 [some (vr (some (11, this))), some (vi a1), some (vi a2), some (vi a3), some (vi a4), none, none, none, none] st M4 (Qi Q)) hp (fun r5 h => ?_))
    refine E_if_eq (off := 8) (tgt := 20) (by decide +kernel) (by decide) (fun b6 => ?_) (fun b6 => ?_)
    · rw [if_pos b6] at h
      refine E_blk (lv' := [some (vr (some (11, this))), some (vi a1), some (vi a2), some (vi a3), some (vi a4), none, none, none, none]) (st' := [vi (-1 : Int32)]) (M1 := M4) (pc' := 21) (tb_Model hγ) [.iconst (.negSucc 0)] (by decide +kernel) rfl rfl trivial ?_
      exact E_iret rfl (by decide +kernel) h
    · rw [if_neg b6] at h
      refine E_blk (lv' := [some (vr (some (11, this))), some (vi a1), some (vi a2), some (vi a3), some (vi a4), none, none, none, none]) (st' := [vi a4]) (M1 := M4) (pc' := 17) (tb_Model hγ) [.iload 4] (by decide +kernel) rfl rfl trivial ?_
      refine E_if_ge (off := 5) (tgt := 22) (by decide +kernel) (by decide) (fun b7 => ?_) (fun b7 => ?_)
      · rw [if_pos b7] at h
        obtain ⟨c8, h⟩ := h
        refine E_blk (lv' := [some (vr (some (11, this))), some (vi a1), some (vi a2), some (vi a3), some (vi a4), none, none, none, none]) (st' := [vr (mR M4 703 0 a1.toNatClampNeg)]) (M1 := M4) (pc' := 28) (tb_Model hγ) [.aload_n 0, .getfield 263, .iload_n 1, .aaload] (by decide +kernel) rfl rfl ⟨c8, trivial⟩ ?_
        obtain ⟨i9, ei9, h⟩ := h
        rw [ei9]
        obtain ⟨c10, h⟩ := h
        refine E_blk (lv' := [some (vr (some (11, this))), some (vi a1), some (vi a2), some (vi a3), some (vi a4), some (vr (some (12, i9))), none, none, none]) (st' := [vr (mR M4 704 i9 a2.toNatClampNeg)]) (M1 := M4) (pc' := 37) (tb_Model hγ) [.astore 5, .aload 5, .getfield 406, .iload_n 2, .aaload] (by decide +kernel) rfl rfl ⟨c10, trivial⟩ ?_
        obtain ⟨i11, ei11, h⟩ := h
        rw [ei11]
        refine E_blk (lv' := [some (vr (some (11, this))), some (vi a1), some (vi a2), some (vi a3), some (vi a4), some (vr (some (12, i9))), some (vr (some (13, i11))), none, none]) (st' := [vi (-2 : Int32), vi (mI M4 13 i11 0)]) (M1 := M4) (pc' := 46) (tb_Model hγ) [.astore 6, .aload 6, .getfield 486, .bipush (.negSucc 1)] (by decide +kernel) rfl rfl trivial ?_
        refine E_icmp_ne (off := 7) (tgt := 53) (by decide +kernel) (by decide) (fun b12 => ?_) (fun b12 => ?_)
        · rw [if_pos b12] at h
          refine E_blk (lv' := [some (vr (some (11, this))), some (vi a1), some (vi a2), some (vi a3), some (vi a4), some (vr (some (12, i9))), some (vr (some (13, i11))), none, none]) (st' := [vi (-1 : Int32)]) (M1 := M4) (pc' := 50) (tb_Model hγ) [.iconst (.negSucc 0)] (by decide +kernel) rfl rfl trivial ?_
          refine E_goto (off := 10) (tgt := 60) (by decide +kernel) (by decide) ?_
          refine E_mask [false, false, false, true, true, true, true, false, false] rfl ?_
          exact lk_Model_value_j60 hγ this Q a3 a4 i9 i11 (-1 : Int32) M4 h
        · rw [if_neg b12] at h
          refine E_blk (lv' := [some (vr (some (11, this))), some (vi a1), some (vi a2), some (vi a3), some (vi a4), some (vr (some (12, i9))), some (vr (some (13, i11))), none, none]) (st' := [vi ((mI M4 13 i11 22) - (1 : Int32))]) (M1 := M4) (pc' := 60) (tb_Model hγ) [.aload 6, .getfield 924, .iconst 1, .isub] (by decide +kernel) rfl rfl trivial ?_
          refine E_mask [false, false, false, true, true, true, true, false, false] rfl ?_
          exact lk_Model_value_j60 hγ this Q a3 a4 i9 i11 ((mI M4 13 i11 22) - (1 : Int32)) M4 h
      · rw [if_neg b7] at h
        refine E_blk (lv' := [some (vr (some (11, this))), some (vi a1), some (vi a2), some (vi a3), some (vi a4), none, none, none, none]) (st' := [vi (-1 : Int32)]) (M1 := M4) (pc' := 21) (tb_Model hγ) [.iconst (.negSucc 0)] (by decide +kernel) rfl rfl trivial ?_
        exact E_iret rfl (by decide +kernel) h
def w_Model_fixed_j88 (this : Nat) (Q : Int32 → Mem → Prop) (s0 : Int32) (s1 : Int32) (M : Mem) : Prop :=
  w_Model_shown s1 s0 (fun r17 M16 => Q r17 M16) M
def w_Model_fixed (this : Nat) (a1 : Int32) (a2 : Int32) (a3 : Int32) (Q : Int32 → Mem → Prop) (M : Mem) : Prop :=
  w_Model_isClass this a1 a2 (fun r2 M1 => if r2 = 0 then (Q (-1 : Int32) M1) else (if a3 < 0 then (Q (-1 : Int32) M1) else (vp_in a1 (mL M1 703 0) ∧ ∃ i6, (mR M1 703 0 a1.toNatClampNeg) = some (12, i6) ∧ vp_in a2 (mL M1 135 i6) ∧ if a3 < (mI M1 135 i6 a2.toNatClampNeg) then (vp_in a1 (mL M1 703 0) ∧ ∃ i10, (mR M1 703 0 a1.toNatClampNeg) = some (12, i10) ∧ vp_in (((8 : Int32) * a2) + a3) (mL M1 141 i10) ∧ if ((mI M1 141 i10 (((8 : Int32) * a2) + a3).toNatClampNeg) &&& (1 : Int32)) = 0 then (Q (-1 : Int32) M1) else (vp_in (((8 : Int32) * a2) + a3) (mL M1 143 i10) ∧ vp_in (((8 : Int32) * a2) + a3) (mL M1 140 i10) ∧ if (mI M1 140 i10 (((8 : Int32) * a2) + a3).toNatClampNeg) = (1 : Int32) then (w_Model_fixed_j88 this Q (0 : Int32) (mI M1 143 i10 (((8 : Int32) * a2) + a3).toNatClampNeg) M1) else (w_Model_fixed_j88 this Q (1 : Int32) (mI M1 143 i10 (((8 : Int32) * a2) + a3).toNatClampNeg) M1))) else (Q (-1 : Int32) M1)))) M
set_option maxRecDepth 4096 in
theorem lk_Model_fixed_j88 {γ : Gm} (hγ : Gk γ) (this : Nat) (Q : Int32 → Mem → Prop) (s0 : Int32) (s1 : Int32) (M : Mem) (h : w_Model_fixed_j88 this Q s0 s1 M) : E γ k_Model_fixed 2 88 [none, none, none, none, none, none] [vi s0, vi s1] M (Qi Q) := by
  unfold w_Model_fixed_j88 at h
  refine E_callS (κ' := k_Model_shown) (As := [vi s1, vi s0]) (st := []) ms_Model_shown (Or.inl (tbk_mem (j := 17) (k := 15) rfl)) rfl (by decide +kernel) (Nat.le_of_ble_eq_true rfl) (Nat.le_of_ble_eq_true rfl) rfl (by decide) (lk_Model_shown hγ s1 s0 _ M h) (fun _ _ => Qi_r) (fun v M16 hp => Qi_k (R := fun st => E γ k_Model_fixed 2 91 [none, none, none, none, none, none] st M16 (Qi Q)) hp (fun r17 h => ?_))
  exact E_iret rfl (by decide +kernel) h
set_option maxRecDepth 4096 in
theorem lk_Model_fixed {γ : Gm} (hγ : Gk γ) (this : Nat) (a1 : Int32) (a2 : Int32) (a3 : Int32) (Q : Int32 → Mem → Prop) (M : Mem) (h : w_Model_fixed this a1 a2 a3 Q M) : E γ k_Model_fixed 2 0 [some (vr (some (11, this))), some (vi a1), some (vi a2), some (vi a3), none, none] [] M (Qi Q) := by
  unfold w_Model_fixed at h
  refine E_blk (lv' := [some (vr (some (11, this))), some (vi a1), some (vi a2), some (vi a3), none, none]) (st' := [vi a2, vi a1, vr (some (11, this))]) (M1 := M) (pc' := 3) (tb_Model hγ) [.aload_n 0, .iload_n 1, .iload_n 2] (by decide +kernel) rfl rfl trivial ?_
  refine E_callV (κ' := k_Model_isClass) (As := [vi a1, vi a2]) (st := []) mv_Model_isClass (Or.inl (tbk_mem (j := 15) (k := 129) rfl)) rfl (by decide +kernel) (Nat.le_of_ble_eq_true rfl) (Nat.le_of_ble_eq_true rfl) rfl (by decide) (lk_Model_isClass hγ this a1 a2 _ M h) (fun _ _ => Qi_r) (fun v M1 hp => Qi_k (R := fun st => E γ k_Model_fixed 2 6 [some (vr (some (11, this))), some (vi a1), some (vi a2), some (vi a3), none, none] st M1 (Qi Q)) hp (fun r2 h => ?_))
  refine E_if_eq (off := 22) (tgt := 28) (by decide +kernel) (by decide) (fun b3 => ?_) (fun b3 => ?_)
  · rw [if_pos b3] at h
    refine E_blk (lv' := [some (vr (some (11, this))), some (vi a1), some (vi a2), some (vi a3), none, none]) (st' := [vi (-1 : Int32)]) (M1 := M1) (pc' := 29) (tb_Model hγ) [.iconst (.negSucc 0)] (by decide +kernel) rfl rfl trivial ?_
    exact E_iret rfl (by decide +kernel) h
  · rw [if_neg b3] at h
    refine E_blk (lv' := [some (vr (some (11, this))), some (vi a1), some (vi a2), some (vi a3), none, none]) (st' := [vi a3]) (M1 := M1) (pc' := 10) (tb_Model hγ) [.iload_n 3] (by decide +kernel) rfl rfl trivial ?_
    refine E_if_lt (off := 18) (tgt := 28) (by decide +kernel) (by decide) (fun b4 => ?_) (fun b4 => ?_)
    · rw [if_pos b4] at h
      refine E_blk (lv' := [some (vr (some (11, this))), some (vi a1), some (vi a2), some (vi a3), none, none]) (st' := [vi (-1 : Int32)]) (M1 := M1) (pc' := 29) (tb_Model hγ) [.iconst (.negSucc 0)] (by decide +kernel) rfl rfl trivial ?_
      exact E_iret rfl (by decide +kernel) h
    · rw [if_neg b4] at h
      obtain ⟨c5, h⟩ := h
      refine E_blk (lv' := [some (vr (some (11, this))), some (vi a1), some (vi a2), some (vi a3), none, none]) (st' := [vr (mR M1 703 0 a1.toNatClampNeg), vi a3]) (M1 := M1) (pc' := 20) (tb_Model hγ) [.iload_n 3, .aload_n 0, .getfield 263, .iload_n 1, .aaload] (by decide +kernel) rfl rfl ⟨c5, trivial⟩ ?_
      obtain ⟨i6, ei6, h⟩ := h
      rw [ei6]
      obtain ⟨c7, h⟩ := h
      refine E_blk (lv' := [some (vr (some (11, this))), some (vi a1), some (vi a2), some (vi a3), none, none]) (st' := [vi (mI M1 135 i6 a2.toNatClampNeg), vi a3]) (M1 := M1) (pc' := 25) (tb_Model hγ) [.getfield 435, .iload_n 2, .iaload] (by decide +kernel) rfl rfl ⟨c7, trivial⟩ ?_
      refine E_icmp_lt (off := 5) (tgt := 30) (by decide +kernel) (by decide) (fun b8 => ?_) (fun b8 => ?_)
      · rw [if_pos b8] at h
        obtain ⟨c9, h⟩ := h
        refine E_blk (lv' := [some (vr (some (11, this))), some (vi a1), some (vi a2), some (vi a3), none, none]) (st' := [vr (mR M1 703 0 a1.toNatClampNeg)]) (M1 := M1) (pc' := 36) (tb_Model hγ) [.aload_n 0, .getfield 263, .iload_n 1, .aaload] (by decide +kernel) rfl rfl ⟨c9, trivial⟩ ?_
        obtain ⟨i10, ei10, h⟩ := h
        rw [ei10]
        obtain ⟨c11, h⟩ := h
        refine E_blk (lv' := [some (vr (some (11, this))), some (vi a1), some (vi a2), some (vi a3), some (vr (some (12, i10))), some (vi (((8 : Int32) * a2) + a3))]) (st' := [vi ((mI M1 141 i10 (((8 : Int32) * a2) + a3).toNatClampNeg) &&& (1 : Int32))]) (M1 := M1) (pc' := 56) (tb_Model hγ) [.astore 4, .bipush 8, .iload_n 2, .imul, .iload_n 3, .iadd, .istore 5, .aload 4, .getfield 627, .iload 5, .iaload, .iconst 1, .iand] (by decide +kernel) rfl rfl ⟨c11, trivial⟩ ?_
        refine E_if_ne (off := 7) (tgt := 63) (by decide +kernel) (by decide) (fun b12 => ?_) (fun b12 => ?_)
        · rw [if_pos b12] at h
          refine E_blk (lv' := [some (vr (some (11, this))), some (vi a1), some (vi a2), some (vi a3), some (vr (some (12, i10))), some (vi (((8 : Int32) * a2) + a3))]) (st' := [vi (-1 : Int32)]) (M1 := M1) (pc' := 60) (tb_Model hγ) [.iconst (.negSucc 0)] (by decide +kernel) rfl rfl trivial ?_
          refine E_goto (off := 31) (tgt := 91) (by decide +kernel) (by decide) ?_
          exact E_iret rfl (by decide +kernel) h
        · rw [if_neg b12] at h
          obtain ⟨c13, c14, h⟩ := h
          refine E_blk (lv' := [some (vr (some (11, this))), some (vi a1), some (vi a2), some (vi a3), some (vr (some (12, i10))), some (vi (((8 : Int32) * a2) + a3))]) (st' := [vi (1 : Int32), vi (mI M1 140 i10 (((8 : Int32) * a2) + a3).toNatClampNeg), vi (mI M1 143 i10 (((8 : Int32) * a2) + a3).toNatClampNeg)]) (M1 := M1) (pc' := 80) (tb_Model hγ) [.aload 4, .getfield 636, .iload 5, .iaload, .aload 4, .getfield 624, .iload 5, .iaload, .iconst 1] (by decide +kernel) rfl rfl ⟨c13, c14, trivial⟩ ?_
          refine E_icmp_eq (off := 7) (tgt := 87) (by decide +kernel) (by decide) (fun b15 => ?_) (fun b15 => ?_)
          · rw [if_pos b15] at h
            refine E_blk (lv' := [some (vr (some (11, this))), some (vi a1), some (vi a2), some (vi a3), some (vr (some (12, i10))), some (vi (((8 : Int32) * a2) + a3))]) (st' := [vi (0 : Int32), vi (mI M1 143 i10 (((8 : Int32) * a2) + a3).toNatClampNeg)]) (M1 := M1) (pc' := 88) (tb_Model hγ) [.iconst 0] (by decide +kernel) rfl rfl trivial ?_
            refine E_mask [false, false, false, false, false, false] rfl ?_
            exact lk_Model_fixed_j88 hγ this Q (0 : Int32) (mI M1 143 i10 (((8 : Int32) * a2) + a3).toNatClampNeg) M1 h
          · rw [if_neg b15] at h
            refine E_blk (lv' := [some (vr (some (11, this))), some (vi a1), some (vi a2), some (vi a3), some (vr (some (12, i10))), some (vi (((8 : Int32) * a2) + a3))]) (st' := [vi (1 : Int32), vi (mI M1 143 i10 (((8 : Int32) * a2) + a3).toNatClampNeg)]) (M1 := M1) (pc' := 84) (tb_Model hγ) [.iconst 1] (by decide +kernel) rfl rfl trivial ?_
            refine E_goto (off := 4) (tgt := 88) (by decide +kernel) (by decide) ?_
            refine E_mask [false, false, false, false, false, false] rfl ?_
            exact lk_Model_fixed_j88 hγ this Q (1 : Int32) (mI M1 143 i10 (((8 : Int32) * a2) + a3).toNatClampNeg) M1 h
      · rw [if_neg b8] at h
        refine E_blk (lv' := [some (vr (some (11, this))), some (vi a1), some (vi a2), some (vi a3), none, none]) (st' := [vi (-1 : Int32)]) (M1 := M1) (pc' := 29) (tb_Model hγ) [.iconst (.negSucc 0)] (by decide +kernel) rfl rfl trivial ?_
        exact E_iret rfl (by decide +kernel) h
def w_Model_isRefField_j124 (this : Nat) (Q : Int32 → Mem → Prop) (k62 : Int32 → Int32 → Int32 → Mem → Prop) (v3 : Int32) (v5 : Int32) (v6 : Int32) (M : Mem) : Prop :=
  k62 v3 v5 (v6 + (1 : Int32)) M
def w_Model_isRefField_L62 (this : Nat) (Q : Int32 → Mem → Prop) : Nat → Int32 → Int32 → Int32 → Mem → Prop
  | 0, _, _, _, _ => False
  | n + 1, v3, v5, v6, M => ∃ i5, (mR M 11 this 45) = some (12, i5) ∧ vp_in v3 (mL M 135 i5) ∧ if (((8 : Int32) * v3) + (mI M 135 i5 v3.toNatClampNeg)) ≤ v6 then (Q (0 : Int32) M) else (∃ i8, (mR M 11 this 45) = some (12, i8) ∧ vp_in v6 (mL M 141 i8) ∧ if ((mI M 141 i8 v6.toNatClampNeg) &&& (1 : Int32)) = 0 then (if v5 = 0 then (∃ i12, (mR M 11 this 45) = some (12, i12) ∧ vp_in v6 (mL M 140 i12) ∧ if (mI M 140 i12 v6.toNatClampNeg) = (1 : Int32) then (Q (0 : Int32) M) else (Q (1 : Int32) M)) else (w_Model_isRefField_j124 this Q (w_Model_isRefField_L62 this Q n) v3 (v5 + (-1 : Int32)) v6 M)) else (w_Model_isRefField_j124 this Q (w_Model_isRefField_L62 this Q n) v3 v5 v6 M))
def w_Model_isRefField_j53 (this : Nat) (Q : Int32 → Mem → Prop) (v3 : Int32) (s0 : Int32) (s1 : Int32) (M : Mem) : Prop :=
  ∃ n15 : Nat, w_Model_isRefField_L62 this Q n15 v3 (s1 - s0) ((8 : Int32) * v3) M
def w_Model_isRefField_j37 (this : Nat) (Q : Int32 → Mem → Prop) (v2 : Int32) (v3 : Int32) (v4 : Int32) (M : Mem) : Prop :=
  if v4 < 0 then (w_Model_isRefField_j53 this Q v3 (0 : Int32) v2 M) else (w_Model_fieldsOf this v4 (fun r17 M16 => w_Model_isRefField_j53 this Q v3 r17 v2 M16) M)
def w_Model_isRefField_L9 (this : Nat) (Q : Int32 → Mem → Prop) : Nat → Int32 → Int32 → Int32 → Mem → Prop
  | 0, _, _, _, _ => False
  | n + 1, v2, v3, v4, M => if v4 < 0 then (w_Model_isRefField_j37 this Q v2 v3 v4 M) else (w_Model_fieldsOf this v4 (fun r19 M18 => if r19 ≤ v2 then (w_Model_isRefField_j37 this Q v2 v3 v4 M18) else (w_Model_parentOf this v4 (fun r22 M21 => (w_Model_isRefField_L9 this Q n) v2 v4 r22 M21) M18)) M)
def w_Model_isRefField (this : Nat) (a1 : Int32) (a2 : Int32) (Q : Int32 → Mem → Prop) (M : Mem) : Prop :=
  w_Model_parentOf this a1 (fun r2 M1 => ∃ n23 : Nat, w_Model_isRefField_L9 this Q n23 a2 a1 r2 M1) M
set_option maxRecDepth 4096 in
theorem lk_Model_isRefField_j124 {γ : Gm} (hγ : Gk γ) (this : Nat) (Q : Int32 → Mem → Prop) (k62 : Int32 → Int32 → Int32 → Mem → Prop) (hk62 : ∀ (v3 : Int32) (v5 : Int32) (v6 : Int32) (M : Mem), k62 v3 v5 v6 M → E γ k_Model_isRefField 3 62 [some (vr (some (11, this))), none, none, some (vi v3), none, some (vi v5), some (vi v6)] [] M (Qi Q)) (v3 : Int32) (v5 : Int32) (v6 : Int32) (M : Mem) (h : w_Model_isRefField_j124 this Q k62 v3 v5 v6 M) : E γ k_Model_isRefField 3 124 [some (vr (some (11, this))), none, none, some (vi v3), none, some (vi v5), some (vi v6)] [] M (Qi Q) := by
  unfold w_Model_isRefField_j124 at h
  refine E_blk (lv' := [some (vr (some (11, this))), none, none, some (vi v3), none, some (vi v5), some (vi (v6 + (1 : Int32)))]) (st' := []) (M1 := M) (pc' := 127) (tb_Model hγ) [.iinc 6 1] (by decide +kernel) rfl rfl trivial ?_
  refine E_goto (off := -65) (tgt := 62) (by decide +kernel) (by decide) ?_
  refine E_mask [true, false, false, true, false, true, true] rfl ?_
  exact hk62 v3 v5 (v6 + (1 : Int32)) M h
set_option maxRecDepth 4096 in
theorem lk_Model_isRefField_L62 {γ : Gm} (hγ : Gk γ) (this : Nat) (Q : Int32 → Mem → Prop) : ∀ (n : Nat) (v3 : Int32) (v5 : Int32) (v6 : Int32) (M : Mem), w_Model_isRefField_L62 this Q n v3 v5 v6 M → E γ k_Model_isRefField 3 62 [some (vr (some (11, this))), none, none, some (vi v3), none, some (vi v5), some (vi v6)] [] M (Qi Q) := by
  intro n
  induction n with
  | zero => intro v3 v5 v6 M h; exact h.elim
  | succ n ih =>
    intro v3 v5 v6 M h
    unfold w_Model_isRefField_L62 at h
    refine E_blk (lv' := [some (vr (some (11, this))), none, none, some (vi v3), none, some (vi v5), some (vi v6)]) (st' := [vr (mR M 11 this 45), vi ((8 : Int32) * v3), vi v6]) (M1 := M) (pc' := 72) (tb_Model hγ) [.iload 6, .bipush 8, .iload_n 3, .imul, .aload_n 0, .getfield 522] (by decide +kernel) rfl rfl trivial ?_
    obtain ⟨i5, ei5, h⟩ := h
    rw [ei5]
    obtain ⟨c6, h⟩ := h
    refine E_blk (lv' := [some (vr (some (11, this))), none, none, some (vi v3), none, some (vi v5), some (vi v6)]) (st' := [vi (((8 : Int32) * v3) + (mI M 135 i5 v3.toNatClampNeg)), vi v6]) (M1 := M) (pc' := 78) (tb_Model hγ) [.getfield 435, .iload_n 3, .iaload, .iadd] (by decide +kernel) rfl rfl ⟨c6, trivial⟩ ?_
    refine E_icmp_ge (off := 52) (tgt := 130) (by decide +kernel) (by decide) (fun b7 => ?_) (fun b7 => ?_)
    · rw [if_pos b7] at h
      refine E_blk (lv' := [some (vr (some (11, this))), none, none, some (vi v3), none, some (vi v5), some (vi v6)]) (st' := [vi (0 : Int32)]) (M1 := M) (pc' := 131) (tb_Model hγ) [.iconst 0] (by decide +kernel) rfl rfl trivial ?_
      exact E_zret rfl (Or.inl rfl) (by decide +kernel) h
    · rw [if_neg b7] at h
      refine E_blk (lv' := [some (vr (some (11, this))), none, none, some (vi v3), none, some (vi v5), some (vi v6)]) (st' := [vr (mR M 11 this 45)]) (M1 := M) (pc' := 85) (tb_Model hγ) [.aload_n 0, .getfield 522] (by decide +kernel) rfl rfl trivial ?_
      obtain ⟨i8, ei8, h⟩ := h
      rw [ei8]
      obtain ⟨c9, h⟩ := h
      refine E_blk (lv' := [some (vr (some (11, this))), none, none, some (vi v3), none, some (vi v5), some (vi v6)]) (st' := [vi ((mI M 141 i8 v6.toNatClampNeg) &&& (1 : Int32))]) (M1 := M) (pc' := 93) (tb_Model hγ) [.getfield 627, .iload 6, .iaload, .iconst 1, .iand] (by decide +kernel) rfl rfl ⟨c9, trivial⟩ ?_
      refine E_if_ne (off := 31) (tgt := 124) (by decide +kernel) (by decide) (fun b10 => ?_) (fun b10 => ?_)
      · rw [if_pos b10] at h
        refine E_blk (lv' := [some (vr (some (11, this))), none, none, some (vi v3), none, some (vi v5), some (vi v6)]) (st' := [vi v5]) (M1 := M) (pc' := 98) (tb_Model hγ) [.iload 5] (by decide +kernel) rfl rfl trivial ?_
        refine E_if_ne (off := 23) (tgt := 121) (by decide +kernel) (by decide) (fun b11 => ?_) (fun b11 => ?_)
        · rw [if_pos b11] at h
          refine E_blk (lv' := [some (vr (some (11, this))), none, none, some (vi v3), none, some (vi v5), some (vi v6)]) (st' := [vr (mR M 11 this 45)]) (M1 := M) (pc' := 105) (tb_Model hγ) [.aload_n 0, .getfield 522] (by decide +kernel) rfl rfl trivial ?_
          obtain ⟨i12, ei12, h⟩ := h
          rw [ei12]
          obtain ⟨c13, h⟩ := h
          refine E_blk (lv' := [some (vr (some (11, this))), none, none, some (vi v3), none, some (vi v5), some (vi v6)]) (st' := [vi (1 : Int32), vi (mI M 140 i12 v6.toNatClampNeg)]) (M1 := M) (pc' := 112) (tb_Model hγ) [.getfield 624, .iload 6, .iaload, .iconst 1] (by decide +kernel) rfl rfl ⟨c13, trivial⟩ ?_
          refine E_icmp_eq (off := 7) (tgt := 119) (by decide +kernel) (by decide) (fun b14 => ?_) (fun b14 => ?_)
          · rw [if_pos b14] at h
            refine E_blk (lv' := [some (vr (some (11, this))), none, none, some (vi v3), none, some (vi v5), some (vi v6)]) (st' := [vi (0 : Int32)]) (M1 := M) (pc' := 120) (tb_Model hγ) [.iconst 0] (by decide +kernel) rfl rfl trivial ?_
            exact E_zret rfl (Or.inl rfl) (by decide +kernel) h
          · rw [if_neg b14] at h
            refine E_blk (lv' := [some (vr (some (11, this))), none, none, some (vi v3), none, some (vi v5), some (vi v6)]) (st' := [vi (1 : Int32)]) (M1 := M) (pc' := 116) (tb_Model hγ) [.iconst 1] (by decide +kernel) rfl rfl trivial ?_
            refine E_goto (off := 4) (tgt := 120) (by decide +kernel) (by decide) ?_
            exact E_zret rfl (Or.inr rfl) (by decide +kernel) h
        · rw [if_neg b11] at h
          refine E_blk (lv' := [some (vr (some (11, this))), none, none, some (vi v3), none, some (vi (v5 + (-1 : Int32))), some (vi v6)]) (st' := []) (M1 := M) (pc' := 124) (tb_Model hγ) [.iinc 5 (.negSucc 0)] (by decide +kernel) rfl rfl trivial ?_
          refine E_mask [true, false, false, true, false, true, true] rfl ?_
          exact lk_Model_isRefField_j124 hγ this Q (w_Model_isRefField_L62 this Q n) ih v3 (v5 + (-1 : Int32)) v6 M h
      · rw [if_neg b10] at h
        refine E_mask [true, false, false, true, false, true, true] rfl ?_
        exact lk_Model_isRefField_j124 hγ this Q (w_Model_isRefField_L62 this Q n) ih v3 v5 v6 M h
set_option maxRecDepth 4096 in
theorem lk_Model_isRefField_j53 {γ : Gm} (hγ : Gk γ) (this : Nat) (Q : Int32 → Mem → Prop) (v3 : Int32) (s0 : Int32) (s1 : Int32) (M : Mem) (h : w_Model_isRefField_j53 this Q v3 s0 s1 M) : E γ k_Model_isRefField 3 53 [some (vr (some (11, this))), none, none, some (vi v3), none, none, none] [vi s0, vi s1] M (Qi Q) := by
  unfold w_Model_isRefField_j53 at h
  refine E_blk (lv' := [some (vr (some (11, this))), none, none, some (vi v3), none, some (vi (s1 - s0)), some (vi ((8 : Int32) * v3))]) (st' := []) (M1 := M) (pc' := 62) (tb_Model hγ) [.isub, .istore 5, .bipush 8, .iload_n 3, .imul, .istore 6] (by decide +kernel) rfl rfl trivial ?_
  obtain ⟨n15, h⟩ := h
  refine E_mask [true, false, false, true, false, true, true] rfl ?_
  exact lk_Model_isRefField_L62 hγ this Q n15 v3 (s1 - s0) ((8 : Int32) * v3) M h
set_option maxRecDepth 4096 in
theorem lk_Model_isRefField_j37 {γ : Gm} (hγ : Gk γ) (this : Nat) (Q : Int32 → Mem → Prop) (v2 : Int32) (v3 : Int32) (v4 : Int32) (M : Mem) (h : w_Model_isRefField_j37 this Q v2 v3 v4 M) : E γ k_Model_isRefField 3 37 [some (vr (some (11, this))), none, some (vi v2), some (vi v3), some (vi v4), none, none] [] M (Qi Q) := by
  unfold w_Model_isRefField_j37 at h
  refine E_blk (lv' := [some (vr (some (11, this))), none, some (vi v2), some (vi v3), some (vi v4), none, none]) (st' := [vi v4, vi v2]) (M1 := M) (pc' := 40) (tb_Model hγ) [.iload_n 2, .iload 4] (by decide +kernel) rfl rfl trivial ?_
  refine E_if_lt (off := 12) (tgt := 52) (by decide +kernel) (by decide) (fun b4 => ?_) (fun b4 => ?_)
  · rw [if_pos b4] at h
    refine E_blk (lv' := [some (vr (some (11, this))), none, some (vi v2), some (vi v3), some (vi v4), none, none]) (st' := [vi (0 : Int32), vi v2]) (M1 := M) (pc' := 53) (tb_Model hγ) [.iconst 0] (by decide +kernel) rfl rfl trivial ?_
    refine E_mask [true, false, false, true, false, false, false] rfl ?_
    exact lk_Model_isRefField_j53 hγ this Q v3 (0 : Int32) v2 M h
  · rw [if_neg b4] at h
    refine E_blk (lv' := [some (vr (some (11, this))), none, some (vi v2), some (vi v3), some (vi v4), none, none]) (st' := [vi v4, vr (some (11, this)), vi v2]) (M1 := M) (pc' := 46) (tb_Model hγ) [.aload_n 0, .iload 4] (by decide +kernel) rfl rfl trivial ?_
    refine E_callV (κ' := k_Model_fieldsOf) (As := [vi v4]) (st := [vi v2]) mv_Model_fieldsOf (Or.inl (tbk_mem (j := 16) (k := 183) rfl)) rfl (by decide +kernel) (Nat.le_of_ble_eq_true rfl) (Nat.le_of_ble_eq_true rfl) rfl (by decide) (lk_Model_fieldsOf hγ this v4 _ M h) (fun _ _ => Qi_r) (fun v M16 hp => Qi_k (R := fun st => E γ k_Model_isRefField 3 49 [some (vr (some (11, this))), none, some (vi v2), some (vi v3), some (vi v4), none, none] st M16 (Qi Q)) hp (fun r17 h => ?_))
    refine E_goto (off := 4) (tgt := 53) (by decide +kernel) (by decide) ?_
    refine E_mask [true, false, false, true, false, false, false] rfl ?_
    exact lk_Model_isRefField_j53 hγ this Q v3 r17 v2 M16 h
set_option maxRecDepth 4096 in
theorem lk_Model_isRefField_L9 {γ : Gm} (hγ : Gk γ) (this : Nat) (Q : Int32 → Mem → Prop) : ∀ (n : Nat) (v2 : Int32) (v3 : Int32) (v4 : Int32) (M : Mem), w_Model_isRefField_L9 this Q n v2 v3 v4 M → E γ k_Model_isRefField 3 9 [some (vr (some (11, this))), none, some (vi v2), some (vi v3), some (vi v4), none, none] [] M (Qi Q) := by
  intro n
  induction n with
  | zero => intro v2 v3 v4 M h; exact h.elim
  | succ n ih =>
    intro v2 v3 v4 M h
    unfold w_Model_isRefField_L9 at h
    refine E_blk (lv' := [some (vr (some (11, this))), none, some (vi v2), some (vi v3), some (vi v4), none, none]) (st' := [vi v4]) (M1 := M) (pc' := 11) (tb_Model hγ) [.iload 4] (by decide +kernel) rfl rfl trivial ?_
    refine E_if_lt (off := 26) (tgt := 37) (by decide +kernel) (by decide) (fun b3 => ?_) (fun b3 => ?_)
    · rw [if_pos b3] at h
      refine E_mask [true, false, true, true, true, false, false] rfl ?_
      exact lk_Model_isRefField_j37 hγ this Q v2 v3 v4 M h
    · rw [if_neg b3] at h
      refine E_blk (lv' := [some (vr (some (11, this))), none, some (vi v2), some (vi v3), some (vi v4), none, none]) (st' := [vi v4, vr (some (11, this)), vi v2]) (M1 := M) (pc' := 18) (tb_Model hγ) [.iload_n 2, .aload_n 0, .iload 4] (by decide +kernel) rfl rfl trivial ?_
      refine E_callV (κ' := k_Model_fieldsOf) (As := [vi v4]) (st := [vi v2]) mv_Model_fieldsOf (Or.inl (tbk_mem (j := 16) (k := 183) rfl)) rfl (by decide +kernel) (Nat.le_of_ble_eq_true rfl) (Nat.le_of_ble_eq_true rfl) rfl (by decide) (lk_Model_fieldsOf hγ this v4 _ M h) (fun _ _ => Qi_r) (fun v M18 hp => Qi_k (R := fun st => E γ k_Model_isRefField 3 21 [some (vr (some (11, this))), none, some (vi v2), some (vi v3), some (vi v4), none, none] st M18 (Qi Q)) hp (fun r19 h => ?_))
      refine E_icmp_ge (off := 16) (tgt := 37) (by decide +kernel) (by decide) (fun b20 => ?_) (fun b20 => ?_)
      · rw [if_pos b20] at h
        refine E_mask [true, false, true, true, true, false, false] rfl ?_
        exact lk_Model_isRefField_j37 hγ this Q v2 v3 v4 M18 h
      · rw [if_neg b20] at h
        refine E_blk (lv' := [some (vr (some (11, this))), none, some (vi v2), some (vi v4), some (vi v4), none, none]) (st' := [vi v4, vr (some (11, this))]) (M1 := M18) (pc' := 29) (tb_Model hγ) [.iload 4, .istore_n 3, .aload_n 0, .iload_n 3] (by decide +kernel) rfl rfl trivial ?_
        refine E_callV (κ' := k_Model_parentOf) (As := [vi v4]) (st := []) mv_Model_parentOf (Or.inl (tbk_mem (j := 15) (k := 157) rfl)) rfl (by decide +kernel) (Nat.le_of_ble_eq_true rfl) (Nat.le_of_ble_eq_true rfl) rfl (by decide) (lk_Model_parentOf hγ this v4 _ M18 h) (fun _ _ => Qi_r) (fun v M21 hp => Qi_k (R := fun st => E γ k_Model_isRefField 3 32 [some (vr (some (11, this))), none, some (vi v2), some (vi v4), some (vi v4), none, none] st M21 (Qi Q)) hp (fun r22 h => ?_))
        refine E_blk (lv' := [some (vr (some (11, this))), none, some (vi v2), some (vi v4), some (vi r22), none, none]) (st' := []) (M1 := M21) (pc' := 34) (tb_Model hγ) [.istore 4] (by decide +kernel) rfl rfl trivial ?_
        refine E_goto (off := -25) (tgt := 9) (by decide +kernel) (by decide) ?_
        refine E_mask [true, false, true, true, true, false, false] rfl ?_
        exact ih v2 v4 r22 M21 h
set_option maxRecDepth 4096 in
theorem lk_Model_isRefField {γ : Gm} (hγ : Gk γ) (this : Nat) (a1 : Int32) (a2 : Int32) (Q : Int32 → Mem → Prop) (M : Mem) (h : w_Model_isRefField this a1 a2 Q M) : E γ k_Model_isRefField 3 0 [some (vr (some (11, this))), some (vi a1), some (vi a2), none, none, none, none] [] M (Qi Q) := by
  unfold w_Model_isRefField at h
  refine E_blk (lv' := [some (vr (some (11, this))), some (vi a1), some (vi a2), some (vi a1), none, none, none]) (st' := [vi a1, vr (some (11, this))]) (M1 := M) (pc' := 4) (tb_Model hγ) [.iload_n 1, .istore_n 3, .aload_n 0, .iload_n 3] (by decide +kernel) rfl rfl trivial ?_
  refine E_callV (κ' := k_Model_parentOf) (As := [vi a1]) (st := []) mv_Model_parentOf (Or.inl (tbk_mem (j := 15) (k := 157) rfl)) rfl (by decide +kernel) (Nat.le_of_ble_eq_true rfl) (Nat.le_of_ble_eq_true rfl) rfl (by decide) (lk_Model_parentOf hγ this a1 _ M h) (fun _ _ => Qi_r) (fun v M1 hp => Qi_k (R := fun st => E γ k_Model_isRefField 3 7 [some (vr (some (11, this))), some (vi a1), some (vi a2), some (vi a1), none, none, none] st M1 (Qi Q)) hp (fun r2 h => ?_))
  refine E_blk (lv' := [some (vr (some (11, this))), some (vi a1), some (vi a2), some (vi a1), some (vi r2), none, none]) (st' := []) (M1 := M1) (pc' := 9) (tb_Model hγ) [.istore 4] (by decide +kernel) rfl rfl trivial ?_
  obtain ⟨n23, h⟩ := h
  refine E_mask [true, false, true, true, true, false, false] rfl ?_
  exact lk_Model_isRefField_L9 hγ this Q n23 a2 a1 r2 M1 h
def w_Model_object_j171 (this : Nat) (Q : Int32 → Mem → Prop) (s0 : Int32) (s1 : Int32) (M : Mem) : Prop :=
  w_Model_shown s1 s0 (fun r26 M25 => Q r26 M25) M
def w_Model_object_j170 (this : Nat) (Q : Int32 → Mem → Prop) (s0 : Int32) (M : Mem) : Prop :=
  w_Model_object_j171 this Q (0 : Int32) s0 M
def w_Model_object (this : Nat) (a1 : Int32) (a2 : Int32) (a3 : Int32) (Q : Int32 → Mem → Prop) (M : Mem) : Prop :=
  w_Model_isWorld this a1 (fun r2 M1 => if r2 = 0 then (Q (-1 : Int32) M1) else (if a2 < (1 : Int32) then (Q (-1 : Int32) M1) else (if (800 : Int32) < a2 then (Q (-1 : Int32) M1) else (vp_in a1 (mL M1 703 0) ∧ ∃ i7, (mR M1 703 0 a1.toNatClampNeg) = some (12, i7) ∧ vp_in a2 (mL M1 524 i7) ∧ if (mI M1 524 i7 a2.toNatClampNeg) = 0 then (Q (-1 : Int32) M1) else (if (-3 : Int32) ≤ a3 then (vp_in a1 (mL M1 703 0) ∧ ∃ i12, (mR M1 703 0 a1.toNatClampNeg) = some (12, i12) ∧ ∃ i13, (mR (sR M1 11 this 45 (some (12, i12))) 11 this 45) = some (12, i13) ∧ vp_in a2 (mL (sR M1 11 this 45 (some (12, i12))) 157 i13) ∧ ∃ x15 : Int32, x15 = (mI (sR M1 11 this 45 (some (12, i12))) 157 i13 a2.toNatClampNeg) ∧ if 0 ≤ a3 then (∃ i17, (mR (sR M1 11 this 45 (some (12, i12))) 11 this 45) = some (12, i17) ∧ vp_in a2 (mL (sR M1 11 this 45 (some (12, i12))) 159 i17) ∧ if a3 < (mI (sR M1 11 this 45 (some (12, i12))) 159 i17 a2.toNatClampNeg) then (∃ i20, (mR (sR M1 11 this 45 (some (12, i12))) 11 this 45) = some (12, i20) ∧ ∃ i21, (mR (sR M1 11 this 45 (some (12, i12))) 11 this 45) = some (12, i21) ∧ vp_in a2 (mL (sR M1 11 this 45 (some (12, i12))) 158 i21) ∧ vp_in ((mI (sR M1 11 this 45 (some (12, i12))) 158 i21 a2.toNatClampNeg) + a3) (mL (sR M1 11 this 45 (some (12, i12))) 161 i20) ∧ if x15 = (-1 : Int32) then (w_Model_object_j170 this Q (mI (sR M1 11 this 45 (some (12, i12))) 161 i20 ((mI (sR M1 11 this 45 (some (12, i12))) 158 i21 a2.toNatClampNeg) + a3).toNatClampNeg) (sR M1 11 this 45 (some (12, i12)))) else (w_Model_isRefField this x15 a3 (fun r28 M27 => if r28 = 0 then (w_Model_object_j170 this Q (mI (sR M1 11 this 45 (some (12, i12))) 161 i20 ((mI (sR M1 11 this 45 (some (12, i12))) 158 i21 a2.toNatClampNeg) + a3).toNatClampNeg) M27) else (w_Model_object_j171 this Q (1 : Int32) (mI (sR M1 11 this 45 (some (12, i12))) 161 i20 ((mI (sR M1 11 this 45 (some (12, i12))) 158 i21 a2.toNatClampNeg) + a3).toNatClampNeg) M27)) (sR M1 11 this 45 (some (12, i12))))) else (Q (-1 : Int32) (sR M1 11 this 45 (some (12, i12))))) else (if a3 = (-1 : Int32) then (if x15 = (-1 : Int32) then (Q (-2 : Int32) (sR M1 11 this 45 (some (12, i12)))) else (Q x15 (sR M1 11 this 45 (some (12, i12))))) else (if a3 = (-2 : Int32) then (∃ i33, (mR (sR M1 11 this 45 (some (12, i12))) 11 this 45) = some (12, i33) ∧ vp_in a2 (mL (sR M1 11 this 45 (some (12, i12))) 160 i33) ∧ Q (mI (sR M1 11 this 45 (some (12, i12))) 160 i33 a2.toNatClampNeg) (sR M1 11 this 45 (some (12, i12)))) else (∃ i35, (mR (sR M1 11 this 45 (some (12, i12))) 11 this 45) = some (12, i35) ∧ vp_in a2 (mL (sR M1 11 this 45 (some (12, i12))) 159 i35) ∧ Q (mI (sR M1 11 this 45 (some (12, i12))) 159 i35 a2.toNatClampNeg) (sR M1 11 this 45 (some (12, i12))))))) else (Q (-1 : Int32) M1)))))) M
set_option maxRecDepth 4096 in
theorem lk_Model_object_j171 {γ : Gm} (hγ : Gk γ) (this : Nat) (Q : Int32 → Mem → Prop) (s0 : Int32) (s1 : Int32) (M : Mem) (h : w_Model_object_j171 this Q s0 s1 M) : E γ k_Model_object 4 171 [none, none, none, none, none] [vi s0, vi s1] M (Qi Q) := by
  unfold w_Model_object_j171 at h
  refine E_callS (κ' := k_Model_shown) (As := [vi s1, vi s0]) (st := []) ms_Model_shown (Or.inl (tbk_mem (j := 17) (k := 15) rfl)) rfl (by decide +kernel) (Nat.le_of_ble_eq_true rfl) (Nat.le_of_ble_eq_true rfl) rfl (by decide) (lk_Model_shown hγ s1 s0 _ M h) (fun _ _ => Qi_r) (fun v M25 hp => Qi_k (R := fun st => E γ k_Model_object 4 174 [none, none, none, none, none] st M25 (Qi Q)) hp (fun r26 h => ?_))
  exact E_iret rfl (by decide +kernel) h
set_option maxRecDepth 4096 in
theorem lk_Model_object_j170 {γ : Gm} (hγ : Gk γ) (this : Nat) (Q : Int32 → Mem → Prop) (s0 : Int32) (M : Mem) (h : w_Model_object_j170 this Q s0 M) : E γ k_Model_object 4 170 [none, none, none, none, none] [vi s0] M (Qi Q) := by
  unfold w_Model_object_j170 at h
  refine E_blk (lv' := [none, none, none, none, none]) (st' := [vi (0 : Int32), vi s0]) (M1 := M) (pc' := 171) (tb_Model hγ) [.iconst 0] (by decide +kernel) rfl rfl trivial ?_
  refine E_mask [false, false, false, false, false] rfl ?_
  exact lk_Model_object_j171 hγ this Q (0 : Int32) s0 M h
set_option maxRecDepth 4096 in
theorem lk_Model_object {γ : Gm} (hγ : Gk γ) (this : Nat) (a1 : Int32) (a2 : Int32) (a3 : Int32) (Q : Int32 → Mem → Prop) (M : Mem) (h : w_Model_object this a1 a2 a3 Q M) : E γ k_Model_object 4 0 [some (vr (some (11, this))), some (vi a1), some (vi a2), some (vi a3), none] [] M (Qi Q) := by
  unfold w_Model_object at h
  refine E_blk (lv' := [some (vr (some (11, this))), some (vi a1), some (vi a2), some (vi a3), none]) (st' := [vi a1, vr (some (11, this))]) (M1 := M) (pc' := 2) (tb_Model hγ) [.aload_n 0, .iload_n 1] (by decide +kernel) rfl rfl trivial ?_
  refine E_callV (κ' := k_Model_isWorld) (As := [vi a1]) (st := []) mv_Model_isWorld (Or.inl (tbk_mem (j := 14) (k := 190) rfl)) rfl (by decide +kernel) (Nat.le_of_ble_eq_true rfl) (Nat.le_of_ble_eq_true rfl) rfl (by decide) (lk_Model_isWorld hγ this a1 _ M h) (fun _ _ => Qi_r) (fun v M1 hp => Qi_k (R := fun st => E γ k_Model_object 4 5 [some (vr (some (11, this))), some (vi a1), some (vi a2), some (vi a3), none] st M1 (Qi Q)) hp (fun r2 h => ?_))
  refine E_if_eq (off := 35) (tgt := 40) (by decide +kernel) (by decide) (fun b3 => ?_) (fun b3 => ?_)
  · rw [if_pos b3] at h
    refine E_blk (lv' := [some (vr (some (11, this))), some (vi a1), some (vi a2), some (vi a3), none]) (st' := [vi (-1 : Int32)]) (M1 := M1) (pc' := 41) (tb_Model hγ) [.iconst (.negSucc 0)] (by decide +kernel) rfl rfl trivial ?_
    exact E_iret rfl (by decide +kernel) h
  · rw [if_neg b3] at h
    refine E_blk (lv' := [some (vr (some (11, this))), some (vi a1), some (vi a2), some (vi a3), none]) (st' := [vi (1 : Int32), vi a2]) (M1 := M1) (pc' := 10) (tb_Model hγ) [.iload_n 2, .iconst 1] (by decide +kernel) rfl rfl trivial ?_
    refine E_icmp_lt (off := 30) (tgt := 40) (by decide +kernel) (by decide) (fun b4 => ?_) (fun b4 => ?_)
    · rw [if_pos b4] at h
      refine E_blk (lv' := [some (vr (some (11, this))), some (vi a1), some (vi a2), some (vi a3), none]) (st' := [vi (-1 : Int32)]) (M1 := M1) (pc' := 41) (tb_Model hγ) [.iconst (.negSucc 0)] (by decide +kernel) rfl rfl trivial ?_
      exact E_iret rfl (by decide +kernel) h
    · rw [if_neg b4] at h
      refine E_blk (lv' := [some (vr (some (11, this))), some (vi a1), some (vi a2), some (vi a3), none]) (st' := [vi (800 : Int32), vi a2]) (M1 := M1) (pc' := 17) (tb_Model hγ) [.iload_n 2, .sipush 800] (by decide +kernel) rfl rfl trivial ?_
      refine E_icmp_gt (off := 23) (tgt := 40) (by decide +kernel) (by decide) (fun b5 => ?_) (fun b5 => ?_)
      · rw [if_pos b5] at h
        refine E_blk (lv' := [some (vr (some (11, this))), some (vi a1), some (vi a2), some (vi a3), none]) (st' := [vi (-1 : Int32)]) (M1 := M1) (pc' := 41) (tb_Model hγ) [.iconst (.negSucc 0)] (by decide +kernel) rfl rfl trivial ?_
        exact E_iret rfl (by decide +kernel) h
      · rw [if_neg b5] at h
        obtain ⟨c6, h⟩ := h
        refine E_blk (lv' := [some (vr (some (11, this))), some (vi a1), some (vi a2), some (vi a3), none]) (st' := [vr (mR M1 703 0 a1.toNatClampNeg)]) (M1 := M1) (pc' := 26) (tb_Model hγ) [.aload_n 0, .getfield 263, .iload_n 1, .aaload] (by decide +kernel) rfl rfl ⟨c6, trivial⟩ ?_
        obtain ⟨i7, ei7, h⟩ := h
        rw [ei7]
        obtain ⟨c8, h⟩ := h
        refine E_blk (lv' := [some (vr (some (11, this))), some (vi a1), some (vi a2), some (vi a3), none]) (st' := [vi (mI M1 524 i7 a2.toNatClampNeg)]) (M1 := M1) (pc' := 31) (tb_Model hγ) [.getfield 510, .iload_n 2, .baload] (by decide +kernel) rfl rfl ⟨c8, trivial⟩ ?_
        refine E_if_eq (off := 9) (tgt := 40) (by decide +kernel) (by decide) (fun b9 => ?_) (fun b9 => ?_)
        · rw [if_pos b9] at h
          refine E_blk (lv' := [some (vr (some (11, this))), some (vi a1), some (vi a2), some (vi a3), none]) (st' := [vi (-1 : Int32)]) (M1 := M1) (pc' := 41) (tb_Model hγ) [.iconst (.negSucc 0)] (by decide +kernel) rfl rfl trivial ?_
          exact E_iret rfl (by decide +kernel) h
        · rw [if_neg b9] at h
          refine E_blk (lv' := [some (vr (some (11, this))), some (vi a1), some (vi a2), some (vi a3), none]) (st' := [vi (-3 : Int32), vi a3]) (M1 := M1) (pc' := 37) (tb_Model hγ) [.iload_n 3, .bipush (.negSucc 2)] (by decide +kernel) rfl rfl trivial ?_
          refine E_icmp_ge (off := 5) (tgt := 42) (by decide +kernel) (by decide) (fun b10 => ?_) (fun b10 => ?_)
          · rw [if_pos b10] at h
            obtain ⟨c11, h⟩ := h
            refine E_blk (lv' := [some (vr (some (11, this))), some (vi a1), some (vi a2), some (vi a3), none]) (st' := [vr (mR M1 703 0 a1.toNatClampNeg), vr (some (11, this))]) (M1 := M1) (pc' := 49) (tb_Model hγ) [.aload_n 0, .aload_n 0, .getfield 263, .iload_n 1, .aaload] (by decide +kernel) rfl rfl ⟨c11, trivial⟩ ?_
            obtain ⟨i12, ei12, h⟩ := h
            rw [ei12]
            refine E_blk (lv' := [some (vr (some (11, this))), some (vi a1), some (vi a2), some (vi a3), none]) (st' := [vr (mR (sR M1 11 this 45 (some (12, i12))) 11 this 45)]) (M1 := (sR M1 11 this 45 (some (12, i12)))) (pc' := 56) (tb_Model hγ) [.putfield 522, .aload_n 0, .getfield 522] (by decide +kernel) rfl rfl trivial ?_
            obtain ⟨i13, ei13, h⟩ := h
            rw [ei13]
            obtain ⟨c14, h⟩ := h
            refine E_blk (lv' := [some (vr (some (11, this))), some (vi a1), some (vi a2), some (vi a3), some (vi (mI (sR M1 11 this 45 (some (12, i12))) 157 i13 a2.toNatClampNeg))]) (st' := []) (M1 := (sR M1 11 this 45 (some (12, i12)))) (pc' := 63) (tb_Model hγ) [.getfield 872, .iload_n 2, .iaload, .istore 4] (by decide +kernel) rfl rfl ⟨c14, trivial⟩ ?_
            obtain ⟨x15, ex15, h⟩ := h
            rw [← ex15]
            refine E_blk (lv' := [some (vr (some (11, this))), some (vi a1), some (vi a2), some (vi a3), some (vi x15)]) (st' := [vi a3]) (M1 := (sR M1 11 this 45 (some (12, i12)))) (pc' := 64) (tb_Model hγ) [.iload_n 3] (by decide +kernel) rfl rfl trivial ?_
            refine E_if_ge (off := 52) (tgt := 116) (by decide +kernel) (by decide) (fun b16 => ?_) (fun b16 => ?_)
            · rw [if_pos b16] at h
              refine E_blk (lv' := [some (vr (some (11, this))), some (vi a1), some (vi a2), some (vi a3), some (vi x15)]) (st' := [vr (mR (sR M1 11 this 45 (some (12, i12))) 11 this 45), vi a3]) (M1 := (sR M1 11 this 45 (some (12, i12)))) (pc' := 121) (tb_Model hγ) [.iload_n 3, .aload_n 0, .getfield 522] (by decide +kernel) rfl rfl trivial ?_
              obtain ⟨i17, ei17, h⟩ := h
              rw [ei17]
              obtain ⟨c18, h⟩ := h
              refine E_blk (lv' := [some (vr (some (11, this))), some (vi a1), some (vi a2), some (vi a3), some (vi x15)]) (st' := [vi (mI (sR M1 11 this 45 (some (12, i12))) 159 i17 a2.toNatClampNeg), vi a3]) (M1 := (sR M1 11 this 45 (some (12, i12)))) (pc' := 126) (tb_Model hγ) [.getfield 887, .iload_n 2, .iaload] (by decide +kernel) rfl rfl ⟨c18, trivial⟩ ?_
              refine E_icmp_lt (off := 5) (tgt := 131) (by decide +kernel) (by decide) (fun b19 => ?_) (fun b19 => ?_)
              · rw [if_pos b19] at h
                refine E_blk (lv' := [some (vr (some (11, this))), some (vi a1), some (vi a2), some (vi a3), some (vi x15)]) (st' := [vr (mR (sR M1 11 this 45 (some (12, i12))) 11 this 45)]) (M1 := (sR M1 11 this 45 (some (12, i12)))) (pc' := 135) (tb_Model hγ) [.aload_n 0, .getfield 522] (by decide +kernel) rfl rfl trivial ?_
                obtain ⟨i20, ei20, h⟩ := h
                rw [ei20]
                refine E_blk (lv' := [some (vr (some (11, this))), some (vi a1), some (vi a2), some (vi a3), some (vi x15)]) (st' := [vr (mR (sR M1 11 this 45 (some (12, i12))) 11 this 45), vr (some (161, i20))]) (M1 := (sR M1 11 this 45 (some (12, i12)))) (pc' := 142) (tb_Model hγ) [.getfield 893, .aload_n 0, .getfield 522] (by decide +kernel) rfl rfl trivial ?_
                obtain ⟨i21, ei21, h⟩ := h
                rw [ei21]
                obtain ⟨c22, c23, h⟩ := h
                refine E_blk (lv' := [some (vr (some (11, this))), some (vi a1), some (vi a2), some (vi a3), some (vi x15)]) (st' := [vi (-1 : Int32), vi x15, vi (mI (sR M1 11 this 45 (some (12, i12))) 161 i20 ((mI (sR M1 11 this 45 (some (12, i12))) 158 i21 a2.toNatClampNeg) + a3).toNatClampNeg)]) (M1 := (sR M1 11 this 45 (some (12, i12)))) (pc' := 153) (tb_Model hγ) [.getfield 884, .iload_n 2, .iaload, .iload_n 3, .iadd, .iaload, .iload 4, .iconst (.negSucc 0)] (by decide +kernel) rfl rfl ⟨c22, c23, trivial⟩ ?_
                refine E_icmp_eq (off := 17) (tgt := 170) (by decide +kernel) (by decide) (fun b24 => ?_) (fun b24 => ?_)
                · rw [if_pos b24] at h
                  refine E_mask [false, false, false, false, false] rfl ?_
                  exact lk_Model_object_j170 hγ this Q (mI (sR M1 11 this 45 (some (12, i12))) 161 i20 ((mI (sR M1 11 this 45 (some (12, i12))) 158 i21 a2.toNatClampNeg) + a3).toNatClampNeg) (sR M1 11 this 45 (some (12, i12))) h
                · rw [if_neg b24] at h
                  refine E_blk (lv' := [some (vr (some (11, this))), some (vi a1), some (vi a2), some (vi a3), some (vi x15)]) (st' := [vi a3, vi x15, vr (some (11, this)), vi (mI (sR M1 11 this 45 (some (12, i12))) 161 i20 ((mI (sR M1 11 this 45 (some (12, i12))) 158 i21 a2.toNatClampNeg) + a3).toNatClampNeg)]) (M1 := (sR M1 11 this 45 (some (12, i12)))) (pc' := 160) (tb_Model hγ) [.aload_n 0, .iload 4, .iload_n 3] (by decide +kernel) rfl rfl trivial ?_
                  refine E_callV (κ' := k_Model_isRefField) (As := [vi x15, vi a3]) (st := [vi (mI (sR M1 11 this 45 (some (12, i12))) 161 i20 ((mI (sR M1 11 this 45 (some (12, i12))) 158 i21 a2.toNatClampNeg) + a3).toNatClampNeg)]) mv_Model_isRefField (Or.inl (tbk_mem (j := 17) (k := 26) rfl)) rfl (by decide +kernel) (Nat.le_of_ble_eq_true rfl) (Nat.le_of_ble_eq_true rfl) rfl (by decide) (lk_Model_isRefField hγ this x15 a3 _ (sR M1 11 this 45 (some (12, i12))) h) (fun _ _ => Qi_r) (fun v M27 hp => Qi_k (R := fun st => E γ k_Model_object 4 163 [some (vr (some (11, this))), some (vi a1), some (vi a2), some (vi a3), some (vi x15)] st M27 (Qi Q)) hp (fun r28 h => ?_))
                  refine E_if_eq (off := 7) (tgt := 170) (by decide +kernel) (by decide) (fun b29 => ?_) (fun b29 => ?_)
                  · rw [if_pos b29] at h
                    refine E_mask [false, false, false, false, false] rfl ?_
                    exact lk_Model_object_j170 hγ this Q (mI (sR M1 11 this 45 (some (12, i12))) 161 i20 ((mI (sR M1 11 this 45 (some (12, i12))) 158 i21 a2.toNatClampNeg) + a3).toNatClampNeg) M27 h
                  · rw [if_neg b29] at h
                    refine E_blk (lv' := [some (vr (some (11, this))), some (vi a1), some (vi a2), some (vi a3), some (vi x15)]) (st' := [vi (1 : Int32), vi (mI (sR M1 11 this 45 (some (12, i12))) 161 i20 ((mI (sR M1 11 this 45 (some (12, i12))) 158 i21 a2.toNatClampNeg) + a3).toNatClampNeg)]) (M1 := M27) (pc' := 167) (tb_Model hγ) [.iconst 1] (by decide +kernel) rfl rfl trivial ?_
                    refine E_goto (off := 4) (tgt := 171) (by decide +kernel) (by decide) ?_
                    refine E_mask [false, false, false, false, false] rfl ?_
                    exact lk_Model_object_j171 hγ this Q (1 : Int32) (mI (sR M1 11 this 45 (some (12, i12))) 161 i20 ((mI (sR M1 11 this 45 (some (12, i12))) 158 i21 a2.toNatClampNeg) + a3).toNatClampNeg) M27 h
              · rw [if_neg b19] at h
                refine E_blk (lv' := [some (vr (some (11, this))), some (vi a1), some (vi a2), some (vi a3), some (vi x15)]) (st' := [vi (-1 : Int32)]) (M1 := (sR M1 11 this 45 (some (12, i12)))) (pc' := 130) (tb_Model hγ) [.iconst (.negSucc 0)] (by decide +kernel) rfl rfl trivial ?_
                exact E_iret rfl (by decide +kernel) h
            · rw [if_neg b16] at h
              refine E_blk (lv' := [some (vr (some (11, this))), some (vi a1), some (vi a2), some (vi a3), some (vi x15)]) (st' := [vi (-1 : Int32), vi a3]) (M1 := (sR M1 11 this 45 (some (12, i12)))) (pc' := 69) (tb_Model hγ) [.iload_n 3, .iconst (.negSucc 0)] (by decide +kernel) rfl rfl trivial ?_
              refine E_icmp_ne (off := 19) (tgt := 88) (by decide +kernel) (by decide) (fun b30 => ?_) (fun b30 => ?_)
              · rw [if_pos b30] at h
                refine E_blk (lv' := [some (vr (some (11, this))), some (vi a1), some (vi a2), some (vi a3), some (vi x15)]) (st' := [vi (-1 : Int32), vi x15]) (M1 := (sR M1 11 this 45 (some (12, i12)))) (pc' := 75) (tb_Model hγ) [.iload 4, .iconst (.negSucc 0)] (by decide +kernel) rfl rfl trivial ?_
                refine E_icmp_ne (off := 8) (tgt := 83) (by decide +kernel) (by decide) (fun b31 => ?_) (fun b31 => ?_)
                · rw [if_pos b31] at h
                  refine E_blk (lv' := [some (vr (some (11, this))), some (vi a1), some (vi a2), some (vi a3), some (vi x15)]) (st' := [vi (-2 : Int32)]) (M1 := (sR M1 11 this 45 (some (12, i12)))) (pc' := 80) (tb_Model hγ) [.bipush (.negSucc 1)] (by decide +kernel) rfl rfl trivial ?_
                  refine E_goto (off := 35) (tgt := 115) (by decide +kernel) (by decide) ?_
                  exact E_iret rfl (by decide +kernel) h
                · rw [if_neg b31] at h
                  refine E_blk (lv' := [some (vr (some (11, this))), some (vi a1), some (vi a2), some (vi a3), some (vi x15)]) (st' := [vi x15]) (M1 := (sR M1 11 this 45 (some (12, i12)))) (pc' := 85) (tb_Model hγ) [.iload 4] (by decide +kernel) rfl rfl trivial ?_
                  refine E_goto (off := 30) (tgt := 115) (by decide +kernel) (by decide) ?_
                  exact E_iret rfl (by decide +kernel) h
              · rw [if_neg b30] at h
                refine E_blk (lv' := [some (vr (some (11, this))), some (vi a1), some (vi a2), some (vi a3), some (vi x15)]) (st' := [vi (-2 : Int32), vi a3]) (M1 := (sR M1 11 this 45 (some (12, i12)))) (pc' := 91) (tb_Model hγ) [.iload_n 3, .bipush (.negSucc 1)] (by decide +kernel) rfl rfl trivial ?_
                refine E_icmp_ne (off := 15) (tgt := 106) (by decide +kernel) (by decide) (fun b32 => ?_) (fun b32 => ?_)
                · rw [if_pos b32] at h
                  refine E_blk (lv' := [some (vr (some (11, this))), some (vi a1), some (vi a2), some (vi a3), some (vi x15)]) (st' := [vr (mR (sR M1 11 this 45 (some (12, i12))) 11 this 45)]) (M1 := (sR M1 11 this 45 (some (12, i12)))) (pc' := 98) (tb_Model hγ) [.aload_n 0, .getfield 522] (by decide +kernel) rfl rfl trivial ?_
                  obtain ⟨i33, ei33, h⟩ := h
                  rw [ei33]
                  obtain ⟨c34, h⟩ := h
                  refine E_blk (lv' := [some (vr (some (11, this))), some (vi a1), some (vi a2), some (vi a3), some (vi x15)]) (st' := [vi (mI (sR M1 11 this 45 (some (12, i12))) 160 i33 a2.toNatClampNeg)]) (M1 := (sR M1 11 this 45 (some (12, i12)))) (pc' := 103) (tb_Model hγ) [.getfield 890, .iload_n 2, .iaload] (by decide +kernel) rfl rfl ⟨c34, trivial⟩ ?_
                  refine E_goto (off := 12) (tgt := 115) (by decide +kernel) (by decide) ?_
                  exact E_iret rfl (by decide +kernel) h
                · rw [if_neg b32] at h
                  refine E_blk (lv' := [some (vr (some (11, this))), some (vi a1), some (vi a2), some (vi a3), some (vi x15)]) (st' := [vr (mR (sR M1 11 this 45 (some (12, i12))) 11 this 45)]) (M1 := (sR M1 11 this 45 (some (12, i12)))) (pc' := 110) (tb_Model hγ) [.aload_n 0, .getfield 522] (by decide +kernel) rfl rfl trivial ?_
                  obtain ⟨i35, ei35, h⟩ := h
                  rw [ei35]
                  obtain ⟨c36, h⟩ := h
                  refine E_blk (lv' := [some (vr (some (11, this))), some (vi a1), some (vi a2), some (vi a3), some (vi x15)]) (st' := [vi (mI (sR M1 11 this 45 (some (12, i12))) 159 i35 a2.toNatClampNeg)]) (M1 := (sR M1 11 this 45 (some (12, i12)))) (pc' := 115) (tb_Model hγ) [.getfield 887, .iload_n 2, .iaload] (by decide +kernel) rfl rfl ⟨c36, trivial⟩ ?_
                  exact E_iret rfl (by decide +kernel) h
          · rw [if_neg b10] at h
            refine E_blk (lv' := [some (vr (some (11, this))), some (vi a1), some (vi a2), some (vi a3), none]) (st' := [vi (-1 : Int32)]) (M1 := M1) (pc' := 41) (tb_Model hγ) [.iconst (.negSucc 0)] (by decide +kernel) rfl rfl trivial ?_
            exact E_iret rfl (by decide +kernel) h
def w_Model_put (this : Nat) (a1 : Int32) (Q : Mem → Prop) (M : Mem) : Prop :=
  ∃ i1, (mR M 11 this 94) = some (401, i1) ∧ w_Model_roomy i1 ((mI M 11 this 95) + (1 : Int32)) (fun i3 M2 => ∃ i4, (mR (sR M2 11 this 94 (some (401, i3))) 11 this 94) = some (401, i4) ∧ vp_in (mI (sR M2 11 this 94 (some (401, i3))) 11 this 95) (mL (sR M2 11 this 94 (some (401, i3))) 401 i4) ∧ ∃ M6, M6 = (sI (sR M2 11 this 94 (some (401, i3))) 401 i4 (mI (sR M2 11 this 94 (some (401, i3))) 11 this 95).toNatClampNeg a1.toInt8.toInt32.toInt8.toInt32) ∧ Q (sI M6 11 this 95 ((mI M6 11 this 95) + (1 : Int32)))) M
set_option maxRecDepth 4096 in
theorem lk_Model_put {γ : Gm} (hγ : Gk γ) (this : Nat) (a1 : Int32) (Q : Mem → Prop) (M : Mem) (h : w_Model_put this a1 Q M) : E γ k_Model_put 2 0 [some (vr (some (11, this))), some (vi a1)] [] M (Qv Q) := by
  unfold w_Model_put at h
  refine E_blk (lv' := [some (vr (some (11, this))), some (vi a1)]) (st' := [vr (mR M 11 this 94), vr (some (11, this))]) (M1 := M) (pc' := 5) (tb_Model hγ) [.aload_n 0, .aload_n 0, .getfield 323] (by decide +kernel) rfl rfl trivial ?_
  obtain ⟨i1, ei1, h⟩ := h
  rw [ei1]
  refine E_blk (lv' := [some (vr (some (11, this))), some (vi a1)]) (st' := [vi ((mI M 11 this 95) + (1 : Int32)), vr (some (401, i1)), vr (some (11, this))]) (M1 := M) (pc' := 11) (tb_Model hγ) [.aload_n 0, .getfield 1176, .iconst 1, .iadd] (by decide +kernel) rfl rfl trivial ?_
  refine E_callS (κ' := k_Model_roomy) (As := [vr (some (401, i1)), vi ((mI M 11 this 95) + (1 : Int32))]) (st := [vr (some (11, this))]) ms_Model_roomy (Or.inl (tbk_mem (j := 11) (k := 61) rfl)) rfl (by decide +kernel) (Nat.le_of_ble_eq_true rfl) (Nat.le_of_ble_eq_true rfl) rfl (by decide) (lk_Model_roomy hγ i1 ((mI M 11 this 95) + (1 : Int32)) _ M h) (fun _ _ => Qr_r) (fun v M2 hp => Qr_k (R := fun st => E γ k_Model_put 2 14 [some (vr (some (11, this))), some (vi a1)] st M2 (Qv Q)) hp (fun i3 h => ?_))
  refine E_blk (lv' := [some (vr (some (11, this))), some (vi a1)]) (st' := [vr (mR (sR M2 11 this 94 (some (401, i3))) 11 this 94)]) (M1 := (sR M2 11 this 94 (some (401, i3)))) (pc' := 21) (tb_Model hγ) [.putfield 323, .aload_n 0, .getfield 323] (by decide +kernel) rfl rfl trivial ?_
  obtain ⟨i4, ei4, h⟩ := h
  rw [ei4]
  obtain ⟨c5, h⟩ := h
  refine E_blk (lv' := [some (vr (some (11, this))), some (vi a1)]) (st' := []) (M1 := (sI (sR M2 11 this 94 (some (401, i3))) 401 i4 (mI (sR M2 11 this 94 (some (401, i3))) 11 this 95).toNatClampNeg a1.toInt8.toInt32.toInt8.toInt32)) (pc' := 28) (tb_Model hγ) [.aload_n 0, .getfield 1176, .iload_n 1, .i2b, .bastore] (by decide +kernel) rfl rfl ⟨c5, trivial⟩ ?_
  obtain ⟨M6, eM6, h⟩ := h
  rw [← eM6]
  refine E_blk (lv' := [some (vr (some (11, this))), some (vi a1)]) (st' := []) (M1 := (sI M6 11 this 95 ((mI M6 11 this 95) + (1 : Int32)))) (pc' := 38) (tb_Model hγ) [.aload_n 0, .dup, .getfield 1176, .iconst 1, .iadd, .putfield 1176] (by decide +kernel) rfl rfl trivial ?_
  exact E_vret rfl (by decide +kernel) h
def w_Model_putWord_L2 (this : Nat) (Q : Mem → Prop) : Nat → Nat → Int32 → Mem → Prop
  | 0, _, _, _ => False
  | n + 1, v1, v2, M => v1 < nStr ∧ w_JString_length v1 (fun r2 M1 => if r2 ≤ v2 then (Q M1) else (v1 < nStr ∧ w_JString_charAt v1 v2 (fun r5 M4 => w_Model_put this r5 (fun M6 => (w_Model_putWord_L2 this Q n) v1 (v2 + (1 : Int32)) M6) M4) M1)) M
def w_Model_putWord (this : Nat) (a1 : Nat) (Q : Mem → Prop) (M : Mem) : Prop :=
  ∃ n9 : Nat, w_Model_putWord_L2 this Q n9 a1 (0 : Int32) M
set_option maxRecDepth 4096 in
theorem lk_Model_putWord_L2 {γ : Gm} (hγ : Gk γ) (this : Nat) (Q : Mem → Prop) : ∀ (n : Nat) (v1 : Nat) (v2 : Int32) (M : Mem), w_Model_putWord_L2 this Q n v1 v2 M → E γ k_Model_putWord 4 2 [some (vr (some (11, this))), some (vr (some (0, v1))), some (vi v2)] [] M (Qv Q) := by
  intro n
  induction n with
  | zero => intro v1 v2 M h; exact h.elim
  | succ n ih =>
    intro v1 v2 M h
    unfold w_Model_putWord_L2 at h
    refine E_blk (lv' := [some (vr (some (11, this))), some (vr (some (0, v1))), some (vi v2)]) (st' := [vr (some (0, v1)), vi v2]) (M1 := M) (pc' := 4) (tb_Model hγ) [.iload_n 2, .aload_n 1] (by decide +kernel) rfl rfl trivial ?_
    obtain ⟨c8, h⟩ := h
    refine E_callN (κ' := k_JString_length) (i := v1) (As := []) (st := [vi v2]) hγ.2.2.2 c8 mvs_JString_length (tbk_mem (j := 11) (k := 51) rfl) rfl (by decide +kernel) (Nat.le_of_ble_eq_true rfl) (Nat.le_of_ble_eq_true rfl) rfl (by decide) (lk_JString_length hγ v1 _ M h) (fun _ _ => Qi_r) (fun v M1 hp => Qi_k (R := fun st => E γ k_Model_putWord 4 7 [some (vr (some (11, this))), some (vr (some (0, v1))), some (vi v2)] st M1 (Qv Q)) hp (fun r2 h => ?_))
    refine E_icmp_ge (off := 18) (tgt := 25) (by decide +kernel) (by decide) (fun b3 => ?_) (fun b3 => ?_)
    · rw [if_pos b3] at h
      exact E_vret rfl (by decide +kernel) h
    · rw [if_neg b3] at h
      refine E_blk (lv' := [some (vr (some (11, this))), some (vr (some (0, v1))), some (vi v2)]) (st' := [vi v2, vr (some (0, v1)), vr (some (11, this))]) (M1 := M1) (pc' := 13) (tb_Model hγ) [.aload_n 0, .aload_n 1, .iload_n 2] (by decide +kernel) rfl rfl trivial ?_
      obtain ⟨c7, h⟩ := h
      refine E_callN (κ' := k_JString_charAt) (i := v1) (As := [vi v2]) (st := [vr (some (11, this))]) hγ.2.2.2 c7 mvs_JString_charAt (tbk_mem (j := 11) (k := 52) rfl) rfl (by decide +kernel) (Nat.le_of_ble_eq_true rfl) (Nat.le_of_ble_eq_true rfl) rfl (by decide) (lk_JString_charAt hγ v1 v2 _ M1 h) (fun _ _ => Qi_r) (fun v M4 hp => Qi_k (R := fun st => E γ k_Model_putWord 4 16 [some (vr (some (11, this))), some (vr (some (0, v1))), some (vi v2)] st M4 (Qv Q)) hp (fun r5 h => ?_))
      refine E_callV (κ' := k_Model_put) (As := [vi r5]) (st := []) mv_Model_put (Or.inl (tbk_mem (j := 17) (k := 43) rfl)) rfl (by decide +kernel) (Nat.le_of_ble_eq_true rfl) (Nat.le_of_ble_eq_true rfl) rfl (by decide) (lk_Model_put hγ this r5 _ M4 h) (fun _ _ => Qv_r) (fun v M6 hp => Qv_k (R := fun st => E γ k_Model_putWord 4 19 [some (vr (some (11, this))), some (vr (some (0, v1))), some (vi v2)] st M6 (Qv Q)) hp (fun h => ?_))
      refine E_blk (lv' := [some (vr (some (11, this))), some (vr (some (0, v1))), some (vi (v2 + (1 : Int32)))]) (st' := []) (M1 := M6) (pc' := 22) (tb_Model hγ) [.iinc 2 1] (by decide +kernel) rfl rfl trivial ?_
      refine E_goto (off := -20) (tgt := 2) (by decide +kernel) (by decide) ?_
      refine E_mask [true, true, true] rfl ?_
      exact ih v1 (v2 + (1 : Int32)) M6 h
set_option maxRecDepth 4096 in
theorem lk_Model_putWord {γ : Gm} (hγ : Gk γ) (this : Nat) (a1 : Nat) (Q : Mem → Prop) (M : Mem) (h : w_Model_putWord this a1 Q M) : E γ k_Model_putWord 4 0 [some (vr (some (11, this))), some (vr (some (0, a1))), none] [] M (Qv Q) := by
  unfold w_Model_putWord at h
  refine E_blk (lv' := [some (vr (some (11, this))), some (vr (some (0, a1))), some (vi (0 : Int32))]) (st' := []) (M1 := M) (pc' := 2) (tb_Model hγ) [.iconst 0, .istore_n 2] (by decide +kernel) rfl rfl trivial ?_
  obtain ⟨n9, h⟩ := h
  refine E_mask [true, true, true] rfl ?_
  exact lk_Model_putWord_L2 hγ this Q n9 a1 (0 : Int32) M h
def w_Model_putName_L2 (this : Nat) (Q : Mem → Prop) : Nat → Int32 → Int32 → Mem → Prop
  | 0, _, _, _ => False
  | n + 1, v1, v2, M => ∃ i1, (mR M 11 this 1) = some (401, i1) ∧ vp_in v1 (mL M 401 i1) ∧ if (mI M 401 i1 v1.toNatClampNeg) ≤ v2 then (Q M) else (∃ i4, (mR M 11 this 0) = some (401, i4) ∧ vp_in (((12 : Int32) * v1) + v2) (mL M 401 i4) ∧ w_Model_put this (mI M 401 i4 (((12 : Int32) * v1) + v2).toNatClampNeg) (fun M6 => (w_Model_putName_L2 this Q n) v1 (v2 + (1 : Int32)) M6) M)
def w_Model_putName (this : Nat) (a1 : Int32) (Q : Mem → Prop) (M : Mem) : Prop :=
  ∃ n7 : Nat, w_Model_putName_L2 this Q n7 a1 (0 : Int32) M
set_option maxRecDepth 4096 in
theorem lk_Model_putName_L2 {γ : Gm} (hγ : Gk γ) (this : Nat) (Q : Mem → Prop) : ∀ (n : Nat) (v1 : Int32) (v2 : Int32) (M : Mem), w_Model_putName_L2 this Q n v1 v2 M → E γ k_Model_putName 3 2 [some (vr (some (11, this))), some (vi v1), some (vi v2)] [] M (Qv Q) := by
  intro n
  induction n with
  | zero => intro v1 v2 M h; exact h.elim
  | succ n ih =>
    intro v1 v2 M h
    unfold w_Model_putName_L2 at h
    refine E_blk (lv' := [some (vr (some (11, this))), some (vi v1), some (vi v2)]) (st' := [vr (mR M 11 this 1), vi v2]) (M1 := M) (pc' := 7) (tb_Model hγ) [.iload_n 2, .aload_n 0, .getfield 40] (by decide +kernel) rfl rfl trivial ?_
    obtain ⟨i1, ei1, h⟩ := h
    rw [ei1]
    obtain ⟨c2, h⟩ := h
    refine E_blk (lv' := [some (vr (some (11, this))), some (vi v1), some (vi v2)]) (st' := [vi (mI M 401 i1 v1.toNatClampNeg), vi v2]) (M1 := M) (pc' := 9) (tb_Model hγ) [.iload_n 1, .baload] (by decide +kernel) rfl rfl ⟨c2, trivial⟩ ?_
    refine E_icmp_ge (off := 24) (tgt := 33) (by decide +kernel) (by decide) (fun b3 => ?_) (fun b3 => ?_)
    · rw [if_pos b3] at h
      exact E_vret rfl (by decide +kernel) h
    · rw [if_neg b3] at h
      refine E_blk (lv' := [some (vr (some (11, this))), some (vi v1), some (vi v2)]) (st' := [vr (mR M 11 this 0), vr (some (11, this))]) (M1 := M) (pc' := 17) (tb_Model hγ) [.aload_n 0, .aload_n 0, .getfield 28] (by decide +kernel) rfl rfl trivial ?_
      obtain ⟨i4, ei4, h⟩ := h
      rw [ei4]
      obtain ⟨c5, h⟩ := h
      refine E_blk (lv' := [some (vr (some (11, this))), some (vi v1), some (vi v2)]) (st' := [vi (mI M 401 i4 (((12 : Int32) * v1) + v2).toNatClampNeg), vr (some (11, this))]) (M1 := M) (pc' := 24) (tb_Model hγ) [.bipush 12, .iload_n 1, .imul, .iload_n 2, .iadd, .baload] (by decide +kernel) rfl rfl ⟨c5, trivial⟩ ?_
      refine E_callV (κ' := k_Model_put) (As := [vi (mI M 401 i4 (((12 : Int32) * v1) + v2).toNatClampNeg)]) (st := []) mv_Model_put (Or.inl (tbk_mem (j := 17) (k := 43) rfl)) rfl (by decide +kernel) (Nat.le_of_ble_eq_true rfl) (Nat.le_of_ble_eq_true rfl) rfl (by decide) (lk_Model_put hγ this (mI M 401 i4 (((12 : Int32) * v1) + v2).toNatClampNeg) _ M h) (fun _ _ => Qv_r) (fun v M6 hp => Qv_k (R := fun st => E γ k_Model_putName 3 27 [some (vr (some (11, this))), some (vi v1), some (vi v2)] st M6 (Qv Q)) hp (fun h => ?_))
      refine E_blk (lv' := [some (vr (some (11, this))), some (vi v1), some (vi (v2 + (1 : Int32)))]) (st' := []) (M1 := M6) (pc' := 30) (tb_Model hγ) [.iinc 2 1] (by decide +kernel) rfl rfl trivial ?_
      refine E_goto (off := -28) (tgt := 2) (by decide +kernel) (by decide) ?_
      refine E_mask [true, true, true] rfl ?_
      exact ih v1 (v2 + (1 : Int32)) M6 h
set_option maxRecDepth 4096 in
theorem lk_Model_putName {γ : Gm} (hγ : Gk γ) (this : Nat) (a1 : Int32) (Q : Mem → Prop) (M : Mem) (h : w_Model_putName this a1 Q M) : E γ k_Model_putName 3 0 [some (vr (some (11, this))), some (vi a1), none] [] M (Qv Q) := by
  unfold w_Model_putName at h
  refine E_blk (lv' := [some (vr (some (11, this))), some (vi a1), some (vi (0 : Int32))]) (st' := []) (M1 := M) (pc' := 2) (tb_Model hγ) [.iconst 0, .istore_n 2] (by decide +kernel) rfl rfl trivial ?_
  obtain ⟨n7, h⟩ := h
  refine E_mask [true, true, true] rfl ?_
  exact lk_Model_putName_L2 hγ this Q n7 a1 (0 : Int32) M h
def w_Model_putNumber_L48 (this : Nat) (Q : Mem → Prop) : Nat → Int64 → Int64 → Mem → Prop
  | 0, _, _, _ => False
  | n + 1, v2, v4, M => if (lg_cmp v4 (0 : Int64)) ≤ 0 then (Q M) else (¬ v4 = 0 ∧ ¬ (10 : Int64) = 0 ∧ w_Model_put this (((48 : Int64) + ((v2 / v4) - (v2 / v4) / (10 : Int64) * (10 : Int64))).toInt32) (fun M7 => ¬ (10 : Int64) = 0 ∧ (w_Model_putNumber_L48 this Q n) v2 (v4 / (10 : Int64)) M7) M)
def w_Model_putNumber_L16 (this : Nat) (Q : Mem → Prop) : Nat → Int32 → Int64 → Int64 → Mem → Prop
  | 0, _, _, _, _ => False
  | n + 1, v1, v2, v4, M => if 0 < (lg_cmp (v4 * (10 : Int64)) v2) then (if 0 ≤ v1 then (∃ n9 : Nat, w_Model_putNumber_L48 this Q n9 v2 v4 M) else (w_Model_put this (45 : Int32) (fun M10 => ∃ n11 : Nat, w_Model_putNumber_L48 this Q n11 v2 v4 M10) M)) else ((w_Model_putNumber_L16 this Q n) v1 v2 (v4 * (10 : Int64)) M)
def w_Model_putNumber_j12 (this : Nat) (Q : Mem → Prop) (v1 : Int32) (s0 : Int64) (M : Mem) : Prop :=
  ∃ n12 : Nat, w_Model_putNumber_L16 this Q n12 v1 s0 (1 : Int64) M
def w_Model_putNumber (this : Nat) (a1 : Int32) (Q : Mem → Prop) (M : Mem) : Prop :=
  if 0 ≤ a1 then (w_Model_putNumber_j12 this Q a1 a1.toInt64 M) else (w_Model_putNumber_j12 this Q a1 (-a1.toInt64) M)
set_option maxRecDepth 4096 in
theorem lk_Model_putNumber_L48 {γ : Gm} (hγ : Gk γ) (this : Nat) (Q : Mem → Prop) : ∀ (n : Nat) (v2 : Int64) (v4 : Int64) (M : Mem), w_Model_putNumber_L48 this Q n v2 v4 M → E γ k_Model_putNumber 3 48 [some (vr (some (11, this))), none, some (vl v2), none, some (vl v4), none] [] M (Qv Q) := by
  intro n
  induction n with
  | zero => intro v2 v4 M h; exact h.elim
  | succ n ih =>
    intro v2 v4 M h
    unfold w_Model_putNumber_L48 at h
    refine E_blk (lv' := [some (vr (some (11, this))), none, some (vl v2), none, some (vl v4), none]) (st' := [vi (lg_cmp v4 (0 : Int64))]) (M1 := M) (pc' := 52) (tb_Model hγ) [.lload 4, .lconst 0, .lcmp] (by decide +kernel) rfl rfl trivial ?_
    refine E_if_le (off := 31) (tgt := 83) (by decide +kernel) (by decide) (fun b4 => ?_) (fun b4 => ?_)
    · rw [if_pos b4] at h
      exact E_vret rfl (by decide +kernel) h
    · rw [if_neg b4] at h
      obtain ⟨c5, c6, h⟩ := h
      refine E_blk (lv' := [some (vr (some (11, this))), none, some (vl v2), none, some (vl v4), none]) (st' := [vi (((48 : Int64) + ((v2 / v4) - (v2 / v4) / (10 : Int64) * (10 : Int64))).toInt32), vr (some (11, this))]) (M1 := M) (pc' := 69) (tb_Model hγ) [.aload_n 0, .ldc2_w 132, .lload_n 2, .lload 4, .ldiv, .ldc2_w 130, .lrem, .ladd, .l2i] (by decide +kernel) rfl rfl ⟨c5, c6, trivial⟩ ?_
      refine E_callV (κ' := k_Model_put) (As := [vi (((48 : Int64) + ((v2 / v4) - (v2 / v4) / (10 : Int64) * (10 : Int64))).toInt32)]) (st := []) mv_Model_put (Or.inl (tbk_mem (j := 17) (k := 43) rfl)) rfl (by decide +kernel) (Nat.le_of_ble_eq_true rfl) (Nat.le_of_ble_eq_true rfl) rfl (by decide) (lk_Model_put hγ this (((48 : Int64) + ((v2 / v4) - (v2 / v4) / (10 : Int64) * (10 : Int64))).toInt32) _ M h) (fun _ _ => Qv_r) (fun v M7 hp => Qv_k (R := fun st => E γ k_Model_putNumber 3 72 [some (vr (some (11, this))), none, some (vl v2), none, some (vl v4), none] st M7 (Qv Q)) hp (fun h => ?_))
      obtain ⟨c8, h⟩ := h
      refine E_blk (lv' := [some (vr (some (11, this))), none, some (vl v2), none, some (vl (v4 / (10 : Int64))), none]) (st' := []) (M1 := M7) (pc' := 80) (tb_Model hγ) [.lload 4, .ldc2_w 130, .ldiv, .lstore 4] (by decide +kernel) rfl rfl ⟨c8, trivial⟩ ?_
      refine E_goto (off := -32) (tgt := 48) (by decide +kernel) (by decide) ?_
      refine E_mask [true, false, true, false, true, false] rfl ?_
      exact ih v2 (v4 / (10 : Int64)) M7 h
set_option maxRecDepth 4096 in
theorem lk_Model_putNumber_L16 {γ : Gm} (hγ : Gk γ) (this : Nat) (Q : Mem → Prop) : ∀ (n : Nat) (v1 : Int32) (v2 : Int64) (v4 : Int64) (M : Mem), w_Model_putNumber_L16 this Q n v1 v2 v4 M → E γ k_Model_putNumber 3 16 [some (vr (some (11, this))), some (vi v1), some (vl v2), none, some (vl v4), none] [] M (Qv Q) := by
  intro n
  induction n with
  | zero => intro v1 v2 v4 M h; exact h.elim
  | succ n ih =>
    intro v1 v2 v4 M h
    unfold w_Model_putNumber_L16 at h
    refine E_blk (lv' := [some (vr (some (11, this))), some (vi v1), some (vl v2), none, some (vl v4), none]) (st' := [vi (lg_cmp (v4 * (10 : Int64)) v2)]) (M1 := M) (pc' := 24) (tb_Model hγ) [.lload 4, .ldc2_w 130, .lmul, .lload_n 2, .lcmp] (by decide +kernel) rfl rfl trivial ?_
    refine E_if_gt (off := 14) (tgt := 38) (by decide +kernel) (by decide) (fun b2 => ?_) (fun b2 => ?_)
    · rw [if_pos b2] at h
      refine E_blk (lv' := [some (vr (some (11, this))), some (vi v1), some (vl v2), none, some (vl v4), none]) (st' := [vi v1]) (M1 := M) (pc' := 39) (tb_Model hγ) [.iload_n 1] (by decide +kernel) rfl rfl trivial ?_
      refine E_if_ge (off := 9) (tgt := 48) (by decide +kernel) (by decide) (fun b3 => ?_) (fun b3 => ?_)
      · rw [if_pos b3] at h
        obtain ⟨n9, h⟩ := h
        refine E_mask [true, false, true, false, true, false] rfl ?_
        exact lk_Model_putNumber_L48 hγ this Q n9 v2 v4 M h
      · rw [if_neg b3] at h
        refine E_blk (lv' := [some (vr (some (11, this))), some (vi v1), some (vl v2), none, some (vl v4), none]) (st' := [vi (45 : Int32), vr (some (11, this))]) (M1 := M) (pc' := 45) (tb_Model hγ) [.aload_n 0, .bipush 45] (by decide +kernel) rfl rfl trivial ?_
        refine E_callV (κ' := k_Model_put) (As := [vi (45 : Int32)]) (st := []) mv_Model_put (Or.inl (tbk_mem (j := 17) (k := 43) rfl)) rfl (by decide +kernel) (Nat.le_of_ble_eq_true rfl) (Nat.le_of_ble_eq_true rfl) rfl (by decide) (lk_Model_put hγ this (45 : Int32) _ M h) (fun _ _ => Qv_r) (fun v M10 hp => Qv_k (R := fun st => E γ k_Model_putNumber 3 48 [some (vr (some (11, this))), some (vi v1), some (vl v2), none, some (vl v4), none] st M10 (Qv Q)) hp (fun h => ?_))
        obtain ⟨n11, h⟩ := h
        refine E_mask [true, false, true, false, true, false] rfl ?_
        exact lk_Model_putNumber_L48 hγ this Q n11 v2 v4 M10 h
    · rw [if_neg b2] at h
      refine E_blk (lv' := [some (vr (some (11, this))), some (vi v1), some (vl v2), none, some (vl (v4 * (10 : Int64))), none]) (st' := []) (M1 := M) (pc' := 35) (tb_Model hγ) [.lload 4, .ldc2_w 130, .lmul, .lstore 4] (by decide +kernel) rfl rfl trivial ?_
      refine E_goto (off := -19) (tgt := 16) (by decide +kernel) (by decide) ?_
      refine E_mask [true, true, true, false, true, false] rfl ?_
      exact ih v1 v2 (v4 * (10 : Int64)) M h
set_option maxRecDepth 4096 in
theorem lk_Model_putNumber_j12 {γ : Gm} (hγ : Gk γ) (this : Nat) (Q : Mem → Prop) (v1 : Int32) (s0 : Int64) (M : Mem) (h : w_Model_putNumber_j12 this Q v1 s0 M) : E γ k_Model_putNumber 3 12 [some (vr (some (11, this))), some (vi v1), none, none, none, none] [vl s0] M (Qv Q) := by
  unfold w_Model_putNumber_j12 at h
  refine E_blk (lv' := [some (vr (some (11, this))), some (vi v1), some (vl s0), none, some (vl (1 : Int64)), none]) (st' := []) (M1 := M) (pc' := 16) (tb_Model hγ) [.lstore_n 2, .lconst 1, .lstore 4] (by decide +kernel) rfl rfl trivial ?_
  obtain ⟨n12, h⟩ := h
  refine E_mask [true, true, true, false, true, false] rfl ?_
  exact lk_Model_putNumber_L16 hγ this Q n12 v1 s0 (1 : Int64) M h
set_option maxRecDepth 4096 in
theorem lk_Model_putNumber {γ : Gm} (hγ : Gk γ) (this : Nat) (a1 : Int32) (Q : Mem → Prop) (M : Mem) (h : w_Model_putNumber this a1 Q M) : E γ k_Model_putNumber 3 0 [some (vr (some (11, this))), some (vi a1), none, none, none, none] [] M (Qv Q) := by
  unfold w_Model_putNumber at h
  refine E_blk (lv' := [some (vr (some (11, this))), some (vi a1), none, none, none, none]) (st' := [vi a1]) (M1 := M) (pc' := 1) (tb_Model hγ) [.iload_n 1] (by decide +kernel) rfl rfl trivial ?_
  refine E_if_ge (off := 9) (tgt := 10) (by decide +kernel) (by decide) (fun b1 => ?_) (fun b1 => ?_)
  · rw [if_pos b1] at h
    refine E_blk (lv' := [some (vr (some (11, this))), some (vi a1), none, none, none, none]) (st' := [vl a1.toInt64]) (M1 := M) (pc' := 12) (tb_Model hγ) [.iload_n 1, .i2l] (by decide +kernel) rfl rfl trivial ?_
    refine E_mask [true, true, false, false, false, false] rfl ?_
    exact lk_Model_putNumber_j12 hγ this Q a1 a1.toInt64 M h
  · rw [if_neg b1] at h
    refine E_blk (lv' := [some (vr (some (11, this))), some (vi a1), none, none, none, none]) (st' := [vl (-a1.toInt64)]) (M1 := M) (pc' := 7) (tb_Model hγ) [.iload_n 1, .i2l, .lneg] (by decide +kernel) rfl rfl trivial ?_
    refine E_goto (off := 5) (tgt := 12) (by decide +kernel) (by decide) ?_
    refine E_mask [true, true, false, false, false, false] rfl ?_
    exact lk_Model_putNumber_j12 hγ this Q a1 (-a1.toInt64) M h
def w_Model_putType_j40 (this : Nat) (Q : Mem → Prop) (s0 : Nat) (M : Mem) : Prop :=
  w_Model_putWord this s0 (fun M3 => Q M3) M
def w_Model_putType (this : Nat) (a1 : Int32) (Q : Mem → Prop) (M : Mem) : Prop :=
  if a1 < (16 : Int32) then (if a1 = 0 then (w_Model_putType_j40 this Q 16 M) else (if a1 = (1 : Int32) then (w_Model_putType_j40 this Q 32 M) else (w_Model_putType_j40 this Q 15 M))) else (w_Model_putName this (a1 - (16 : Int32)) (fun M5 => Q M5) M)
set_option maxRecDepth 4096 in
theorem lk_Model_putType_j40 {γ : Gm} (hγ : Gk γ) (this : Nat) (Q : Mem → Prop) (s0 : Nat) (M : Mem) (h : w_Model_putType_j40 this Q s0 M) : E γ k_Model_putType 5 40 [none, none] [vr (some (0, s0)), vr (some (11, this))] M (Qv Q) := by
  unfold w_Model_putType_j40 at h
  refine E_callV (κ' := k_Model_putWord) (As := [vr (some (0, s0))]) (st := []) mv_Model_putWord (Or.inl (tbk_mem (j := 17) (k := 39) rfl)) rfl (by decide +kernel) (Nat.le_of_ble_eq_true rfl) (Nat.le_of_ble_eq_true rfl) rfl (by decide) (lk_Model_putWord hγ this s0 _ M h) (fun _ _ => Qv_r) (fun v M3 hp => Qv_k (R := fun st => E γ k_Model_putType 5 43 [none, none] st M3 (Qv Q)) hp (fun h => ?_))
  exact E_vret rfl (by decide +kernel) h
set_option maxRecDepth 4096 in
theorem lk_Model_putType {γ : Gm} (hγ : Gk γ) (this : Nat) (a1 : Int32) (Q : Mem → Prop) (M : Mem) (h : w_Model_putType this a1 Q M) : E γ k_Model_putType 5 0 [some (vr (some (11, this))), some (vi a1)] [] M (Qv Q) := by
  unfold w_Model_putType at h
  refine E_blk (lv' := [some (vr (some (11, this))), some (vi a1)]) (st' := [vi (16 : Int32), vi a1]) (M1 := M) (pc' := 3) (tb_Model hγ) [.iload_n 1, .bipush 16] (by decide +kernel) rfl rfl trivial ?_
  refine E_icmp_lt (off := 14) (tgt := 17) (by decide +kernel) (by decide) (fun b1 => ?_) (fun b1 => ?_)
  · rw [if_pos b1] at h
    refine E_blk (lv' := [some (vr (some (11, this))), some (vi a1)]) (st' := [vi a1, vr (some (11, this))]) (M1 := M) (pc' := 19) (tb_Model hγ) [.aload_n 0, .iload_n 1] (by decide +kernel) rfl rfl trivial ?_
    refine E_if_ne (off := 8) (tgt := 27) (by decide +kernel) (by decide) (fun b2 => ?_) (fun b2 => ?_)
    · rw [if_pos b2] at h
      refine E_ldcS (κ := k_Model_putType) (pc := 22) (k := 16) hγ.2.2.2 rfl rfl (by decide +kernel) ?_
      refine E_goto (off := 16) (tgt := 40) (by decide +kernel) (by decide) ?_
      refine E_mask [false, false] rfl ?_
      exact lk_Model_putType_j40 hγ this Q 16 M h
    · rw [if_neg b2] at h
      refine E_blk (lv' := [some (vr (some (11, this))), some (vi a1)]) (st' := [vi (1 : Int32), vi a1, vr (some (11, this))]) (M1 := M) (pc' := 29) (tb_Model hγ) [.iload_n 1, .iconst 1] (by decide +kernel) rfl rfl trivial ?_
      refine E_icmp_ne (off := 9) (tgt := 38) (by decide +kernel) (by decide) (fun b4 => ?_) (fun b4 => ?_)
      · rw [if_pos b4] at h
        refine E_ldcwS (κ := k_Model_putType) (pc := 32) (k := 32) hγ.2.2.2 rfl rfl (by decide +kernel) ?_
        refine E_goto (off := 5) (tgt := 40) (by decide +kernel) (by decide) ?_
        refine E_mask [false, false] rfl ?_
        exact lk_Model_putType_j40 hγ this Q 32 M h
      · rw [if_neg b4] at h
        refine E_ldcS (κ := k_Model_putType) (pc := 38) (k := 15) hγ.2.2.2 rfl rfl (by decide +kernel) ?_
        refine E_mask [false, false] rfl ?_
        exact lk_Model_putType_j40 hγ this Q 15 M h
  · rw [if_neg b1] at h
    refine E_blk (lv' := [some (vr (some (11, this))), some (vi a1)]) (st' := [vi (a1 - (16 : Int32)), vr (some (11, this))]) (M1 := M) (pc' := 11) (tb_Model hγ) [.aload_n 0, .iload_n 1, .bipush 16, .isub] (by decide +kernel) rfl rfl trivial ?_
    refine E_callV (κ' := k_Model_putName) (As := [vi (a1 - (16 : Int32))]) (st := []) mv_Model_putName (Or.inl (tbk_mem (j := 17) (k := 50) rfl)) rfl (by decide +kernel) (Nat.le_of_ble_eq_true rfl) (Nat.le_of_ble_eq_true rfl) rfl (by decide) (lk_Model_putName hγ this (a1 - (16 : Int32)) _ M h) (fun _ _ => Qv_r) (fun v M5 hp => Qv_k (R := fun st => E γ k_Model_putType 5 14 [some (vr (some (11, this))), some (vi a1)] st M5 (Qv Q)) hp (fun h => ?_))
    refine E_goto (off := 29) (tgt := 43) (by decide +kernel) (by decide) ?_
    exact E_vret rfl (by decide +kernel) h
def w_Model_putSignature_j32 (this : Nat) (Q : Mem → Prop) (k8 : Int32 → Int32 → Mem → Prop) (v1 : Int32) (v2 : Int32) (s0 : Nat) (M : Mem) : Prop :=
  w_Model_putWord this s0 (fun M10 => ∃ i11, (mR M10 11 this 35) = some (300, i11) ∧ ∃ i12, (mR M10 11 this 30) = some (300, i12) ∧ vp_in v1 (mL M10 300 i12) ∧ vp_in ((mI M10 300 i12 v1.toNatClampNeg) + v2) (mL M10 300 i11) ∧ w_Model_putType this (mI M10 300 i11 ((mI M10 300 i12 v1.toNatClampNeg) + v2).toNatClampNeg) (fun M15 => k8 v1 (v2 + (1 : Int32)) M15) M10) M
def w_Model_putSignature_L8 (this : Nat) (Q : Mem → Prop) : Nat → Int32 → Int32 → Mem → Prop
  | 0, _, _, _ => False
  | n + 1, v1, v2, M => ∃ i2, (mR M 11 this 31) = some (300, i2) ∧ vp_in v1 (mL M 300 i2) ∧ if (mI M 300 i2 v1.toNatClampNeg) ≤ v2 then (w_Model_putWord this 36 (fun M5 => ∃ i6, (mR M5 11 this 32) = some (300, i6) ∧ vp_in v1 (mL M5 300 i6) ∧ w_Model_putType this (mI M5 300 i6 v1.toNatClampNeg) (fun M8 => Q M8) M5) M) else (if v2 ≤ 0 then (w_Model_putSignature_j32 this Q (w_Model_putSignature_L8 this Q n) v1 v2 35 M) else (w_Model_putSignature_j32 this Q (w_Model_putSignature_L8 this Q n) v1 v2 28 M))
def w_Model_putSignature (this : Nat) (a1 : Int32) (Q : Mem → Prop) (M : Mem) : Prop :=
  w_Model_put this (40 : Int32) (fun M1 => ∃ n16 : Nat, w_Model_putSignature_L8 this Q n16 a1 (0 : Int32) M1) M
set_option maxRecDepth 4096 in
theorem lk_Model_putSignature_j32 {γ : Gm} (hγ : Gk γ) (this : Nat) (Q : Mem → Prop) (k8 : Int32 → Int32 → Mem → Prop) (hk8 : ∀ (v1 : Int32) (v2 : Int32) (M : Mem), k8 v1 v2 M → E γ k_Model_putSignature 6 8 [some (vr (some (11, this))), some (vi v1), some (vi v2)] [] M (Qv Q)) (v1 : Int32) (v2 : Int32) (s0 : Nat) (M : Mem) (h : w_Model_putSignature_j32 this Q k8 v1 v2 s0 M) : E γ k_Model_putSignature 6 32 [some (vr (some (11, this))), some (vi v1), some (vi v2)] [vr (some (0, s0)), vr (some (11, this))] M (Qv Q) := by
  unfold w_Model_putSignature_j32 at h
  refine E_callV (κ' := k_Model_putWord) (As := [vr (some (0, s0))]) (st := []) mv_Model_putWord (Or.inl (tbk_mem (j := 17) (k := 39) rfl)) rfl (by decide +kernel) (Nat.le_of_ble_eq_true rfl) (Nat.le_of_ble_eq_true rfl) rfl (by decide) (lk_Model_putWord hγ this s0 _ M h) (fun _ _ => Qv_r) (fun v M10 hp => Qv_k (R := fun st => E γ k_Model_putSignature 6 35 [some (vr (some (11, this))), some (vi v1), some (vi v2)] st M10 (Qv Q)) hp (fun h => ?_))
  refine E_blk (lv' := [some (vr (some (11, this))), some (vi v1), some (vi v2)]) (st' := [vr (mR M10 11 this 35), vr (some (11, this))]) (M1 := M10) (pc' := 40) (tb_Model hγ) [.aload_n 0, .aload_n 0, .getfield 86] (by decide +kernel) rfl rfl trivial ?_
  obtain ⟨i11, ei11, h⟩ := h
  rw [ei11]
  refine E_blk (lv' := [some (vr (some (11, this))), some (vi v1), some (vi v2)]) (st' := [vr (mR M10 11 this 30), vr (some (300, i11)), vr (some (11, this))]) (M1 := M10) (pc' := 44) (tb_Model hγ) [.aload_n 0, .getfield 74] (by decide +kernel) rfl rfl trivial ?_
  obtain ⟨i12, ei12, h⟩ := h
  rw [ei12]
  obtain ⟨c13, c14, h⟩ := h
  refine E_blk (lv' := [some (vr (some (11, this))), some (vi v1), some (vi v2)]) (st' := [vi (mI M10 300 i11 ((mI M10 300 i12 v1.toNatClampNeg) + v2).toNatClampNeg), vr (some (11, this))]) (M1 := M10) (pc' := 49) (tb_Model hγ) [.iload_n 1, .iaload, .iload_n 2, .iadd, .iaload] (by decide +kernel) rfl rfl ⟨c13, c14, trivial⟩ ?_
  refine E_callV (κ' := k_Model_putType) (As := [vi (mI M10 300 i11 ((mI M10 300 i12 v1.toNatClampNeg) + v2).toNatClampNeg)]) (st := []) mv_Model_putType (Or.inl (tbk_mem (j := 17) (k := 63) rfl)) rfl (by decide +kernel) (Nat.le_of_ble_eq_true rfl) (Nat.le_of_ble_eq_true rfl) rfl (by decide) (lk_Model_putType hγ this (mI M10 300 i11 ((mI M10 300 i12 v1.toNatClampNeg) + v2).toNatClampNeg) _ M10 h) (fun _ _ => Qv_r) (fun v M15 hp => Qv_k (R := fun st => E γ k_Model_putSignature 6 52 [some (vr (some (11, this))), some (vi v1), some (vi v2)] st M15 (Qv Q)) hp (fun h => ?_))
  refine E_blk (lv' := [some (vr (some (11, this))), some (vi v1), some (vi (v2 + (1 : Int32)))]) (st' := []) (M1 := M15) (pc' := 55) (tb_Model hγ) [.iinc 2 1] (by decide +kernel) rfl rfl trivial ?_
  refine E_goto (off := -47) (tgt := 8) (by decide +kernel) (by decide) ?_
  refine E_mask [true, true, true] rfl ?_
  exact hk8 v1 (v2 + (1 : Int32)) M15 h
set_option maxRecDepth 4096 in
theorem lk_Model_putSignature_L8 {γ : Gm} (hγ : Gk γ) (this : Nat) (Q : Mem → Prop) : ∀ (n : Nat) (v1 : Int32) (v2 : Int32) (M : Mem), w_Model_putSignature_L8 this Q n v1 v2 M → E γ k_Model_putSignature 6 8 [some (vr (some (11, this))), some (vi v1), some (vi v2)] [] M (Qv Q) := by
  intro n
  induction n with
  | zero => intro v1 v2 M h; exact h.elim
  | succ n ih =>
    intro v1 v2 M h
    unfold w_Model_putSignature_L8 at h
    refine E_blk (lv' := [some (vr (some (11, this))), some (vi v1), some (vi v2)]) (st' := [vr (mR M 11 this 31), vi v2]) (M1 := M) (pc' := 13) (tb_Model hγ) [.iload_n 2, .aload_n 0, .getfield 80] (by decide +kernel) rfl rfl trivial ?_
    obtain ⟨i2, ei2, h⟩ := h
    rw [ei2]
    obtain ⟨c3, h⟩ := h
    refine E_blk (lv' := [some (vr (some (11, this))), some (vi v1), some (vi v2)]) (st' := [vi (mI M 300 i2 v1.toNatClampNeg), vi v2]) (M1 := M) (pc' := 15) (tb_Model hγ) [.iload_n 1, .iaload] (by decide +kernel) rfl rfl ⟨c3, trivial⟩ ?_
    refine E_icmp_ge (off := 43) (tgt := 58) (by decide +kernel) (by decide) (fun b4 => ?_) (fun b4 => ?_)
    · rw [if_pos b4] at h
      refine E_blk (lv' := [some (vr (some (11, this))), some (vi v1), some (vi v2)]) (st' := [vr (some (11, this))]) (M1 := M) (pc' := 59) (tb_Model hγ) [.aload_n 0] (by decide +kernel) rfl rfl trivial ?_
      refine E_ldcwS (κ := k_Model_putSignature) (pc := 59) (k := 36) hγ.2.2.2 rfl rfl (by decide +kernel) ?_
      refine E_callV (κ' := k_Model_putWord) (As := [vr (some (0, 36))]) (st := []) mv_Model_putWord (Or.inl (tbk_mem (j := 17) (k := 39) rfl)) rfl (by decide +kernel) (Nat.le_of_ble_eq_true rfl) (Nat.le_of_ble_eq_true rfl) rfl (by decide) (lk_Model_putWord hγ this 36 _ M h) (fun _ _ => Qv_r) (fun v M5 hp => Qv_k (R := fun st => E γ k_Model_putSignature 6 65 [some (vr (some (11, this))), some (vi v1), some (vi v2)] st M5 (Qv Q)) hp (fun h => ?_))
      refine E_blk (lv' := [some (vr (some (11, this))), some (vi v1), some (vi v2)]) (st' := [vr (mR M5 11 this 32), vr (some (11, this))]) (M1 := M5) (pc' := 70) (tb_Model hγ) [.aload_n 0, .aload_n 0, .getfield 83] (by decide +kernel) rfl rfl trivial ?_
      obtain ⟨i6, ei6, h⟩ := h
      rw [ei6]
      obtain ⟨c7, h⟩ := h
      refine E_blk (lv' := [some (vr (some (11, this))), some (vi v1), some (vi v2)]) (st' := [vi (mI M5 300 i6 v1.toNatClampNeg), vr (some (11, this))]) (M1 := M5) (pc' := 72) (tb_Model hγ) [.iload_n 1, .iaload] (by decide +kernel) rfl rfl ⟨c7, trivial⟩ ?_
      refine E_callV (κ' := k_Model_putType) (As := [vi (mI M5 300 i6 v1.toNatClampNeg)]) (st := []) mv_Model_putType (Or.inl (tbk_mem (j := 17) (k := 63) rfl)) rfl (by decide +kernel) (Nat.le_of_ble_eq_true rfl) (Nat.le_of_ble_eq_true rfl) rfl (by decide) (lk_Model_putType hγ this (mI M5 300 i6 v1.toNatClampNeg) _ M5 h) (fun _ _ => Qv_r) (fun v M8 hp => Qv_k (R := fun st => E γ k_Model_putSignature 6 75 [some (vr (some (11, this))), some (vi v1), some (vi v2)] st M8 (Qv Q)) hp (fun h => ?_))
      exact E_vret rfl (by decide +kernel) h
    · rw [if_neg b4] at h
      refine E_blk (lv' := [some (vr (some (11, this))), some (vi v1), some (vi v2)]) (st' := [vi v2, vr (some (11, this))]) (M1 := M) (pc' := 20) (tb_Model hγ) [.aload_n 0, .iload_n 2] (by decide +kernel) rfl rfl trivial ?_
      refine E_if_le (off := 9) (tgt := 29) (by decide +kernel) (by decide) (fun b9 => ?_) (fun b9 => ?_)
      · rw [if_pos b9] at h
        refine E_ldcwS (κ := k_Model_putSignature) (pc := 29) (k := 35) hγ.2.2.2 rfl rfl (by decide +kernel) ?_
        refine E_mask [true, true, true] rfl ?_
        exact lk_Model_putSignature_j32 hγ this Q (w_Model_putSignature_L8 this Q n) ih v1 v2 35 M h
      · rw [if_neg b9] at h
        refine E_ldcwS (κ := k_Model_putSignature) (pc := 23) (k := 28) hγ.2.2.2 rfl rfl (by decide +kernel) ?_
        refine E_goto (off := 6) (tgt := 32) (by decide +kernel) (by decide) ?_
        refine E_mask [true, true, true] rfl ?_
        exact lk_Model_putSignature_j32 hγ this Q (w_Model_putSignature_L8 this Q n) ih v1 v2 28 M h
set_option maxRecDepth 4096 in
theorem lk_Model_putSignature {γ : Gm} (hγ : Gk γ) (this : Nat) (a1 : Int32) (Q : Mem → Prop) (M : Mem) (h : w_Model_putSignature this a1 Q M) : E γ k_Model_putSignature 6 0 [some (vr (some (11, this))), some (vi a1), none] [] M (Qv Q) := by
  unfold w_Model_putSignature at h
  refine E_blk (lv' := [some (vr (some (11, this))), some (vi a1), none]) (st' := [vi (40 : Int32), vr (some (11, this))]) (M1 := M) (pc' := 3) (tb_Model hγ) [.aload_n 0, .bipush 40] (by decide +kernel) rfl rfl trivial ?_
  refine E_callV (κ' := k_Model_put) (As := [vi (40 : Int32)]) (st := []) mv_Model_put (Or.inl (tbk_mem (j := 17) (k := 43) rfl)) rfl (by decide +kernel) (Nat.le_of_ble_eq_true rfl) (Nat.le_of_ble_eq_true rfl) rfl (by decide) (lk_Model_put hγ this (40 : Int32) _ M h) (fun _ _ => Qv_r) (fun v M1 hp => Qv_k (R := fun st => E γ k_Model_putSignature 6 6 [some (vr (some (11, this))), some (vi a1), none] st M1 (Qv Q)) hp (fun h => ?_))
  refine E_blk (lv' := [some (vr (some (11, this))), some (vi a1), some (vi (0 : Int32))]) (st' := []) (M1 := M1) (pc' := 8) (tb_Model hγ) [.iconst 0, .istore_n 2] (by decide +kernel) rfl rfl trivial ?_
  obtain ⟨n16, h⟩ := h
  refine E_mask [true, true, true] rfl ?_
  exact lk_Model_putSignature_L8 hγ this Q n16 a1 (0 : Int32) M1 h
def w_Model_putFlag (this : Nat) (a1 : Int32) (a2 : Nat) (Q : Mem → Prop) (M : Mem) : Prop :=
  if a1 = 0 then (Q M) else (w_Model_putWord this a2 (fun M2 => Q M2) M)
set_option maxRecDepth 4096 in
theorem lk_Model_putFlag {γ : Gm} (hγ : Gk γ) (this : Nat) (a1 : Int32) (a2 : Nat) (Q : Mem → Prop) (M : Mem) (h : w_Model_putFlag this a1 a2 Q M) : E γ k_Model_putFlag 5 0 [some (vr (some (11, this))), some (vi a1), some (vr (some (0, a2)))] [] M (Qv Q) := by
  unfold w_Model_putFlag at h
  refine E_blk (lv' := [some (vr (some (11, this))), some (vi a1), some (vr (some (0, a2)))]) (st' := [vi a1]) (M1 := M) (pc' := 1) (tb_Model hγ) [.iload_n 1] (by decide +kernel) rfl rfl trivial ?_
  refine E_if_eq (off := 8) (tgt := 9) (by decide +kernel) (by decide) (fun b1 => ?_) (fun b1 => ?_)
  · rw [if_pos b1] at h
    exact E_vret rfl (by decide +kernel) h
  · rw [if_neg b1] at h
    refine E_blk (lv' := [some (vr (some (11, this))), some (vi a1), some (vr (some (0, a2)))]) (st' := [vr (some (0, a2)), vr (some (11, this))]) (M1 := M) (pc' := 6) (tb_Model hγ) [.aload_n 0, .aload_n 2] (by decide +kernel) rfl rfl trivial ?_
    refine E_callV (κ' := k_Model_putWord) (As := [vr (some (0, a2))]) (st := []) mv_Model_putWord (Or.inl (tbk_mem (j := 17) (k := 39) rfl)) rfl (by decide +kernel) (Nat.le_of_ble_eq_true rfl) (Nat.le_of_ble_eq_true rfl) rfl (by decide) (lk_Model_putWord hγ this a2 _ M h) (fun _ _ => Qv_r) (fun v M2 hp => Qv_k (R := fun st => E γ k_Model_putFlag 5 9 [some (vr (some (11, this))), some (vi a1), some (vr (some (0, a2)))] st M2 (Qv Q)) hp (fun h => ?_))
    exact E_vret rfl (by decide +kernel) h
def w_Model_putFlags_j67 (this : Nat) (Q : Mem → Prop) (s0 : Int32) (M : Mem) : Prop :=
  w_Model_putFlag this s0 24 (fun M8 => Q M8) M
def w_Model_putFlags_j48 (this : Nat) (Q : Mem → Prop) (v1 : Int32) (s0 : Int32) (M : Mem) : Prop :=
  w_Model_putFlag this s0 31 (fun M6 => if (v1 &&& (8 : Int32)) = 0 then (w_Model_putFlags_j67 this Q (0 : Int32) M6) else (w_Model_putFlags_j67 this Q (1 : Int32) M6)) M
def w_Model_putFlags_j30 (this : Nat) (Q : Mem → Prop) (v1 : Int32) (s0 : Int32) (M : Mem) : Prop :=
  w_Model_putFlag this s0 23 (fun M4 => if (v1 &&& (4 : Int32)) = 0 then (w_Model_putFlags_j48 this Q v1 (0 : Int32) M4) else (w_Model_putFlags_j48 this Q v1 (1 : Int32) M4)) M
def w_Model_putFlags_j12 (this : Nat) (Q : Mem → Prop) (v1 : Int32) (s0 : Int32) (M : Mem) : Prop :=
  w_Model_putFlag this s0 30 (fun M2 => if (v1 &&& (2 : Int32)) = 0 then (w_Model_putFlags_j30 this Q v1 (0 : Int32) M2) else (w_Model_putFlags_j30 this Q v1 (1 : Int32) M2)) M
def w_Model_putFlags (this : Nat) (a1 : Int32) (Q : Mem → Prop) (M : Mem) : Prop :=
  if (a1 &&& (1 : Int32)) = 0 then (w_Model_putFlags_j12 this Q a1 (0 : Int32) M) else (w_Model_putFlags_j12 this Q a1 (1 : Int32) M)
set_option maxRecDepth 4096 in
theorem lk_Model_putFlags_j67 {γ : Gm} (hγ : Gk γ) (this : Nat) (Q : Mem → Prop) (s0 : Int32) (M : Mem) (h : w_Model_putFlags_j67 this Q s0 M) : E γ k_Model_putFlags 6 67 [none, none] [vi s0, vr (some (11, this))] M (Qv Q) := by
  unfold w_Model_putFlags_j67 at h
  refine E_ldcwS (κ := k_Model_putFlags) (pc := 67) (k := 24) hγ.2.2.2 rfl rfl (by decide +kernel) ?_
  refine E_callV (κ' := k_Model_putFlag) (As := [vi s0, vr (some (0, 24))]) (st := []) mv_Model_putFlag (Or.inl (tbk_mem (j := 17) (k := 35) rfl)) rfl (by decide +kernel) (Nat.le_of_ble_eq_true rfl) (Nat.le_of_ble_eq_true rfl) rfl (by decide) (lk_Model_putFlag hγ this s0 24 _ M h) (fun _ _ => Qv_r) (fun v M8 hp => Qv_k (R := fun st => E γ k_Model_putFlags 6 73 [none, none] st M8 (Qv Q)) hp (fun h => ?_))
  exact E_vret rfl (by decide +kernel) h
set_option maxRecDepth 4096 in
theorem lk_Model_putFlags_j48 {γ : Gm} (hγ : Gk γ) (this : Nat) (Q : Mem → Prop) (v1 : Int32) (s0 : Int32) (M : Mem) (h : w_Model_putFlags_j48 this Q v1 s0 M) : E γ k_Model_putFlags 6 48 [some (vr (some (11, this))), some (vi v1)] [vi s0, vr (some (11, this))] M (Qv Q) := by
  unfold w_Model_putFlags_j48 at h
  refine E_ldcwS (κ := k_Model_putFlags) (pc := 48) (k := 31) hγ.2.2.2 rfl rfl (by decide +kernel) ?_
  refine E_callV (κ' := k_Model_putFlag) (As := [vi s0, vr (some (0, 31))]) (st := []) mv_Model_putFlag (Or.inl (tbk_mem (j := 17) (k := 35) rfl)) rfl (by decide +kernel) (Nat.le_of_ble_eq_true rfl) (Nat.le_of_ble_eq_true rfl) rfl (by decide) (lk_Model_putFlag hγ this s0 31 _ M h) (fun _ _ => Qv_r) (fun v M6 hp => Qv_k (R := fun st => E γ k_Model_putFlags 6 54 [some (vr (some (11, this))), some (vi v1)] st M6 (Qv Q)) hp (fun h => ?_))
  refine E_blk (lv' := [some (vr (some (11, this))), some (vi v1)]) (st' := [vi (v1 &&& (8 : Int32)), vr (some (11, this))]) (M1 := M6) (pc' := 59) (tb_Model hγ) [.aload_n 0, .iload_n 1, .bipush 8, .iand] (by decide +kernel) rfl rfl trivial ?_
  refine E_if_eq (off := 7) (tgt := 66) (by decide +kernel) (by decide) (fun b7 => ?_) (fun b7 => ?_)
  · rw [if_pos b7] at h
    refine E_blk (lv' := [some (vr (some (11, this))), some (vi v1)]) (st' := [vi (0 : Int32), vr (some (11, this))]) (M1 := M6) (pc' := 67) (tb_Model hγ) [.iconst 0] (by decide +kernel) rfl rfl trivial ?_
    refine E_mask [false, false] rfl ?_
    exact lk_Model_putFlags_j67 hγ this Q (0 : Int32) M6 h
  · rw [if_neg b7] at h
    refine E_blk (lv' := [some (vr (some (11, this))), some (vi v1)]) (st' := [vi (1 : Int32), vr (some (11, this))]) (M1 := M6) (pc' := 63) (tb_Model hγ) [.iconst 1] (by decide +kernel) rfl rfl trivial ?_
    refine E_goto (off := 4) (tgt := 67) (by decide +kernel) (by decide) ?_
    refine E_mask [false, false] rfl ?_
    exact lk_Model_putFlags_j67 hγ this Q (1 : Int32) M6 h
set_option maxRecDepth 4096 in
theorem lk_Model_putFlags_j30 {γ : Gm} (hγ : Gk γ) (this : Nat) (Q : Mem → Prop) (v1 : Int32) (s0 : Int32) (M : Mem) (h : w_Model_putFlags_j30 this Q v1 s0 M) : E γ k_Model_putFlags 6 30 [some (vr (some (11, this))), some (vi v1)] [vi s0, vr (some (11, this))] M (Qv Q) := by
  unfold w_Model_putFlags_j30 at h
  refine E_ldcwS (κ := k_Model_putFlags) (pc := 30) (k := 23) hγ.2.2.2 rfl rfl (by decide +kernel) ?_
  refine E_callV (κ' := k_Model_putFlag) (As := [vi s0, vr (some (0, 23))]) (st := []) mv_Model_putFlag (Or.inl (tbk_mem (j := 17) (k := 35) rfl)) rfl (by decide +kernel) (Nat.le_of_ble_eq_true rfl) (Nat.le_of_ble_eq_true rfl) rfl (by decide) (lk_Model_putFlag hγ this s0 23 _ M h) (fun _ _ => Qv_r) (fun v M4 hp => Qv_k (R := fun st => E γ k_Model_putFlags 6 36 [some (vr (some (11, this))), some (vi v1)] st M4 (Qv Q)) hp (fun h => ?_))
  refine E_blk (lv' := [some (vr (some (11, this))), some (vi v1)]) (st' := [vi (v1 &&& (4 : Int32)), vr (some (11, this))]) (M1 := M4) (pc' := 40) (tb_Model hγ) [.aload_n 0, .iload_n 1, .iconst 4, .iand] (by decide +kernel) rfl rfl trivial ?_
  refine E_if_eq (off := 7) (tgt := 47) (by decide +kernel) (by decide) (fun b5 => ?_) (fun b5 => ?_)
  · rw [if_pos b5] at h
    refine E_blk (lv' := [some (vr (some (11, this))), some (vi v1)]) (st' := [vi (0 : Int32), vr (some (11, this))]) (M1 := M4) (pc' := 48) (tb_Model hγ) [.iconst 0] (by decide +kernel) rfl rfl trivial ?_
    refine E_mask [true, true] rfl ?_
    exact lk_Model_putFlags_j48 hγ this Q v1 (0 : Int32) M4 h
  · rw [if_neg b5] at h
    refine E_blk (lv' := [some (vr (some (11, this))), some (vi v1)]) (st' := [vi (1 : Int32), vr (some (11, this))]) (M1 := M4) (pc' := 44) (tb_Model hγ) [.iconst 1] (by decide +kernel) rfl rfl trivial ?_
    refine E_goto (off := 4) (tgt := 48) (by decide +kernel) (by decide) ?_
    refine E_mask [true, true] rfl ?_
    exact lk_Model_putFlags_j48 hγ this Q v1 (1 : Int32) M4 h
set_option maxRecDepth 4096 in
theorem lk_Model_putFlags_j12 {γ : Gm} (hγ : Gk γ) (this : Nat) (Q : Mem → Prop) (v1 : Int32) (s0 : Int32) (M : Mem) (h : w_Model_putFlags_j12 this Q v1 s0 M) : E γ k_Model_putFlags 6 12 [some (vr (some (11, this))), some (vi v1)] [vi s0, vr (some (11, this))] M (Qv Q) := by
  unfold w_Model_putFlags_j12 at h
  refine E_ldcwS (κ := k_Model_putFlags) (pc := 12) (k := 30) hγ.2.2.2 rfl rfl (by decide +kernel) ?_
  refine E_callV (κ' := k_Model_putFlag) (As := [vi s0, vr (some (0, 30))]) (st := []) mv_Model_putFlag (Or.inl (tbk_mem (j := 17) (k := 35) rfl)) rfl (by decide +kernel) (Nat.le_of_ble_eq_true rfl) (Nat.le_of_ble_eq_true rfl) rfl (by decide) (lk_Model_putFlag hγ this s0 30 _ M h) (fun _ _ => Qv_r) (fun v M2 hp => Qv_k (R := fun st => E γ k_Model_putFlags 6 18 [some (vr (some (11, this))), some (vi v1)] st M2 (Qv Q)) hp (fun h => ?_))
  refine E_blk (lv' := [some (vr (some (11, this))), some (vi v1)]) (st' := [vi (v1 &&& (2 : Int32)), vr (some (11, this))]) (M1 := M2) (pc' := 22) (tb_Model hγ) [.aload_n 0, .iload_n 1, .iconst 2, .iand] (by decide +kernel) rfl rfl trivial ?_
  refine E_if_eq (off := 7) (tgt := 29) (by decide +kernel) (by decide) (fun b3 => ?_) (fun b3 => ?_)
  · rw [if_pos b3] at h
    refine E_blk (lv' := [some (vr (some (11, this))), some (vi v1)]) (st' := [vi (0 : Int32), vr (some (11, this))]) (M1 := M2) (pc' := 30) (tb_Model hγ) [.iconst 0] (by decide +kernel) rfl rfl trivial ?_
    refine E_mask [true, true] rfl ?_
    exact lk_Model_putFlags_j30 hγ this Q v1 (0 : Int32) M2 h
  · rw [if_neg b3] at h
    refine E_blk (lv' := [some (vr (some (11, this))), some (vi v1)]) (st' := [vi (1 : Int32), vr (some (11, this))]) (M1 := M2) (pc' := 26) (tb_Model hγ) [.iconst 1] (by decide +kernel) rfl rfl trivial ?_
    refine E_goto (off := 4) (tgt := 30) (by decide +kernel) (by decide) ?_
    refine E_mask [true, true] rfl ?_
    exact lk_Model_putFlags_j30 hγ this Q v1 (1 : Int32) M2 h
set_option maxRecDepth 4096 in
theorem lk_Model_putFlags {γ : Gm} (hγ : Gk γ) (this : Nat) (a1 : Int32) (Q : Mem → Prop) (M : Mem) (h : w_Model_putFlags this a1 Q M) : E γ k_Model_putFlags 6 0 [some (vr (some (11, this))), some (vi a1)] [] M (Qv Q) := by
  unfold w_Model_putFlags at h
  refine E_blk (lv' := [some (vr (some (11, this))), some (vi a1)]) (st' := [vi (a1 &&& (1 : Int32)), vr (some (11, this))]) (M1 := M) (pc' := 4) (tb_Model hγ) [.aload_n 0, .iload_n 1, .iconst 1, .iand] (by decide +kernel) rfl rfl trivial ?_
  refine E_if_eq (off := 7) (tgt := 11) (by decide +kernel) (by decide) (fun b1 => ?_) (fun b1 => ?_)
  · rw [if_pos b1] at h
    refine E_blk (lv' := [some (vr (some (11, this))), some (vi a1)]) (st' := [vi (0 : Int32), vr (some (11, this))]) (M1 := M) (pc' := 12) (tb_Model hγ) [.iconst 0] (by decide +kernel) rfl rfl trivial ?_
    refine E_mask [true, true] rfl ?_
    exact lk_Model_putFlags_j12 hγ this Q a1 (0 : Int32) M h
  · rw [if_neg b1] at h
    refine E_blk (lv' := [some (vr (some (11, this))), some (vi a1)]) (st' := [vi (1 : Int32), vr (some (11, this))]) (M1 := M) (pc' := 8) (tb_Model hγ) [.iconst 1] (by decide +kernel) rfl rfl trivial ?_
    refine E_goto (off := 4) (tgt := 12) (by decide +kernel) (by decide) ?_
    refine E_mask [true, true] rfl ?_
    exact lk_Model_putFlags_j12 hγ this Q a1 (1 : Int32) M h
def w_Model_putKinds_j110 (this : Nat) (Q : Mem → Prop) (k3 : Int32 → Int32 → Int32 → Int32 → Mem → Prop) (v1 : Int32) (v2 : Int32) (v3 : Int32) (v4 : Int32) (s0 : Int32) (M : Mem) : Prop :=
  w_Model_putName this s0 (fun M8 => k3 v1 v2 v3 (v4 + (1 : Int32)) M8) M
def w_Model_putKinds_j35 (this : Nat) (Q : Mem → Prop) (k3 : Int32 → Int32 → Int32 → Int32 → Mem → Prop) (v1 : Int32) (v2 : Int32) (v3 : Int32) (v4 : Int32) (v5 : Int32) (s0 : Nat) (M : Mem) : Prop :=
  w_Model_putWord this s0 (fun M5 => if v5 < (16 : Int32) then (if v5 = (1 : Int32) then (w_Model_putKinds_j110 this Q k3 v1 v2 v3 v4 (mI M5 11 this 27) M5) else (if v5 = (2 : Int32) then (w_Model_putKinds_j110 this Q k3 v1 v2 v3 v4 (mI M5 11 this 20) M5) else (if v5 = (3 : Int32) then (w_Model_putKinds_j110 this Q k3 v1 v2 v3 v4 (mI M5 11 this 28) M5) else (if v5 = (4 : Int32) then (w_Model_putKinds_j110 this Q k3 v1 v2 v3 v4 (mI M5 11 this 22) M5) else (w_Model_putKinds_j110 this Q k3 v1 v2 v3 v4 (mI M5 11 this 23) M5))))) else (w_Model_putKinds_j110 this Q k3 v1 v2 v3 v4 (v5 - (16 : Int32)) M5)) M
def w_Model_putKinds_L3 (this : Nat) (Q : Mem → Prop) : Nat → Int32 → Int32 → Int32 → Int32 → Mem → Prop
  | 0, _, _, _, _, _ => False
  | n + 1, v1, v2, v3, v4, M => if v3 ≤ v4 then (Q M) else (w_Model_frameKind this v1 (v2 + v4) (fun r3 M2 => if v4 ≤ 0 then (w_Model_putKinds_j35 this Q (w_Model_putKinds_L3 this Q n) v1 v2 v3 v4 r3 39 M2) else (w_Model_putKinds_j35 this Q (w_Model_putKinds_L3 this Q n) v1 v2 v3 v4 r3 28 M2)) M)
def w_Model_putKinds (this : Nat) (a1 : Int32) (a2 : Int32) (a3 : Int32) (Q : Mem → Prop) (M : Mem) : Prop :=
  ∃ n12 : Nat, w_Model_putKinds_L3 this Q n12 a1 a2 a3 (0 : Int32) M
set_option maxRecDepth 4096 in
theorem lk_Model_putKinds_j110 {γ : Gm} (hγ : Gk γ) (this : Nat) (Q : Mem → Prop) (k3 : Int32 → Int32 → Int32 → Int32 → Mem → Prop) (hk3 : ∀ (v1 : Int32) (v2 : Int32) (v3 : Int32) (v4 : Int32) (M : Mem), k3 v1 v2 v3 v4 M → E γ k_Model_putKinds 5 3 [some (vr (some (11, this))), some (vi v1), some (vi v2), some (vi v3), some (vi v4), none] [] M (Qv Q)) (v1 : Int32) (v2 : Int32) (v3 : Int32) (v4 : Int32) (s0 : Int32) (M : Mem) (h : w_Model_putKinds_j110 this Q k3 v1 v2 v3 v4 s0 M) : E γ k_Model_putKinds 5 110 [some (vr (some (11, this))), some (vi v1), some (vi v2), some (vi v3), some (vi v4), none] [vi s0, vr (some (11, this))] M (Qv Q) := by
  unfold w_Model_putKinds_j110 at h
  refine E_callV (κ' := k_Model_putName) (As := [vi s0]) (st := []) mv_Model_putName (Or.inl (tbk_mem (j := 17) (k := 50) rfl)) rfl (by decide +kernel) (Nat.le_of_ble_eq_true rfl) (Nat.le_of_ble_eq_true rfl) rfl (by decide) (lk_Model_putName hγ this s0 _ M h) (fun _ _ => Qv_r) (fun v M8 hp => Qv_k (R := fun st => E γ k_Model_putKinds 5 113 [some (vr (some (11, this))), some (vi v1), some (vi v2), some (vi v3), some (vi v4), none] st M8 (Qv Q)) hp (fun h => ?_))
  refine E_blk (lv' := [some (vr (some (11, this))), some (vi v1), some (vi v2), some (vi v3), some (vi (v4 + (1 : Int32))), none]) (st' := []) (M1 := M8) (pc' := 116) (tb_Model hγ) [.iinc 4 1] (by decide +kernel) rfl rfl trivial ?_
  refine E_goto (off := -113) (tgt := 3) (by decide +kernel) (by decide) ?_
  refine E_mask [true, true, true, true, true, false] rfl ?_
  exact hk3 v1 v2 v3 (v4 + (1 : Int32)) M8 h
set_option maxRecDepth 4096 in
theorem lk_Model_putKinds_j35 {γ : Gm} (hγ : Gk γ) (this : Nat) (Q : Mem → Prop) (k3 : Int32 → Int32 → Int32 → Int32 → Mem → Prop) (hk3 : ∀ (v1 : Int32) (v2 : Int32) (v3 : Int32) (v4 : Int32) (M : Mem), k3 v1 v2 v3 v4 M → E γ k_Model_putKinds 5 3 [some (vr (some (11, this))), some (vi v1), some (vi v2), some (vi v3), some (vi v4), none] [] M (Qv Q)) (v1 : Int32) (v2 : Int32) (v3 : Int32) (v4 : Int32) (v5 : Int32) (s0 : Nat) (M : Mem) (h : w_Model_putKinds_j35 this Q k3 v1 v2 v3 v4 v5 s0 M) : E γ k_Model_putKinds 5 35 [some (vr (some (11, this))), some (vi v1), some (vi v2), some (vi v3), some (vi v4), some (vi v5)] [vr (some (0, s0)), vr (some (11, this))] M (Qv Q) := by
  unfold w_Model_putKinds_j35 at h
  refine E_callV (κ' := k_Model_putWord) (As := [vr (some (0, s0))]) (st := []) mv_Model_putWord (Or.inl (tbk_mem (j := 17) (k := 39) rfl)) rfl (by decide +kernel) (Nat.le_of_ble_eq_true rfl) (Nat.le_of_ble_eq_true rfl) rfl (by decide) (lk_Model_putWord hγ this s0 _ M h) (fun _ _ => Qv_r) (fun v M5 hp => Qv_k (R := fun st => E γ k_Model_putKinds 5 38 [some (vr (some (11, this))), some (vi v1), some (vi v2), some (vi v3), some (vi v4), some (vi v5)] st M5 (Qv Q)) hp (fun h => ?_))
  refine E_blk (lv' := [some (vr (some (11, this))), some (vi v1), some (vi v2), some (vi v3), some (vi v4), some (vi v5)]) (st' := [vi (16 : Int32), vi v5, vr (some (11, this))]) (M1 := M5) (pc' := 43) (tb_Model hγ) [.aload_n 0, .iload 5, .bipush 16] (by decide +kernel) rfl rfl trivial ?_
  refine E_icmp_lt (off := 11) (tgt := 54) (by decide +kernel) (by decide) (fun b6 => ?_) (fun b6 => ?_)
  · rw [if_pos b6] at h
    refine E_blk (lv' := [some (vr (some (11, this))), some (vi v1), some (vi v2), some (vi v3), some (vi v4), some (vi v5)]) (st' := [vi (1 : Int32), vi v5, vr (some (11, this))]) (M1 := M5) (pc' := 57) (tb_Model hγ) [.iload 5, .iconst 1] (by decide +kernel) rfl rfl trivial ?_
    refine E_icmp_ne (off := 10) (tgt := 67) (by decide +kernel) (by decide) (fun b7 => ?_) (fun b7 => ?_)
    · rw [if_pos b7] at h
      refine E_blk (lv' := [some (vr (some (11, this))), some (vi v1), some (vi v2), some (vi v3), some (vi v4), some (vi v5)]) (st' := [vi (mI M5 11 this 27), vr (some (11, this))]) (M1 := M5) (pc' := 64) (tb_Model hγ) [.aload_n 0, .getfield 245] (by decide +kernel) rfl rfl trivial ?_
      refine E_goto (off := 46) (tgt := 110) (by decide +kernel) (by decide) ?_
      refine E_mask [true, true, true, true, true, false] rfl ?_
      exact lk_Model_putKinds_j110 hγ this Q k3 hk3 v1 v2 v3 v4 (mI M5 11 this 27) M5 h
    · rw [if_neg b7] at h
      refine E_blk (lv' := [some (vr (some (11, this))), some (vi v1), some (vi v2), some (vi v3), some (vi v4), some (vi v5)]) (st' := [vi (2 : Int32), vi v5, vr (some (11, this))]) (M1 := M5) (pc' := 70) (tb_Model hγ) [.iload 5, .iconst 2] (by decide +kernel) rfl rfl trivial ?_
      refine E_icmp_ne (off := 10) (tgt := 80) (by decide +kernel) (by decide) (fun b9 => ?_) (fun b9 => ?_)
      · rw [if_pos b9] at h
        refine E_blk (lv' := [some (vr (some (11, this))), some (vi v1), some (vi v2), some (vi v3), some (vi v4), some (vi v5)]) (st' := [vi (mI M5 11 this 20), vr (some (11, this))]) (M1 := M5) (pc' := 77) (tb_Model hγ) [.aload_n 0, .getfield 212] (by decide +kernel) rfl rfl trivial ?_
        refine E_goto (off := 33) (tgt := 110) (by decide +kernel) (by decide) ?_
        refine E_mask [true, true, true, true, true, false] rfl ?_
        exact lk_Model_putKinds_j110 hγ this Q k3 hk3 v1 v2 v3 v4 (mI M5 11 this 20) M5 h
      · rw [if_neg b9] at h
        refine E_blk (lv' := [some (vr (some (11, this))), some (vi v1), some (vi v2), some (vi v3), some (vi v4), some (vi v5)]) (st' := [vi (3 : Int32), vi v5, vr (some (11, this))]) (M1 := M5) (pc' := 83) (tb_Model hγ) [.iload 5, .iconst 3] (by decide +kernel) rfl rfl trivial ?_
        refine E_icmp_ne (off := 10) (tgt := 93) (by decide +kernel) (by decide) (fun b10 => ?_) (fun b10 => ?_)
        · rw [if_pos b10] at h
          refine E_blk (lv' := [some (vr (some (11, this))), some (vi v1), some (vi v2), some (vi v3), some (vi v4), some (vi v5)]) (st' := [vi (mI M5 11 this 28), vr (some (11, this))]) (M1 := M5) (pc' := 90) (tb_Model hγ) [.aload_n 0, .getfield 248] (by decide +kernel) rfl rfl trivial ?_
          refine E_goto (off := 20) (tgt := 110) (by decide +kernel) (by decide) ?_
          refine E_mask [true, true, true, true, true, false] rfl ?_
          exact lk_Model_putKinds_j110 hγ this Q k3 hk3 v1 v2 v3 v4 (mI M5 11 this 28) M5 h
        · rw [if_neg b10] at h
          refine E_blk (lv' := [some (vr (some (11, this))), some (vi v1), some (vi v2), some (vi v3), some (vi v4), some (vi v5)]) (st' := [vi (4 : Int32), vi v5, vr (some (11, this))]) (M1 := M5) (pc' := 96) (tb_Model hγ) [.iload 5, .iconst 4] (by decide +kernel) rfl rfl trivial ?_
          refine E_icmp_ne (off := 10) (tgt := 106) (by decide +kernel) (by decide) (fun b11 => ?_) (fun b11 => ?_)
          · rw [if_pos b11] at h
            refine E_blk (lv' := [some (vr (some (11, this))), some (vi v1), some (vi v2), some (vi v3), some (vi v4), some (vi v5)]) (st' := [vi (mI M5 11 this 22), vr (some (11, this))]) (M1 := M5) (pc' := 103) (tb_Model hγ) [.aload_n 0, .getfield 222] (by decide +kernel) rfl rfl trivial ?_
            refine E_goto (off := 7) (tgt := 110) (by decide +kernel) (by decide) ?_
            refine E_mask [true, true, true, true, true, false] rfl ?_
            exact lk_Model_putKinds_j110 hγ this Q k3 hk3 v1 v2 v3 v4 (mI M5 11 this 22) M5 h
          · rw [if_neg b11] at h
            refine E_blk (lv' := [some (vr (some (11, this))), some (vi v1), some (vi v2), some (vi v3), some (vi v4), some (vi v5)]) (st' := [vi (mI M5 11 this 23), vr (some (11, this))]) (M1 := M5) (pc' := 110) (tb_Model hγ) [.aload_n 0, .getfield 227] (by decide +kernel) rfl rfl trivial ?_
            refine E_mask [true, true, true, true, true, false] rfl ?_
            exact lk_Model_putKinds_j110 hγ this Q k3 hk3 v1 v2 v3 v4 (mI M5 11 this 23) M5 h
  · rw [if_neg b6] at h
    refine E_blk (lv' := [some (vr (some (11, this))), some (vi v1), some (vi v2), some (vi v3), some (vi v4), some (vi v5)]) (st' := [vi (v5 - (16 : Int32)), vr (some (11, this))]) (M1 := M5) (pc' := 51) (tb_Model hγ) [.iload 5, .bipush 16, .isub] (by decide +kernel) rfl rfl trivial ?_
    refine E_goto (off := 59) (tgt := 110) (by decide +kernel) (by decide) ?_
    refine E_mask [true, true, true, true, true, false] rfl ?_
    exact lk_Model_putKinds_j110 hγ this Q k3 hk3 v1 v2 v3 v4 (v5 - (16 : Int32)) M5 h
set_option maxRecDepth 4096 in
theorem lk_Model_putKinds_L3 {γ : Gm} (hγ : Gk γ) (this : Nat) (Q : Mem → Prop) : ∀ (n : Nat) (v1 : Int32) (v2 : Int32) (v3 : Int32) (v4 : Int32) (M : Mem), w_Model_putKinds_L3 this Q n v1 v2 v3 v4 M → E γ k_Model_putKinds 5 3 [some (vr (some (11, this))), some (vi v1), some (vi v2), some (vi v3), some (vi v4), none] [] M (Qv Q) := by
  intro n
  induction n with
  | zero => intro v1 v2 v3 v4 M h; exact h.elim
  | succ n ih =>
    intro v1 v2 v3 v4 M h
    unfold w_Model_putKinds_L3 at h
    refine E_blk (lv' := [some (vr (some (11, this))), some (vi v1), some (vi v2), some (vi v3), some (vi v4), none]) (st' := [vi v3, vi v4]) (M1 := M) (pc' := 6) (tb_Model hγ) [.iload 4, .iload_n 3] (by decide +kernel) rfl rfl trivial ?_
    refine E_icmp_ge (off := 113) (tgt := 119) (by decide +kernel) (by decide) (fun b1 => ?_) (fun b1 => ?_)
    · rw [if_pos b1] at h
      exact E_vret rfl (by decide +kernel) h
    · rw [if_neg b1] at h
      refine E_blk (lv' := [some (vr (some (11, this))), some (vi v1), some (vi v2), some (vi v3), some (vi v4), none]) (st' := [vi (v2 + v4), vi v1, vr (some (11, this))]) (M1 := M) (pc' := 15) (tb_Model hγ) [.aload_n 0, .iload_n 1, .iload_n 2, .iload 4, .iadd] (by decide +kernel) rfl rfl trivial ?_
      refine E_callV (κ' := k_Model_frameKind) (As := [vi v1, vi (v2 + v4)]) (st := []) mv_Model_frameKind (Or.inl (tbk_mem (j := 15) (k := 185) rfl)) rfl (by decide +kernel) (Nat.le_of_ble_eq_true rfl) (Nat.le_of_ble_eq_true rfl) rfl (by decide) (lk_Model_frameKind hγ this v1 (v2 + v4) _ M h) (fun _ _ => Qi_r) (fun v M2 hp => Qi_k (R := fun st => E γ k_Model_putKinds 5 18 [some (vr (some (11, this))), some (vi v1), some (vi v2), some (vi v3), some (vi v4), none] st M2 (Qv Q)) hp (fun r3 h => ?_))
      refine E_blk (lv' := [some (vr (some (11, this))), some (vi v1), some (vi v2), some (vi v3), some (vi v4), some (vi r3)]) (st' := [vi v4, vr (some (11, this))]) (M1 := M2) (pc' := 23) (tb_Model hγ) [.istore 5, .aload_n 0, .iload 4] (by decide +kernel) rfl rfl trivial ?_
      refine E_if_le (off := 9) (tgt := 32) (by decide +kernel) (by decide) (fun b4 => ?_) (fun b4 => ?_)
      · rw [if_pos b4] at h
        refine E_ldcwS (κ := k_Model_putKinds) (pc := 32) (k := 39) hγ.2.2.2 rfl rfl (by decide +kernel) ?_
        refine E_mask [true, true, true, true, true, true] rfl ?_
        exact lk_Model_putKinds_j35 hγ this Q (w_Model_putKinds_L3 this Q n) ih v1 v2 v3 v4 r3 39 M2 h
      · rw [if_neg b4] at h
        refine E_ldcwS (κ := k_Model_putKinds) (pc := 26) (k := 28) hγ.2.2.2 rfl rfl (by decide +kernel) ?_
        refine E_goto (off := 6) (tgt := 35) (by decide +kernel) (by decide) ?_
        refine E_mask [true, true, true, true, true, true] rfl ?_
        exact lk_Model_putKinds_j35 hγ this Q (w_Model_putKinds_L3 this Q n) ih v1 v2 v3 v4 r3 28 M2 h
set_option maxRecDepth 4096 in
theorem lk_Model_putKinds {γ : Gm} (hγ : Gk γ) (this : Nat) (a1 : Int32) (a2 : Int32) (a3 : Int32) (Q : Mem → Prop) (M : Mem) (h : w_Model_putKinds this a1 a2 a3 Q M) : E γ k_Model_putKinds 5 0 [some (vr (some (11, this))), some (vi a1), some (vi a2), some (vi a3), none, none] [] M (Qv Q) := by
  unfold w_Model_putKinds at h
  refine E_blk (lv' := [some (vr (some (11, this))), some (vi a1), some (vi a2), some (vi a3), some (vi (0 : Int32)), none]) (st' := []) (M1 := M) (pc' := 3) (tb_Model hγ) [.iconst 0, .istore 4] (by decide +kernel) rfl rfl trivial ?_
  obtain ⟨n12, h⟩ := h
  refine E_mask [true, true, true, true, true, false] rfl ?_
  exact lk_Model_putKinds_L3 hγ this Q n12 a1 a2 a3 (0 : Int32) M h
def w_Model_putLabel_j24 (this : Nat) (Q : Mem → Prop) (k4 : Int32 → Int32 → Int32 → Mem → Prop) (v1 : Int32) (v3 : Int32) (s0 : Int32) (s1 : Int32) (M : Mem) : Prop :=
  k4 v1 (s1 + s0) (v3 + (1 : Int32)) M
def w_Model_putLabel_L4 (this : Nat) (Q : Mem → Prop) : Nat → Int32 → Int32 → Int32 → Mem → Prop
  | 0, _, _, _, _ => False
  | n + 1, v1, v2, v3, M => if v1 ≤ v3 then (w_Model_put this (76 : Int32) (fun M2 => w_Model_putNumber this v2 (fun M3 => Q M3) M2) M) else (vp_in v3 (mL M 518 this) ∧ if (mI M 518 this v3.toNatClampNeg) = 0 then (w_Model_putLabel_j24 this Q (w_Model_putLabel_L4 this Q n) v1 v3 (0 : Int32) v2 M) else (w_Model_putLabel_j24 this Q (w_Model_putLabel_L4 this Q n) v1 v3 (1 : Int32) v2 M))
def w_Model_putLabel (this : Nat) (a1 : Int32) (Q : Mem → Prop) (M : Mem) : Prop :=
  ∃ n6 : Nat, w_Model_putLabel_L4 this Q n6 a1 (0 : Int32) (0 : Int32) M
set_option maxRecDepth 4096 in
theorem lk_Model_putLabel_j24 {γ : Gm} (hγ : Gk γ) (this : Nat) (Q : Mem → Prop) (k4 : Int32 → Int32 → Int32 → Mem → Prop) (hk4 : ∀ (v1 : Int32) (v2 : Int32) (v3 : Int32) (M : Mem), k4 v1 v2 v3 M → E γ k_Model_putLabel 4 4 [some (vr (some (11, this))), some (vi v1), some (vi v2), some (vi v3)] [] M (Qv Q)) (v1 : Int32) (v3 : Int32) (s0 : Int32) (s1 : Int32) (M : Mem) (h : w_Model_putLabel_j24 this Q k4 v1 v3 s0 s1 M) : E γ k_Model_putLabel 4 24 [some (vr (some (11, this))), some (vi v1), none, some (vi v3)] [vi s0, vi s1] M (Qv Q) := by
  unfold w_Model_putLabel_j24 at h
  refine E_blk (lv' := [some (vr (some (11, this))), some (vi v1), some (vi (s1 + s0)), some (vi (v3 + (1 : Int32)))]) (st' := []) (M1 := M) (pc' := 29) (tb_Model hγ) [.iadd, .istore_n 2, .iinc 3 1] (by decide +kernel) rfl rfl trivial ?_
  refine E_goto (off := -25) (tgt := 4) (by decide +kernel) (by decide) ?_
  refine E_mask [true, true, true, true] rfl ?_
  exact hk4 v1 (s1 + s0) (v3 + (1 : Int32)) M h
set_option maxRecDepth 4096 in
theorem lk_Model_putLabel_L4 {γ : Gm} (hγ : Gk γ) (this : Nat) (Q : Mem → Prop) : ∀ (n : Nat) (v1 : Int32) (v2 : Int32) (v3 : Int32) (M : Mem), w_Model_putLabel_L4 this Q n v1 v2 v3 M → E γ k_Model_putLabel 4 4 [some (vr (some (11, this))), some (vi v1), some (vi v2), some (vi v3)] [] M (Qv Q) := by
  intro n
  induction n with
  | zero => intro v1 v2 v3 M h; exact h.elim
  | succ n ih =>
    intro v1 v2 v3 M h
    unfold w_Model_putLabel_L4 at h
    refine E_blk (lv' := [some (vr (some (11, this))), some (vi v1), some (vi v2), some (vi v3)]) (st' := [vi v1, vi v3]) (M1 := M) (pc' := 6) (tb_Model hγ) [.iload_n 3, .iload_n 1] (by decide +kernel) rfl rfl trivial ?_
    refine E_icmp_ge (off := 26) (tgt := 32) (by decide +kernel) (by decide) (fun b1 => ?_) (fun b1 => ?_)
    · rw [if_pos b1] at h
      refine E_blk (lv' := [some (vr (some (11, this))), some (vi v1), some (vi v2), some (vi v3)]) (st' := [vi (76 : Int32), vr (some (11, this))]) (M1 := M) (pc' := 35) (tb_Model hγ) [.aload_n 0, .bipush 76] (by decide +kernel) rfl rfl trivial ?_
      refine E_callV (κ' := k_Model_put) (As := [vi (76 : Int32)]) (st := []) mv_Model_put (Or.inl (tbk_mem (j := 17) (k := 43) rfl)) rfl (by decide +kernel) (Nat.le_of_ble_eq_true rfl) (Nat.le_of_ble_eq_true rfl) rfl (by decide) (lk_Model_put hγ this (76 : Int32) _ M h) (fun _ _ => Qv_r) (fun v M2 hp => Qv_k (R := fun st => E γ k_Model_putLabel 4 38 [some (vr (some (11, this))), some (vi v1), some (vi v2), some (vi v3)] st M2 (Qv Q)) hp (fun h => ?_))
      refine E_blk (lv' := [some (vr (some (11, this))), some (vi v1), some (vi v2), some (vi v3)]) (st' := [vi v2, vr (some (11, this))]) (M1 := M2) (pc' := 40) (tb_Model hγ) [.aload_n 0, .iload_n 2] (by decide +kernel) rfl rfl trivial ?_
      refine E_callV (κ' := k_Model_putNumber) (As := [vi v2]) (st := []) mv_Model_putNumber (Or.inl (tbk_mem (j := 17) (k := 69) rfl)) rfl (by decide +kernel) (Nat.le_of_ble_eq_true rfl) (Nat.le_of_ble_eq_true rfl) rfl (by decide) (lk_Model_putNumber hγ this v2 _ M2 h) (fun _ _ => Qv_r) (fun v M3 hp => Qv_k (R := fun st => E γ k_Model_putLabel 4 43 [some (vr (some (11, this))), some (vi v1), some (vi v2), some (vi v3)] st M3 (Qv Q)) hp (fun h => ?_))
      exact E_vret rfl (by decide +kernel) h
    · rw [if_neg b1] at h
      obtain ⟨c4, h⟩ := h
      refine E_blk (lv' := [some (vr (some (11, this))), some (vi v1), some (vi v2), some (vi v3)]) (st' := [vi (mI M 518 this v3.toNatClampNeg), vi v2]) (M1 := M) (pc' := 16) (tb_Model hγ) [.iload_n 2, .aload_n 0, .getfield 326, .iload_n 3, .baload] (by decide +kernel) rfl rfl ⟨c4, trivial⟩ ?_
      refine E_if_eq (off := 7) (tgt := 23) (by decide +kernel) (by decide) (fun b5 => ?_) (fun b5 => ?_)
      · rw [if_pos b5] at h
        refine E_blk (lv' := [some (vr (some (11, this))), some (vi v1), some (vi v2), some (vi v3)]) (st' := [vi (0 : Int32), vi v2]) (M1 := M) (pc' := 24) (tb_Model hγ) [.iconst 0] (by decide +kernel) rfl rfl trivial ?_
        refine E_mask [true, true, false, true] rfl ?_
        exact lk_Model_putLabel_j24 hγ this Q (w_Model_putLabel_L4 this Q n) ih v1 v3 (0 : Int32) v2 M h
      · rw [if_neg b5] at h
        refine E_blk (lv' := [some (vr (some (11, this))), some (vi v1), some (vi v2), some (vi v3)]) (st' := [vi (1 : Int32), vi v2]) (M1 := M) (pc' := 20) (tb_Model hγ) [.iconst 1] (by decide +kernel) rfl rfl trivial ?_
        refine E_goto (off := 4) (tgt := 24) (by decide +kernel) (by decide) ?_
        refine E_mask [true, true, false, true] rfl ?_
        exact lk_Model_putLabel_j24 hγ this Q (w_Model_putLabel_L4 this Q n) ih v1 v3 (1 : Int32) v2 M h
set_option maxRecDepth 4096 in
theorem lk_Model_putLabel {γ : Gm} (hγ : Gk γ) (this : Nat) (a1 : Int32) (Q : Mem → Prop) (M : Mem) (h : w_Model_putLabel this a1 Q M) : E γ k_Model_putLabel 4 0 [some (vr (some (11, this))), some (vi a1), none, none] [] M (Qv Q) := by
  unfold w_Model_putLabel at h
  refine E_blk (lv' := [some (vr (some (11, this))), some (vi a1), some (vi (0 : Int32)), some (vi (0 : Int32))]) (st' := []) (M1 := M) (pc' := 4) (tb_Model hγ) [.iconst 0, .istore_n 2, .iconst 0, .istore_n 3] (by decide +kernel) rfl rfl trivial ?_
  obtain ⟨n6, h⟩ := h
  refine E_mask [true, true, true, true] rfl ?_
  exact lk_Model_putLabel_L4 hγ this Q n6 a1 (0 : Int32) (0 : Int32) M h
def w_Model_putInstruction_j422 (this : Nat) (Q : Mem → Prop)  (M : Mem) : Prop :=
  w_Model_put this (10 : Int32) (fun M36 => Q M36) M
def w_Model_putInstruction_j395 (this : Nat) (Q : Mem → Prop) (v1 : Int32) (v4 : Int32) (M : Mem) : Prop :=
  if v4 < (50 : Int32) then (w_Model_putInstruction_j422 this Q  M) else (if (53 : Int32) < v4 then (w_Model_putInstruction_j422 this Q  M) else (∃ i38, (mR M 11 this 45) = some (12, i38) ∧ ∃ i39, (mR M 12 i38 33) = some (300, i39) ∧ vp_in v1 (mL M 300 i39) ∧ w_Model_putSignature this (mI M 300 i39 v1.toNatClampNeg) (fun M41 => w_Model_putInstruction_j422 this Q  M41) M))
def w_Model_putInstruction_j362 (this : Nat) (Q : Mem → Prop) (v1 : Int32) (v4 : Int32) (M : Mem) : Prop :=
  if v4 < (46 : Int32) then (w_Model_putInstruction_j395 this Q v1 v4 M) else (if (49 : Int32) < v4 then (w_Model_putInstruction_j395 this Q v1 v4 M) else (w_Model_put this (32 : Int32) (fun M43 => ∃ i44, (mR M43 11 this 45) = some (12, i44) ∧ ∃ i45, (mR M43 12 i44 33) = some (300, i45) ∧ vp_in v1 (mL M43 300 i45) ∧ w_Model_putType this (mI M43 300 i45 v1.toNatClampNeg) (fun M47 => w_Model_putInstruction_j395 this Q v1 v4 M47) M43) M))
def w_Model_putInstruction_j329 (this : Nat) (Q : Mem → Prop) (v1 : Int32) (v4 : Int32) (M : Mem) : Prop :=
  if v4 < (46 : Int32) then (w_Model_putInstruction_j362 this Q v1 v4 M) else (if (53 : Int32) < v4 then (w_Model_putInstruction_j362 this Q v1 v4 M) else (w_Model_put this (46 : Int32) (fun M49 => ∃ i50, (mR M49 11 this 45) = some (12, i50) ∧ ∃ i51, (mR M49 12 i50 32) = some (300, i51) ∧ vp_in v1 (mL M49 300 i51) ∧ w_Model_putName this (mI M49 300 i51 v1.toNatClampNeg) (fun M53 => w_Model_putInstruction_j362 this Q v1 v4 M53) M49) M))
def w_Model_putInstruction_j317 (this : Nat) (Q : Mem → Prop) (v1 : Int32) (v4 : Int32) (v5 : Int32) (M : Mem) : Prop :=
  w_Model_put this (32 : Int32) (fun M31 => w_Model_putName this v5 (fun M32 => w_Model_putInstruction_j329 this Q v1 v4 M32) M31) M
def w_Model_putInstruction_j296 (this : Nat) (Q : Mem → Prop) (v1 : Int32) (v4 : Int32) (v5 : Int32) (M : Mem) : Prop :=
  if v4 = (41 : Int32) then (w_Model_putInstruction_j317 this Q v1 v4 v5 M) else (if v4 < (46 : Int32) then (w_Model_putInstruction_j329 this Q v1 v4 M) else (if (55 : Int32) < v4 then (w_Model_putInstruction_j329 this Q v1 v4 M) else (w_Model_putInstruction_j317 this Q v1 v4 v5 M)))
def w_Model_putInstruction_j263 (this : Nat) (Q : Mem → Prop) (k227 : Int32 → Int32 → Int32 → Int32 → Mem → Prop) (v1 : Int32) (v4 : Int32) (v5 : Int32) (v6 : Int32) (s0 : Nat) (M : Mem) : Prop :=
  w_Model_putWord this s0 (fun M57 => ∃ i58, (mR M57 11 this 45) = some (12, i58) ∧ ∃ i59, (mR M57 12 i58 36) = some (300, i59) ∧ ∃ i60, (mR M57 11 this 45) = some (12, i60) ∧ ∃ i61, (mR M57 12 i60 32) = some (300, i61) ∧ vp_in v1 (mL M57 300 i61) ∧ vp_in ((mI M57 300 i61 v1.toNatClampNeg) + v6) (mL M57 300 i59) ∧ w_Model_putLabel this (mI M57 300 i59 ((mI M57 300 i61 v1.toNatClampNeg) + v6).toNatClampNeg) (fun M64 => k227 v1 v4 v5 (v6 + (1 : Int32)) M64) M57) M
def w_Model_putInstruction_L227 (this : Nat) (Q : Mem → Prop) : Nat → Int32 → Int32 → Int32 → Int32 → Mem → Prop
  | 0, _, _, _, _, _ => False
  | n + 1, v1, v4, v5, v6, M => if v4 = (40 : Int32) then (∃ i26, (mR M 11 this 45) = some (12, i26) ∧ ∃ i27, (mR M 12 i26 33) = some (300, i27) ∧ vp_in v1 (mL M 300 i27) ∧ if (mI M 300 i27 v1.toNatClampNeg) ≤ v6 then (w_Model_putInstruction_j296 this Q v1 v4 v5 M) else (if v6 ≤ 0 then (w_Model_putInstruction_j263 this Q (w_Model_putInstruction_L227 this Q n) v1 v4 v5 v6 39 M) else (w_Model_putInstruction_j263 this Q (w_Model_putInstruction_L227 this Q n) v1 v4 v5 v6 28 M))) else (w_Model_putInstruction_j296 this Q v1 v4 v5 M)
def w_Model_putInstruction_j224 (this : Nat) (Q : Mem → Prop) (v1 : Int32) (v4 : Int32) (v5 : Int32) (M : Mem) : Prop :=
  ∃ n65 : Nat, w_Model_putInstruction_L227 this Q n65 v1 v4 v5 (0 : Int32) M
def w_Model_putInstruction_j198 (this : Nat) (Q : Mem → Prop) (v1 : Int32) (v4 : Int32) (v5 : Int32) (M : Mem) : Prop :=
  if v4 < (23 : Int32) then (w_Model_putInstruction_j224 this Q v1 v4 v5 M) else (if (39 : Int32) < v4 then (w_Model_putInstruction_j224 this Q v1 v4 v5 M) else (w_Model_put this (32 : Int32) (fun M67 => w_Model_putLabel this v5 (fun M68 => w_Model_putInstruction_j224 this Q v1 v4 v5 M68) M67) M))
def w_Model_putInstruction_j172 (this : Nat) (Q : Mem → Prop) (v1 : Int32) (v4 : Int32) (v5 : Int32) (M : Mem) : Prop :=
  if v4 = (7 : Int32) then (w_Model_put this (32 : Int32) (fun M19 => ∃ i20, (mR M19 11 this 45) = some (12, i20) ∧ ∃ i21, (mR M19 12 i20 32) = some (300, i21) ∧ vp_in v1 (mL M19 300 i21) ∧ w_Model_putNumber this (mI M19 300 i21 v1.toNatClampNeg) (fun M23 => w_Model_putInstruction_j198 this Q v1 v4 v5 M23) M19) M) else (w_Model_putInstruction_j198 this Q v1 v4 v5 M)
def w_Model_putInstruction_j160 (this : Nat) (Q : Mem → Prop) (v1 : Int32) (v4 : Int32) (v5 : Int32) (M : Mem) : Prop :=
  w_Model_put this (32 : Int32) (fun M16 => w_Model_putNumber this v5 (fun M17 => w_Model_putInstruction_j172 this Q v1 v4 v5 M17) M16) M
def w_Model_putInstruction_j153 (this : Nat) (Q : Mem → Prop) (v1 : Int32) (v4 : Int32) (v5 : Int32) (M : Mem) : Prop :=
  if v4 = (40 : Int32) then (w_Model_putInstruction_j160 this Q v1 v4 v5 M) else (w_Model_putInstruction_j172 this Q v1 v4 v5 M)
def w_Model_putInstruction_j101 (this : Nat) (Q : Mem → Prop) (v1 : Int32) (M : Mem) : Prop :=
  ∃ i8, (mR M 11 this 45) = some (12, i8) ∧ ∃ i9, (mR M 12 i8 30) = some (401, i9) ∧ vp_in v1 (mL M 401 i9) ∧ w_Model_putName this ((mI M 11 this 26) + (mI M 401 i9 v1.toNatClampNeg)) (fun M11 => ∃ i12, (mR M11 11 this 45) = some (12, i12) ∧ ∃ i13, (mR M11 12 i12 31) = some (300, i13) ∧ vp_in v1 (mL M11 300 i13) ∧ if (mI M 401 i9 v1.toNatClampNeg) = (1 : Int32) then (w_Model_putInstruction_j160 this Q v1 (mI M 401 i9 v1.toNatClampNeg) (mI M11 300 i13 v1.toNatClampNeg) M11) else (if (mI M 401 i9 v1.toNatClampNeg) < (3 : Int32) then (w_Model_putInstruction_j153 this Q v1 (mI M 401 i9 v1.toNatClampNeg) (mI M11 300 i13 v1.toNatClampNeg) M11) else (if (mI M 401 i9 v1.toNatClampNeg) ≤ (7 : Int32) then (w_Model_putInstruction_j160 this Q v1 (mI M 401 i9 v1.toNatClampNeg) (mI M11 300 i13 v1.toNatClampNeg) M11) else (w_Model_putInstruction_j153 this Q v1 (mI M 401 i9 v1.toNatClampNeg) (mI M11 300 i13 v1.toNatClampNeg) M11)))) M
def w_Model_putInstruction_j73 (this : Nat) (Q : Mem → Prop) (v1 : Int32) (v2 : Int32) (M : Mem) : Prop :=
  w_Model_putWord this 40 (fun M5 => vp_in v2 (mL M5 518 this) ∧ if (mI M5 518 this v2.toNatClampNeg) = 0 then (w_Model_putInstruction_j101 this Q v1 M5) else (w_Model_putLabel this v2 (fun M72 => w_Model_putWord this 27 (fun M73 => w_Model_putInstruction_j101 this Q v1 M73) M72) M5)) M
def w_Model_putInstruction (this : Nat) (a1 : Int32) (a2 : Int32) (Q : Mem → Prop) (M : Mem) : Prop :=
  ∃ i1, (mR M 11 this 45) = some (12, i1) ∧ ∃ i2, (mR M 12 i1 34) = some (300, i2) ∧ vp_in a1 (mL M 300 i2) ∧ if ((mI M 300 i2 a1.toNatClampNeg) - (1 : Int32)) < 0 then (w_Model_putInstruction_j73 this Q a1 a2 M) else (w_Model_putWord this 38 (fun M74 => ∃ i75, (mR M74 11 this 45) = some (12, i75) ∧ ∃ i76, (mR M74 12 i75 38) = some (300, i76) ∧ vp_in ((mI M 300 i2 a1.toNatClampNeg) - (1 : Int32)) (mL M74 300 i76) ∧ w_Model_putKinds this ((mI M 300 i2 a1.toNatClampNeg) - (1 : Int32)) (0 : Int32) (mI M74 300 i76 ((mI M 300 i2 a1.toNatClampNeg) - (1 : Int32)).toNatClampNeg) (fun M78 => w_Model_put this (59 : Int32) (fun M79 => ∃ i80, (mR M79 11 this 45) = some (12, i80) ∧ ∃ i81, (mR M79 12 i80 38) = some (300, i81) ∧ vp_in ((mI M 300 i2 a1.toNatClampNeg) - (1 : Int32)) (mL M79 300 i81) ∧ ∃ i83, (mR M79 11 this 45) = some (12, i83) ∧ ∃ i84, (mR M79 12 i83 39) = some (300, i84) ∧ vp_in ((mI M 300 i2 a1.toNatClampNeg) - (1 : Int32)) (mL M79 300 i84) ∧ w_Model_putKinds this ((mI M 300 i2 a1.toNatClampNeg) - (1 : Int32)) (mI M79 300 i81 ((mI M 300 i2 a1.toNatClampNeg) - (1 : Int32)).toNatClampNeg) (mI M79 300 i84 ((mI M 300 i2 a1.toNatClampNeg) - (1 : Int32)).toNatClampNeg) (fun M86 => w_Model_put this (10 : Int32) (fun M87 => w_Model_putInstruction_j73 this Q a1 a2 M87) M86) M79) M78) M74) M)
set_option maxRecDepth 4096 in
theorem lk_Model_putInstruction_j422 {γ : Gm} (hγ : Gk γ) (this : Nat) (Q : Mem → Prop)  (M : Mem) (h : w_Model_putInstruction_j422 this Q  M) : E γ k_Model_putInstruction 7 422 [some (vr (some (11, this))), none, none, none, none, none, none] [] M (Qv Q) := by
  unfold w_Model_putInstruction_j422 at h
  refine E_blk (lv' := [some (vr (some (11, this))), none, none, none, none, none, none]) (st' := [vi (10 : Int32), vr (some (11, this))]) (M1 := M) (pc' := 425) (tb_Model hγ) [.aload_n 0, .bipush 10] (by decide +kernel) rfl rfl trivial ?_
  refine E_callV (κ' := k_Model_put) (As := [vi (10 : Int32)]) (st := []) mv_Model_put (Or.inl (tbk_mem (j := 17) (k := 43) rfl)) rfl (by decide +kernel) (Nat.le_of_ble_eq_true rfl) (Nat.le_of_ble_eq_true rfl) rfl (by decide) (lk_Model_put hγ this (10 : Int32) _ M h) (fun _ _ => Qv_r) (fun v M36 hp => Qv_k (R := fun st => E γ k_Model_putInstruction 7 428 [some (vr (some (11, this))), none, none, none, none, none, none] st M36 (Qv Q)) hp (fun h => ?_))
  exact E_vret rfl (by decide +kernel) h
set_option maxRecDepth 4096 in
theorem lk_Model_putInstruction_j395 {γ : Gm} (hγ : Gk γ) (this : Nat) (Q : Mem → Prop) (v1 : Int32) (v4 : Int32) (M : Mem) (h : w_Model_putInstruction_j395 this Q v1 v4 M) : E γ k_Model_putInstruction 7 395 [some (vr (some (11, this))), some (vi v1), none, none, some (vi v4), none, none] [] M (Qv Q) := by
  unfold w_Model_putInstruction_j395 at h
  refine E_blk (lv' := [some (vr (some (11, this))), some (vi v1), none, none, some (vi v4), none, none]) (st' := [vi (50 : Int32), vi v4]) (M1 := M) (pc' := 399) (tb_Model hγ) [.iload 4, .bipush 50] (by decide +kernel) rfl rfl trivial ?_
  refine E_icmp_lt (off := 23) (tgt := 422) (by decide +kernel) (by decide) (fun b35 => ?_) (fun b35 => ?_)
  · rw [if_pos b35] at h
    refine E_mask [true, false, false, false, false, false, false] rfl ?_
    exact lk_Model_putInstruction_j422 hγ this Q  M h
  · rw [if_neg b35] at h
    refine E_blk (lv' := [some (vr (some (11, this))), some (vi v1), none, none, some (vi v4), none, none]) (st' := [vi (53 : Int32), vi v4]) (M1 := M) (pc' := 406) (tb_Model hγ) [.iload 4, .bipush 53] (by decide +kernel) rfl rfl trivial ?_
    refine E_icmp_gt (off := 16) (tgt := 422) (by decide +kernel) (by decide) (fun b37 => ?_) (fun b37 => ?_)
    · rw [if_pos b37] at h
      refine E_mask [true, false, false, false, false, false, false] rfl ?_
      exact lk_Model_putInstruction_j422 hγ this Q  M h
    · rw [if_neg b37] at h
      refine E_blk (lv' := [some (vr (some (11, this))), some (vi v1), none, none, some (vi v4), none, none]) (st' := [vr (mR M 11 this 45), vr (some (11, this))]) (M1 := M) (pc' := 414) (tb_Model hγ) [.aload_n 0, .aload_n 0, .getfield 522] (by decide +kernel) rfl rfl trivial ?_
      obtain ⟨i38, ei38, h⟩ := h
      rw [ei38]
      refine E_blk (lv' := [some (vr (some (11, this))), some (vi v1), none, none, some (vi v4), none, none]) (st' := [vr (mR M 12 i38 33), vr (some (11, this))]) (M1 := M) (pc' := 417) (tb_Model hγ) [.getfield 683] (by decide +kernel) rfl rfl trivial ?_
      obtain ⟨i39, ei39, h⟩ := h
      rw [ei39]
      obtain ⟨c40, h⟩ := h
      refine E_blk (lv' := [some (vr (some (11, this))), some (vi v1), none, none, some (vi v4), none, none]) (st' := [vi (mI M 300 i39 v1.toNatClampNeg), vr (some (11, this))]) (M1 := M) (pc' := 419) (tb_Model hγ) [.iload_n 1, .iaload] (by decide +kernel) rfl rfl ⟨c40, trivial⟩ ?_
      refine E_callV (κ' := k_Model_putSignature) (As := [vi (mI M 300 i39 v1.toNatClampNeg)]) (st := []) mv_Model_putSignature (Or.inl (tbk_mem (j := 17) (k := 78) rfl)) rfl (by decide +kernel) (Nat.le_of_ble_eq_true rfl) (Nat.le_of_ble_eq_true rfl) rfl (by decide) (lk_Model_putSignature hγ this (mI M 300 i39 v1.toNatClampNeg) _ M h) (fun _ _ => Qv_r) (fun v M41 hp => Qv_k (R := fun st => E γ k_Model_putInstruction 7 422 [some (vr (some (11, this))), some (vi v1), none, none, some (vi v4), none, none] st M41 (Qv Q)) hp (fun h => ?_))
      refine E_mask [true, false, false, false, false, false, false] rfl ?_
      exact lk_Model_putInstruction_j422 hγ this Q  M41 h
set_option maxRecDepth 4096 in
theorem lk_Model_putInstruction_j362 {γ : Gm} (hγ : Gk γ) (this : Nat) (Q : Mem → Prop) (v1 : Int32) (v4 : Int32) (M : Mem) (h : w_Model_putInstruction_j362 this Q v1 v4 M) : E γ k_Model_putInstruction 7 362 [some (vr (some (11, this))), some (vi v1), none, none, some (vi v4), none, none] [] M (Qv Q) := by
  unfold w_Model_putInstruction_j362 at h
  refine E_blk (lv' := [some (vr (some (11, this))), some (vi v1), none, none, some (vi v4), none, none]) (st' := [vi (46 : Int32), vi v4]) (M1 := M) (pc' := 366) (tb_Model hγ) [.iload 4, .bipush 46] (by decide +kernel) rfl rfl trivial ?_
  refine E_icmp_lt (off := 29) (tgt := 395) (by decide +kernel) (by decide) (fun b34 => ?_) (fun b34 => ?_)
  · rw [if_pos b34] at h
    refine E_mask [true, true, false, false, true, false, false] rfl ?_
    exact lk_Model_putInstruction_j395 hγ this Q v1 v4 M h
  · rw [if_neg b34] at h
    refine E_blk (lv' := [some (vr (some (11, this))), some (vi v1), none, none, some (vi v4), none, none]) (st' := [vi (49 : Int32), vi v4]) (M1 := M) (pc' := 373) (tb_Model hγ) [.iload 4, .bipush 49] (by decide +kernel) rfl rfl trivial ?_
    refine E_icmp_gt (off := 22) (tgt := 395) (by decide +kernel) (by decide) (fun b42 => ?_) (fun b42 => ?_)
    · rw [if_pos b42] at h
      refine E_mask [true, true, false, false, true, false, false] rfl ?_
      exact lk_Model_putInstruction_j395 hγ this Q v1 v4 M h
    · rw [if_neg b42] at h
      refine E_blk (lv' := [some (vr (some (11, this))), some (vi v1), none, none, some (vi v4), none, none]) (st' := [vi (32 : Int32), vr (some (11, this))]) (M1 := M) (pc' := 379) (tb_Model hγ) [.aload_n 0, .bipush 32] (by decide +kernel) rfl rfl trivial ?_
      refine E_callV (κ' := k_Model_put) (As := [vi (32 : Int32)]) (st := []) mv_Model_put (Or.inl (tbk_mem (j := 17) (k := 43) rfl)) rfl (by decide +kernel) (Nat.le_of_ble_eq_true rfl) (Nat.le_of_ble_eq_true rfl) rfl (by decide) (lk_Model_put hγ this (32 : Int32) _ M h) (fun _ _ => Qv_r) (fun v M43 hp => Qv_k (R := fun st => E γ k_Model_putInstruction 7 382 [some (vr (some (11, this))), some (vi v1), none, none, some (vi v4), none, none] st M43 (Qv Q)) hp (fun h => ?_))
      refine E_blk (lv' := [some (vr (some (11, this))), some (vi v1), none, none, some (vi v4), none, none]) (st' := [vr (mR M43 11 this 45), vr (some (11, this))]) (M1 := M43) (pc' := 387) (tb_Model hγ) [.aload_n 0, .aload_n 0, .getfield 522] (by decide +kernel) rfl rfl trivial ?_
      obtain ⟨i44, ei44, h⟩ := h
      rw [ei44]
      refine E_blk (lv' := [some (vr (some (11, this))), some (vi v1), none, none, some (vi v4), none, none]) (st' := [vr (mR M43 12 i44 33), vr (some (11, this))]) (M1 := M43) (pc' := 390) (tb_Model hγ) [.getfield 683] (by decide +kernel) rfl rfl trivial ?_
      obtain ⟨i45, ei45, h⟩ := h
      rw [ei45]
      obtain ⟨c46, h⟩ := h
      refine E_blk (lv' := [some (vr (some (11, this))), some (vi v1), none, none, some (vi v4), none, none]) (st' := [vi (mI M43 300 i45 v1.toNatClampNeg), vr (some (11, this))]) (M1 := M43) (pc' := 392) (tb_Model hγ) [.iload_n 1, .iaload] (by decide +kernel) rfl rfl ⟨c46, trivial⟩ ?_
      refine E_callV (κ' := k_Model_putType) (As := [vi (mI M43 300 i45 v1.toNatClampNeg)]) (st := []) mv_Model_putType (Or.inl (tbk_mem (j := 17) (k := 63) rfl)) rfl (by decide +kernel) (Nat.le_of_ble_eq_true rfl) (Nat.le_of_ble_eq_true rfl) rfl (by decide) (lk_Model_putType hγ this (mI M43 300 i45 v1.toNatClampNeg) _ M43 h) (fun _ _ => Qv_r) (fun v M47 hp => Qv_k (R := fun st => E γ k_Model_putInstruction 7 395 [some (vr (some (11, this))), some (vi v1), none, none, some (vi v4), none, none] st M47 (Qv Q)) hp (fun h => ?_))
      refine E_mask [true, true, false, false, true, false, false] rfl ?_
      exact lk_Model_putInstruction_j395 hγ this Q v1 v4 M47 h
set_option maxRecDepth 4096 in
theorem lk_Model_putInstruction_j329 {γ : Gm} (hγ : Gk γ) (this : Nat) (Q : Mem → Prop) (v1 : Int32) (v4 : Int32) (M : Mem) (h : w_Model_putInstruction_j329 this Q v1 v4 M) : E γ k_Model_putInstruction 7 329 [some (vr (some (11, this))), some (vi v1), none, none, some (vi v4), none, none] [] M (Qv Q) := by
  unfold w_Model_putInstruction_j329 at h
  refine E_blk (lv' := [some (vr (some (11, this))), some (vi v1), none, none, some (vi v4), none, none]) (st' := [vi (46 : Int32), vi v4]) (M1 := M) (pc' := 333) (tb_Model hγ) [.iload 4, .bipush 46] (by decide +kernel) rfl rfl trivial ?_
  refine E_icmp_lt (off := 29) (tgt := 362) (by decide +kernel) (by decide) (fun b33 => ?_) (fun b33 => ?_)
  · rw [if_pos b33] at h
    refine E_mask [true, true, false, false, true, false, false] rfl ?_
    exact lk_Model_putInstruction_j362 hγ this Q v1 v4 M h
  · rw [if_neg b33] at h
    refine E_blk (lv' := [some (vr (some (11, this))), some (vi v1), none, none, some (vi v4), none, none]) (st' := [vi (53 : Int32), vi v4]) (M1 := M) (pc' := 340) (tb_Model hγ) [.iload 4, .bipush 53] (by decide +kernel) rfl rfl trivial ?_
    refine E_icmp_gt (off := 22) (tgt := 362) (by decide +kernel) (by decide) (fun b48 => ?_) (fun b48 => ?_)
    · rw [if_pos b48] at h
      refine E_mask [true, true, false, false, true, false, false] rfl ?_
      exact lk_Model_putInstruction_j362 hγ this Q v1 v4 M h
    · rw [if_neg b48] at h
      refine E_blk (lv' := [some (vr (some (11, this))), some (vi v1), none, none, some (vi v4), none, none]) (st' := [vi (46 : Int32), vr (some (11, this))]) (M1 := M) (pc' := 346) (tb_Model hγ) [.aload_n 0, .bipush 46] (by decide +kernel) rfl rfl trivial ?_
      refine E_callV (κ' := k_Model_put) (As := [vi (46 : Int32)]) (st := []) mv_Model_put (Or.inl (tbk_mem (j := 17) (k := 43) rfl)) rfl (by decide +kernel) (Nat.le_of_ble_eq_true rfl) (Nat.le_of_ble_eq_true rfl) rfl (by decide) (lk_Model_put hγ this (46 : Int32) _ M h) (fun _ _ => Qv_r) (fun v M49 hp => Qv_k (R := fun st => E γ k_Model_putInstruction 7 349 [some (vr (some (11, this))), some (vi v1), none, none, some (vi v4), none, none] st M49 (Qv Q)) hp (fun h => ?_))
      refine E_blk (lv' := [some (vr (some (11, this))), some (vi v1), none, none, some (vi v4), none, none]) (st' := [vr (mR M49 11 this 45), vr (some (11, this))]) (M1 := M49) (pc' := 354) (tb_Model hγ) [.aload_n 0, .aload_n 0, .getfield 522] (by decide +kernel) rfl rfl trivial ?_
      obtain ⟨i50, ei50, h⟩ := h
      rw [ei50]
      refine E_blk (lv' := [some (vr (some (11, this))), some (vi v1), none, none, some (vi v4), none, none]) (st' := [vr (mR M49 12 i50 32), vr (some (11, this))]) (M1 := M49) (pc' := 357) (tb_Model hγ) [.getfield 680] (by decide +kernel) rfl rfl trivial ?_
      obtain ⟨i51, ei51, h⟩ := h
      rw [ei51]
      obtain ⟨c52, h⟩ := h
      refine E_blk (lv' := [some (vr (some (11, this))), some (vi v1), none, none, some (vi v4), none, none]) (st' := [vi (mI M49 300 i51 v1.toNatClampNeg), vr (some (11, this))]) (M1 := M49) (pc' := 359) (tb_Model hγ) [.iload_n 1, .iaload] (by decide +kernel) rfl rfl ⟨c52, trivial⟩ ?_
      refine E_callV (κ' := k_Model_putName) (As := [vi (mI M49 300 i51 v1.toNatClampNeg)]) (st := []) mv_Model_putName (Or.inl (tbk_mem (j := 17) (k := 50) rfl)) rfl (by decide +kernel) (Nat.le_of_ble_eq_true rfl) (Nat.le_of_ble_eq_true rfl) rfl (by decide) (lk_Model_putName hγ this (mI M49 300 i51 v1.toNatClampNeg) _ M49 h) (fun _ _ => Qv_r) (fun v M53 hp => Qv_k (R := fun st => E γ k_Model_putInstruction 7 362 [some (vr (some (11, this))), some (vi v1), none, none, some (vi v4), none, none] st M53 (Qv Q)) hp (fun h => ?_))
      refine E_mask [true, true, false, false, true, false, false] rfl ?_
      exact lk_Model_putInstruction_j362 hγ this Q v1 v4 M53 h
set_option maxRecDepth 4096 in
theorem lk_Model_putInstruction_j317 {γ : Gm} (hγ : Gk γ) (this : Nat) (Q : Mem → Prop) (v1 : Int32) (v4 : Int32) (v5 : Int32) (M : Mem) (h : w_Model_putInstruction_j317 this Q v1 v4 v5 M) : E γ k_Model_putInstruction 7 317 [some (vr (some (11, this))), some (vi v1), none, none, some (vi v4), some (vi v5), none] [] M (Qv Q) := by
  unfold w_Model_putInstruction_j317 at h
  refine E_blk (lv' := [some (vr (some (11, this))), some (vi v1), none, none, some (vi v4), some (vi v5), none]) (st' := [vi (32 : Int32), vr (some (11, this))]) (M1 := M) (pc' := 320) (tb_Model hγ) [.aload_n 0, .bipush 32] (by decide +kernel) rfl rfl trivial ?_
  refine E_callV (κ' := k_Model_put) (As := [vi (32 : Int32)]) (st := []) mv_Model_put (Or.inl (tbk_mem (j := 17) (k := 43) rfl)) rfl (by decide +kernel) (Nat.le_of_ble_eq_true rfl) (Nat.le_of_ble_eq_true rfl) rfl (by decide) (lk_Model_put hγ this (32 : Int32) _ M h) (fun _ _ => Qv_r) (fun v M31 hp => Qv_k (R := fun st => E γ k_Model_putInstruction 7 323 [some (vr (some (11, this))), some (vi v1), none, none, some (vi v4), some (vi v5), none] st M31 (Qv Q)) hp (fun h => ?_))
  refine E_blk (lv' := [some (vr (some (11, this))), some (vi v1), none, none, some (vi v4), some (vi v5), none]) (st' := [vi v5, vr (some (11, this))]) (M1 := M31) (pc' := 326) (tb_Model hγ) [.aload_n 0, .iload 5] (by decide +kernel) rfl rfl trivial ?_
  refine E_callV (κ' := k_Model_putName) (As := [vi v5]) (st := []) mv_Model_putName (Or.inl (tbk_mem (j := 17) (k := 50) rfl)) rfl (by decide +kernel) (Nat.le_of_ble_eq_true rfl) (Nat.le_of_ble_eq_true rfl) rfl (by decide) (lk_Model_putName hγ this v5 _ M31 h) (fun _ _ => Qv_r) (fun v M32 hp => Qv_k (R := fun st => E γ k_Model_putInstruction 7 329 [some (vr (some (11, this))), some (vi v1), none, none, some (vi v4), some (vi v5), none] st M32 (Qv Q)) hp (fun h => ?_))
  refine E_mask [true, true, false, false, true, false, false] rfl ?_
  exact lk_Model_putInstruction_j329 hγ this Q v1 v4 M32 h
set_option maxRecDepth 4096 in
theorem lk_Model_putInstruction_j296 {γ : Gm} (hγ : Gk γ) (this : Nat) (Q : Mem → Prop) (v1 : Int32) (v4 : Int32) (v5 : Int32) (M : Mem) (h : w_Model_putInstruction_j296 this Q v1 v4 v5 M) : E γ k_Model_putInstruction 7 296 [some (vr (some (11, this))), some (vi v1), none, none, some (vi v4), some (vi v5), none] [] M (Qv Q) := by
  unfold w_Model_putInstruction_j296 at h
  refine E_blk (lv' := [some (vr (some (11, this))), some (vi v1), none, none, some (vi v4), some (vi v5), none]) (st' := [vi (41 : Int32), vi v4]) (M1 := M) (pc' := 300) (tb_Model hγ) [.iload 4, .bipush 41] (by decide +kernel) rfl rfl trivial ?_
  refine E_icmp_eq (off := 17) (tgt := 317) (by decide +kernel) (by decide) (fun b30 => ?_) (fun b30 => ?_)
  · rw [if_pos b30] at h
    refine E_mask [true, true, false, false, true, true, false] rfl ?_
    exact lk_Model_putInstruction_j317 hγ this Q v1 v4 v5 M h
  · rw [if_neg b30] at h
    refine E_blk (lv' := [some (vr (some (11, this))), some (vi v1), none, none, some (vi v4), some (vi v5), none]) (st' := [vi (46 : Int32), vi v4]) (M1 := M) (pc' := 307) (tb_Model hγ) [.iload 4, .bipush 46] (by decide +kernel) rfl rfl trivial ?_
    refine E_icmp_lt (off := 22) (tgt := 329) (by decide +kernel) (by decide) (fun b54 => ?_) (fun b54 => ?_)
    · rw [if_pos b54] at h
      refine E_mask [true, true, false, false, true, false, false] rfl ?_
      exact lk_Model_putInstruction_j329 hγ this Q v1 v4 M h
    · rw [if_neg b54] at h
      refine E_blk (lv' := [some (vr (some (11, this))), some (vi v1), none, none, some (vi v4), some (vi v5), none]) (st' := [vi (55 : Int32), vi v4]) (M1 := M) (pc' := 314) (tb_Model hγ) [.iload 4, .bipush 55] (by decide +kernel) rfl rfl trivial ?_
      refine E_icmp_gt (off := 15) (tgt := 329) (by decide +kernel) (by decide) (fun b55 => ?_) (fun b55 => ?_)
      · rw [if_pos b55] at h
        refine E_mask [true, true, false, false, true, false, false] rfl ?_
        exact lk_Model_putInstruction_j329 hγ this Q v1 v4 M h
      · rw [if_neg b55] at h
        refine E_mask [true, true, false, false, true, true, false] rfl ?_
        exact lk_Model_putInstruction_j317 hγ this Q v1 v4 v5 M h
set_option maxRecDepth 4096 in
theorem lk_Model_putInstruction_j263 {γ : Gm} (hγ : Gk γ) (this : Nat) (Q : Mem → Prop) (k227 : Int32 → Int32 → Int32 → Int32 → Mem → Prop) (hk227 : ∀ (v1 : Int32) (v4 : Int32) (v5 : Int32) (v6 : Int32) (M : Mem), k227 v1 v4 v5 v6 M → E γ k_Model_putInstruction 7 227 [some (vr (some (11, this))), some (vi v1), none, none, some (vi v4), some (vi v5), some (vi v6)] [] M (Qv Q)) (v1 : Int32) (v4 : Int32) (v5 : Int32) (v6 : Int32) (s0 : Nat) (M : Mem) (h : w_Model_putInstruction_j263 this Q k227 v1 v4 v5 v6 s0 M) : E γ k_Model_putInstruction 7 263 [some (vr (some (11, this))), some (vi v1), none, none, some (vi v4), some (vi v5), some (vi v6)] [vr (some (0, s0)), vr (some (11, this))] M (Qv Q) := by
  unfold w_Model_putInstruction_j263 at h
  refine E_callV (κ' := k_Model_putWord) (As := [vr (some (0, s0))]) (st := []) mv_Model_putWord (Or.inl (tbk_mem (j := 17) (k := 39) rfl)) rfl (by decide +kernel) (Nat.le_of_ble_eq_true rfl) (Nat.le_of_ble_eq_true rfl) rfl (by decide) (lk_Model_putWord hγ this s0 _ M h) (fun _ _ => Qv_r) (fun v M57 hp => Qv_k (R := fun st => E γ k_Model_putInstruction 7 266 [some (vr (some (11, this))), some (vi v1), none, none, some (vi v4), some (vi v5), some (vi v6)] st M57 (Qv Q)) hp (fun h => ?_))
  refine E_blk (lv' := [some (vr (some (11, this))), some (vi v1), none, none, some (vi v4), some (vi v5), some (vi v6)]) (st' := [vr (mR M57 11 this 45), vr (some (11, this))]) (M1 := M57) (pc' := 271) (tb_Model hγ) [.aload_n 0, .aload_n 0, .getfield 522] (by decide +kernel) rfl rfl trivial ?_
  obtain ⟨i58, ei58, h⟩ := h
  rw [ei58]
  refine E_blk (lv' := [some (vr (some (11, this))), some (vi v1), none, none, some (vi v4), some (vi v5), some (vi v6)]) (st' := [vr (mR M57 12 i58 36), vr (some (11, this))]) (M1 := M57) (pc' := 274) (tb_Model hγ) [.getfield 689] (by decide +kernel) rfl rfl trivial ?_
  obtain ⟨i59, ei59, h⟩ := h
  rw [ei59]
  refine E_blk (lv' := [some (vr (some (11, this))), some (vi v1), none, none, some (vi v4), some (vi v5), some (vi v6)]) (st' := [vr (mR M57 11 this 45), vr (some (300, i59)), vr (some (11, this))]) (M1 := M57) (pc' := 278) (tb_Model hγ) [.aload_n 0, .getfield 522] (by decide +kernel) rfl rfl trivial ?_
  obtain ⟨i60, ei60, h⟩ := h
  rw [ei60]
  refine E_blk (lv' := [some (vr (some (11, this))), some (vi v1), none, none, some (vi v4), some (vi v5), some (vi v6)]) (st' := [vr (mR M57 12 i60 32), vr (some (300, i59)), vr (some (11, this))]) (M1 := M57) (pc' := 281) (tb_Model hγ) [.getfield 680] (by decide +kernel) rfl rfl trivial ?_
  obtain ⟨i61, ei61, h⟩ := h
  rw [ei61]
  obtain ⟨c62, c63, h⟩ := h
  refine E_blk (lv' := [some (vr (some (11, this))), some (vi v1), none, none, some (vi v4), some (vi v5), some (vi v6)]) (st' := [vi (mI M57 300 i59 ((mI M57 300 i61 v1.toNatClampNeg) + v6).toNatClampNeg), vr (some (11, this))]) (M1 := M57) (pc' := 287) (tb_Model hγ) [.iload_n 1, .iaload, .iload 6, .iadd, .iaload] (by decide +kernel) rfl rfl ⟨c62, c63, trivial⟩ ?_
  refine E_callV (κ' := k_Model_putLabel) (As := [vi (mI M57 300 i59 ((mI M57 300 i61 v1.toNatClampNeg) + v6).toNatClampNeg)]) (st := []) mv_Model_putLabel (Or.inl (tbk_mem (j := 17) (k := 96) rfl)) rfl (by decide +kernel) (Nat.le_of_ble_eq_true rfl) (Nat.le_of_ble_eq_true rfl) rfl (by decide) (lk_Model_putLabel hγ this (mI M57 300 i59 ((mI M57 300 i61 v1.toNatClampNeg) + v6).toNatClampNeg) _ M57 h) (fun _ _ => Qv_r) (fun v M64 hp => Qv_k (R := fun st => E γ k_Model_putInstruction 7 290 [some (vr (some (11, this))), some (vi v1), none, none, some (vi v4), some (vi v5), some (vi v6)] st M64 (Qv Q)) hp (fun h => ?_))
  refine E_blk (lv' := [some (vr (some (11, this))), some (vi v1), none, none, some (vi v4), some (vi v5), some (vi (v6 + (1 : Int32)))]) (st' := []) (M1 := M64) (pc' := 293) (tb_Model hγ) [.iinc 6 1] (by decide +kernel) rfl rfl trivial ?_
  refine E_goto (off := -66) (tgt := 227) (by decide +kernel) (by decide) ?_
  refine E_mask [true, true, false, false, true, true, true] rfl ?_
  exact hk227 v1 v4 v5 (v6 + (1 : Int32)) M64 h
set_option maxRecDepth 4096 in
theorem lk_Model_putInstruction_L227 {γ : Gm} (hγ : Gk γ) (this : Nat) (Q : Mem → Prop) : ∀ (n : Nat) (v1 : Int32) (v4 : Int32) (v5 : Int32) (v6 : Int32) (M : Mem), w_Model_putInstruction_L227 this Q n v1 v4 v5 v6 M → E γ k_Model_putInstruction 7 227 [some (vr (some (11, this))), some (vi v1), none, none, some (vi v4), some (vi v5), some (vi v6)] [] M (Qv Q) := by
  intro n
  induction n with
  | zero => intro v1 v4 v5 v6 M h; exact h.elim
  | succ n ih =>
    intro v1 v4 v5 v6 M h
    unfold w_Model_putInstruction_L227 at h
    refine E_blk (lv' := [some (vr (some (11, this))), some (vi v1), none, none, some (vi v4), some (vi v5), some (vi v6)]) (st' := [vi (40 : Int32), vi v4]) (M1 := M) (pc' := 231) (tb_Model hγ) [.iload 4, .bipush 40] (by decide +kernel) rfl rfl trivial ?_
    refine E_icmp_ne (off := 65) (tgt := 296) (by decide +kernel) (by decide) (fun b25 => ?_) (fun b25 => ?_)
    · rw [if_pos b25] at h
      refine E_blk (lv' := [some (vr (some (11, this))), some (vi v1), none, none, some (vi v4), some (vi v5), some (vi v6)]) (st' := [vr (mR M 11 this 45), vi v6]) (M1 := M) (pc' := 240) (tb_Model hγ) [.iload 6, .aload_n 0, .getfield 522] (by decide +kernel) rfl rfl trivial ?_
      obtain ⟨i26, ei26, h⟩ := h
      rw [ei26]
      refine E_blk (lv' := [some (vr (some (11, this))), some (vi v1), none, none, some (vi v4), some (vi v5), some (vi v6)]) (st' := [vr (mR M 12 i26 33), vi v6]) (M1 := M) (pc' := 243) (tb_Model hγ) [.getfield 683] (by decide +kernel) rfl rfl trivial ?_
      obtain ⟨i27, ei27, h⟩ := h
      rw [ei27]
      obtain ⟨c28, h⟩ := h
      refine E_blk (lv' := [some (vr (some (11, this))), some (vi v1), none, none, some (vi v4), some (vi v5), some (vi v6)]) (st' := [vi (mI M 300 i27 v1.toNatClampNeg), vi v6]) (M1 := M) (pc' := 245) (tb_Model hγ) [.iload_n 1, .iaload] (by decide +kernel) rfl rfl ⟨c28, trivial⟩ ?_
      refine E_icmp_ge (off := 51) (tgt := 296) (by decide +kernel) (by decide) (fun b29 => ?_) (fun b29 => ?_)
      · rw [if_pos b29] at h
        refine E_mask [true, true, false, false, true, true, false] rfl ?_
        exact lk_Model_putInstruction_j296 hγ this Q v1 v4 v5 M h
      · rw [if_neg b29] at h
        refine E_blk (lv' := [some (vr (some (11, this))), some (vi v1), none, none, some (vi v4), some (vi v5), some (vi v6)]) (st' := [vi v6, vr (some (11, this))]) (M1 := M) (pc' := 251) (tb_Model hγ) [.aload_n 0, .iload 6] (by decide +kernel) rfl rfl trivial ?_
        refine E_if_le (off := 9) (tgt := 260) (by decide +kernel) (by decide) (fun b56 => ?_) (fun b56 => ?_)
        · rw [if_pos b56] at h
          refine E_ldcwS (κ := k_Model_putInstruction) (pc := 260) (k := 39) hγ.2.2.2 rfl rfl (by decide +kernel) ?_
          refine E_mask [true, true, false, false, true, true, true] rfl ?_
          exact lk_Model_putInstruction_j263 hγ this Q (w_Model_putInstruction_L227 this Q n) ih v1 v4 v5 v6 39 M h
        · rw [if_neg b56] at h
          refine E_ldcwS (κ := k_Model_putInstruction) (pc := 254) (k := 28) hγ.2.2.2 rfl rfl (by decide +kernel) ?_
          refine E_goto (off := 6) (tgt := 263) (by decide +kernel) (by decide) ?_
          refine E_mask [true, true, false, false, true, true, true] rfl ?_
          exact lk_Model_putInstruction_j263 hγ this Q (w_Model_putInstruction_L227 this Q n) ih v1 v4 v5 v6 28 M h
    · rw [if_neg b25] at h
      refine E_mask [true, true, false, false, true, true, false] rfl ?_
      exact lk_Model_putInstruction_j296 hγ this Q v1 v4 v5 M h
set_option maxRecDepth 4096 in
theorem lk_Model_putInstruction_j224 {γ : Gm} (hγ : Gk γ) (this : Nat) (Q : Mem → Prop) (v1 : Int32) (v4 : Int32) (v5 : Int32) (M : Mem) (h : w_Model_putInstruction_j224 this Q v1 v4 v5 M) : E γ k_Model_putInstruction 7 224 [some (vr (some (11, this))), some (vi v1), none, none, some (vi v4), some (vi v5), none] [] M (Qv Q) := by
  unfold w_Model_putInstruction_j224 at h
  refine E_blk (lv' := [some (vr (some (11, this))), some (vi v1), none, none, some (vi v4), some (vi v5), some (vi (0 : Int32))]) (st' := []) (M1 := M) (pc' := 227) (tb_Model hγ) [.iconst 0, .istore 6] (by decide +kernel) rfl rfl trivial ?_
  obtain ⟨n65, h⟩ := h
  refine E_mask [true, true, false, false, true, true, true] rfl ?_
  exact lk_Model_putInstruction_L227 hγ this Q n65 v1 v4 v5 (0 : Int32) M h
set_option maxRecDepth 4096 in
theorem lk_Model_putInstruction_j198 {γ : Gm} (hγ : Gk γ) (this : Nat) (Q : Mem → Prop) (v1 : Int32) (v4 : Int32) (v5 : Int32) (M : Mem) (h : w_Model_putInstruction_j198 this Q v1 v4 v5 M) : E γ k_Model_putInstruction 7 198 [some (vr (some (11, this))), some (vi v1), none, none, some (vi v4), some (vi v5), none] [] M (Qv Q) := by
  unfold w_Model_putInstruction_j198 at h
  refine E_blk (lv' := [some (vr (some (11, this))), some (vi v1), none, none, some (vi v4), some (vi v5), none]) (st' := [vi (23 : Int32), vi v4]) (M1 := M) (pc' := 202) (tb_Model hγ) [.iload 4, .bipush 23] (by decide +kernel) rfl rfl trivial ?_
  refine E_icmp_lt (off := 22) (tgt := 224) (by decide +kernel) (by decide) (fun b24 => ?_) (fun b24 => ?_)
  · rw [if_pos b24] at h
    refine E_mask [true, true, false, false, true, true, false] rfl ?_
    exact lk_Model_putInstruction_j224 hγ this Q v1 v4 v5 M h
  · rw [if_neg b24] at h
    refine E_blk (lv' := [some (vr (some (11, this))), some (vi v1), none, none, some (vi v4), some (vi v5), none]) (st' := [vi (39 : Int32), vi v4]) (M1 := M) (pc' := 209) (tb_Model hγ) [.iload 4, .bipush 39] (by decide +kernel) rfl rfl trivial ?_
    refine E_icmp_gt (off := 15) (tgt := 224) (by decide +kernel) (by decide) (fun b66 => ?_) (fun b66 => ?_)
    · rw [if_pos b66] at h
      refine E_mask [true, true, false, false, true, true, false] rfl ?_
      exact lk_Model_putInstruction_j224 hγ this Q v1 v4 v5 M h
    · rw [if_neg b66] at h
      refine E_blk (lv' := [some (vr (some (11, this))), some (vi v1), none, none, some (vi v4), some (vi v5), none]) (st' := [vi (32 : Int32), vr (some (11, this))]) (M1 := M) (pc' := 215) (tb_Model hγ) [.aload_n 0, .bipush 32] (by decide +kernel) rfl rfl trivial ?_
      refine E_callV (κ' := k_Model_put) (As := [vi (32 : Int32)]) (st := []) mv_Model_put (Or.inl (tbk_mem (j := 17) (k := 43) rfl)) rfl (by decide +kernel) (Nat.le_of_ble_eq_true rfl) (Nat.le_of_ble_eq_true rfl) rfl (by decide) (lk_Model_put hγ this (32 : Int32) _ M h) (fun _ _ => Qv_r) (fun v M67 hp => Qv_k (R := fun st => E γ k_Model_putInstruction 7 218 [some (vr (some (11, this))), some (vi v1), none, none, some (vi v4), some (vi v5), none] st M67 (Qv Q)) hp (fun h => ?_))
      refine E_blk (lv' := [some (vr (some (11, this))), some (vi v1), none, none, some (vi v4), some (vi v5), none]) (st' := [vi v5, vr (some (11, this))]) (M1 := M67) (pc' := 221) (tb_Model hγ) [.aload_n 0, .iload 5] (by decide +kernel) rfl rfl trivial ?_
      refine E_callV (κ' := k_Model_putLabel) (As := [vi v5]) (st := []) mv_Model_putLabel (Or.inl (tbk_mem (j := 17) (k := 96) rfl)) rfl (by decide +kernel) (Nat.le_of_ble_eq_true rfl) (Nat.le_of_ble_eq_true rfl) rfl (by decide) (lk_Model_putLabel hγ this v5 _ M67 h) (fun _ _ => Qv_r) (fun v M68 hp => Qv_k (R := fun st => E γ k_Model_putInstruction 7 224 [some (vr (some (11, this))), some (vi v1), none, none, some (vi v4), some (vi v5), none] st M68 (Qv Q)) hp (fun h => ?_))
      refine E_mask [true, true, false, false, true, true, false] rfl ?_
      exact lk_Model_putInstruction_j224 hγ this Q v1 v4 v5 M68 h
set_option maxRecDepth 4096 in
theorem lk_Model_putInstruction_j172 {γ : Gm} (hγ : Gk γ) (this : Nat) (Q : Mem → Prop) (v1 : Int32) (v4 : Int32) (v5 : Int32) (M : Mem) (h : w_Model_putInstruction_j172 this Q v1 v4 v5 M) : E γ k_Model_putInstruction 7 172 [some (vr (some (11, this))), some (vi v1), none, none, some (vi v4), some (vi v5), none] [] M (Qv Q) := by
  unfold w_Model_putInstruction_j172 at h
  refine E_blk (lv' := [some (vr (some (11, this))), some (vi v1), none, none, some (vi v4), some (vi v5), none]) (st' := [vi (7 : Int32), vi v4]) (M1 := M) (pc' := 176) (tb_Model hγ) [.iload 4, .bipush 7] (by decide +kernel) rfl rfl trivial ?_
  refine E_icmp_ne (off := 22) (tgt := 198) (by decide +kernel) (by decide) (fun b18 => ?_) (fun b18 => ?_)
  · rw [if_pos b18] at h
    refine E_blk (lv' := [some (vr (some (11, this))), some (vi v1), none, none, some (vi v4), some (vi v5), none]) (st' := [vi (32 : Int32), vr (some (11, this))]) (M1 := M) (pc' := 182) (tb_Model hγ) [.aload_n 0, .bipush 32] (by decide +kernel) rfl rfl trivial ?_
    refine E_callV (κ' := k_Model_put) (As := [vi (32 : Int32)]) (st := []) mv_Model_put (Or.inl (tbk_mem (j := 17) (k := 43) rfl)) rfl (by decide +kernel) (Nat.le_of_ble_eq_true rfl) (Nat.le_of_ble_eq_true rfl) rfl (by decide) (lk_Model_put hγ this (32 : Int32) _ M h) (fun _ _ => Qv_r) (fun v M19 hp => Qv_k (R := fun st => E γ k_Model_putInstruction 7 185 [some (vr (some (11, this))), some (vi v1), none, none, some (vi v4), some (vi v5), none] st M19 (Qv Q)) hp (fun h => ?_))
    refine E_blk (lv' := [some (vr (some (11, this))), some (vi v1), none, none, some (vi v4), some (vi v5), none]) (st' := [vr (mR M19 11 this 45), vr (some (11, this))]) (M1 := M19) (pc' := 190) (tb_Model hγ) [.aload_n 0, .aload_n 0, .getfield 522] (by decide +kernel) rfl rfl trivial ?_
    obtain ⟨i20, ei20, h⟩ := h
    rw [ei20]
    refine E_blk (lv' := [some (vr (some (11, this))), some (vi v1), none, none, some (vi v4), some (vi v5), none]) (st' := [vr (mR M19 12 i20 32), vr (some (11, this))]) (M1 := M19) (pc' := 193) (tb_Model hγ) [.getfield 680] (by decide +kernel) rfl rfl trivial ?_
    obtain ⟨i21, ei21, h⟩ := h
    rw [ei21]
    obtain ⟨c22, h⟩ := h
    refine E_blk (lv' := [some (vr (some (11, this))), some (vi v1), none, none, some (vi v4), some (vi v5), none]) (st' := [vi (mI M19 300 i21 v1.toNatClampNeg), vr (some (11, this))]) (M1 := M19) (pc' := 195) (tb_Model hγ) [.iload_n 1, .iaload] (by decide +kernel) rfl rfl ⟨c22, trivial⟩ ?_
    refine E_callV (κ' := k_Model_putNumber) (As := [vi (mI M19 300 i21 v1.toNatClampNeg)]) (st := []) mv_Model_putNumber (Or.inl (tbk_mem (j := 17) (k := 69) rfl)) rfl (by decide +kernel) (Nat.le_of_ble_eq_true rfl) (Nat.le_of_ble_eq_true rfl) rfl (by decide) (lk_Model_putNumber hγ this (mI M19 300 i21 v1.toNatClampNeg) _ M19 h) (fun _ _ => Qv_r) (fun v M23 hp => Qv_k (R := fun st => E γ k_Model_putInstruction 7 198 [some (vr (some (11, this))), some (vi v1), none, none, some (vi v4), some (vi v5), none] st M23 (Qv Q)) hp (fun h => ?_))
    refine E_mask [true, true, false, false, true, true, false] rfl ?_
    exact lk_Model_putInstruction_j198 hγ this Q v1 v4 v5 M23 h
  · rw [if_neg b18] at h
    refine E_mask [true, true, false, false, true, true, false] rfl ?_
    exact lk_Model_putInstruction_j198 hγ this Q v1 v4 v5 M h
set_option maxRecDepth 4096 in
theorem lk_Model_putInstruction_j160 {γ : Gm} (hγ : Gk γ) (this : Nat) (Q : Mem → Prop) (v1 : Int32) (v4 : Int32) (v5 : Int32) (M : Mem) (h : w_Model_putInstruction_j160 this Q v1 v4 v5 M) : E γ k_Model_putInstruction 7 160 [some (vr (some (11, this))), some (vi v1), none, none, some (vi v4), some (vi v5), none] [] M (Qv Q) := by
  unfold w_Model_putInstruction_j160 at h
  refine E_blk (lv' := [some (vr (some (11, this))), some (vi v1), none, none, some (vi v4), some (vi v5), none]) (st' := [vi (32 : Int32), vr (some (11, this))]) (M1 := M) (pc' := 163) (tb_Model hγ) [.aload_n 0, .bipush 32] (by decide +kernel) rfl rfl trivial ?_
  refine E_callV (κ' := k_Model_put) (As := [vi (32 : Int32)]) (st := []) mv_Model_put (Or.inl (tbk_mem (j := 17) (k := 43) rfl)) rfl (by decide +kernel) (Nat.le_of_ble_eq_true rfl) (Nat.le_of_ble_eq_true rfl) rfl (by decide) (lk_Model_put hγ this (32 : Int32) _ M h) (fun _ _ => Qv_r) (fun v M16 hp => Qv_k (R := fun st => E γ k_Model_putInstruction 7 166 [some (vr (some (11, this))), some (vi v1), none, none, some (vi v4), some (vi v5), none] st M16 (Qv Q)) hp (fun h => ?_))
  refine E_blk (lv' := [some (vr (some (11, this))), some (vi v1), none, none, some (vi v4), some (vi v5), none]) (st' := [vi v5, vr (some (11, this))]) (M1 := M16) (pc' := 169) (tb_Model hγ) [.aload_n 0, .iload 5] (by decide +kernel) rfl rfl trivial ?_
  refine E_callV (κ' := k_Model_putNumber) (As := [vi v5]) (st := []) mv_Model_putNumber (Or.inl (tbk_mem (j := 17) (k := 69) rfl)) rfl (by decide +kernel) (Nat.le_of_ble_eq_true rfl) (Nat.le_of_ble_eq_true rfl) rfl (by decide) (lk_Model_putNumber hγ this v5 _ M16 h) (fun _ _ => Qv_r) (fun v M17 hp => Qv_k (R := fun st => E γ k_Model_putInstruction 7 172 [some (vr (some (11, this))), some (vi v1), none, none, some (vi v4), some (vi v5), none] st M17 (Qv Q)) hp (fun h => ?_))
  refine E_mask [true, true, false, false, true, true, false] rfl ?_
  exact lk_Model_putInstruction_j172 hγ this Q v1 v4 v5 M17 h
set_option maxRecDepth 4096 in
theorem lk_Model_putInstruction_j153 {γ : Gm} (hγ : Gk γ) (this : Nat) (Q : Mem → Prop) (v1 : Int32) (v4 : Int32) (v5 : Int32) (M : Mem) (h : w_Model_putInstruction_j153 this Q v1 v4 v5 M) : E γ k_Model_putInstruction 7 153 [some (vr (some (11, this))), some (vi v1), none, none, some (vi v4), some (vi v5), none] [] M (Qv Q) := by
  unfold w_Model_putInstruction_j153 at h
  refine E_blk (lv' := [some (vr (some (11, this))), some (vi v1), none, none, some (vi v4), some (vi v5), none]) (st' := [vi (40 : Int32), vi v4]) (M1 := M) (pc' := 157) (tb_Model hγ) [.iload 4, .bipush 40] (by decide +kernel) rfl rfl trivial ?_
  refine E_icmp_ne (off := 15) (tgt := 172) (by decide +kernel) (by decide) (fun b70 => ?_) (fun b70 => ?_)
  · rw [if_pos b70] at h
    refine E_mask [true, true, false, false, true, true, false] rfl ?_
    exact lk_Model_putInstruction_j160 hγ this Q v1 v4 v5 M h
  · rw [if_neg b70] at h
    refine E_mask [true, true, false, false, true, true, false] rfl ?_
    exact lk_Model_putInstruction_j172 hγ this Q v1 v4 v5 M h
set_option maxRecDepth 4096 in
theorem lk_Model_putInstruction_j101 {γ : Gm} (hγ : Gk γ) (this : Nat) (Q : Mem → Prop) (v1 : Int32) (M : Mem) (h : w_Model_putInstruction_j101 this Q v1 M) : E γ k_Model_putInstruction 7 101 [some (vr (some (11, this))), some (vi v1), none, none, none, none, none] [] M (Qv Q) := by
  unfold w_Model_putInstruction_j101 at h
  refine E_blk (lv' := [some (vr (some (11, this))), some (vi v1), none, none, none, none, none]) (st' := [vr (mR M 11 this 45)]) (M1 := M) (pc' := 105) (tb_Model hγ) [.aload_n 0, .getfield 522] (by decide +kernel) rfl rfl trivial ?_
  obtain ⟨i8, ei8, h⟩ := h
  rw [ei8]
  refine E_blk (lv' := [some (vr (some (11, this))), some (vi v1), none, none, none, none, none]) (st' := [vr (mR M 12 i8 30)]) (M1 := M) (pc' := 108) (tb_Model hγ) [.getfield 674] (by decide +kernel) rfl rfl trivial ?_
  obtain ⟨i9, ei9, h⟩ := h
  rw [ei9]
  obtain ⟨c10, h⟩ := h
  refine E_blk (lv' := [some (vr (some (11, this))), some (vi v1), none, none, some (vi (mI M 401 i9 v1.toNatClampNeg)), none, none]) (st' := [vi ((mI M 11 this 26) + (mI M 401 i9 v1.toNatClampNeg)), vr (some (11, this))]) (M1 := M) (pc' := 120) (tb_Model hγ) [.iload_n 1, .baload, .istore 4, .aload_n 0, .aload_n 0, .getfield 242, .iload 4, .iadd] (by decide +kernel) rfl rfl ⟨c10, trivial⟩ ?_
  refine E_callV (κ' := k_Model_putName) (As := [vi ((mI M 11 this 26) + (mI M 401 i9 v1.toNatClampNeg))]) (st := []) mv_Model_putName (Or.inl (tbk_mem (j := 17) (k := 50) rfl)) rfl (by decide +kernel) (Nat.le_of_ble_eq_true rfl) (Nat.le_of_ble_eq_true rfl) rfl (by decide) (lk_Model_putName hγ this ((mI M 11 this 26) + (mI M 401 i9 v1.toNatClampNeg)) _ M h) (fun _ _ => Qv_r) (fun v M11 hp => Qv_k (R := fun st => E γ k_Model_putInstruction 7 123 [some (vr (some (11, this))), some (vi v1), none, none, some (vi (mI M 401 i9 v1.toNatClampNeg)), none, none] st M11 (Qv Q)) hp (fun h => ?_))
  refine E_blk (lv' := [some (vr (some (11, this))), some (vi v1), none, none, some (vi (mI M 401 i9 v1.toNatClampNeg)), none, none]) (st' := [vr (mR M11 11 this 45)]) (M1 := M11) (pc' := 127) (tb_Model hγ) [.aload_n 0, .getfield 522] (by decide +kernel) rfl rfl trivial ?_
  obtain ⟨i12, ei12, h⟩ := h
  rw [ei12]
  refine E_blk (lv' := [some (vr (some (11, this))), some (vi v1), none, none, some (vi (mI M 401 i9 v1.toNatClampNeg)), none, none]) (st' := [vr (mR M11 12 i12 31)]) (M1 := M11) (pc' := 130) (tb_Model hγ) [.getfield 677] (by decide +kernel) rfl rfl trivial ?_
  obtain ⟨i13, ei13, h⟩ := h
  rw [ei13]
  obtain ⟨c14, h⟩ := h
  refine E_blk (lv' := [some (vr (some (11, this))), some (vi v1), none, none, some (vi (mI M 401 i9 v1.toNatClampNeg)), some (vi (mI M11 300 i13 v1.toNatClampNeg)), none]) (st' := [vi (1 : Int32), vi (mI M 401 i9 v1.toNatClampNeg)]) (M1 := M11) (pc' := 137) (tb_Model hγ) [.iload_n 1, .iaload, .istore 5, .iload 4, .iconst 1] (by decide +kernel) rfl rfl ⟨c14, trivial⟩ ?_
  refine E_icmp_eq (off := 23) (tgt := 160) (by decide +kernel) (by decide) (fun b15 => ?_) (fun b15 => ?_)
  · rw [if_pos b15] at h
    refine E_mask [true, true, false, false, true, true, false] rfl ?_
    exact lk_Model_putInstruction_j160 hγ this Q v1 (mI M 401 i9 v1.toNatClampNeg) (mI M11 300 i13 v1.toNatClampNeg) M11 h
  · rw [if_neg b15] at h
    refine E_blk (lv' := [some (vr (some (11, this))), some (vi v1), none, none, some (vi (mI M 401 i9 v1.toNatClampNeg)), some (vi (mI M11 300 i13 v1.toNatClampNeg)), none]) (st' := [vi (3 : Int32), vi (mI M 401 i9 v1.toNatClampNeg)]) (M1 := M11) (pc' := 143) (tb_Model hγ) [.iload 4, .iconst 3] (by decide +kernel) rfl rfl trivial ?_
    refine E_icmp_lt (off := 10) (tgt := 153) (by decide +kernel) (by decide) (fun b69 => ?_) (fun b69 => ?_)
    · rw [if_pos b69] at h
      refine E_mask [true, true, false, false, true, true, false] rfl ?_
      exact lk_Model_putInstruction_j153 hγ this Q v1 (mI M 401 i9 v1.toNatClampNeg) (mI M11 300 i13 v1.toNatClampNeg) M11 h
    · rw [if_neg b69] at h
      refine E_blk (lv' := [some (vr (some (11, this))), some (vi v1), none, none, some (vi (mI M 401 i9 v1.toNatClampNeg)), some (vi (mI M11 300 i13 v1.toNatClampNeg)), none]) (st' := [vi (7 : Int32), vi (mI M 401 i9 v1.toNatClampNeg)]) (M1 := M11) (pc' := 150) (tb_Model hγ) [.iload 4, .bipush 7] (by decide +kernel) rfl rfl trivial ?_
      refine E_icmp_le (off := 10) (tgt := 160) (by decide +kernel) (by decide) (fun b71 => ?_) (fun b71 => ?_)
      · rw [if_pos b71] at h
        refine E_mask [true, true, false, false, true, true, false] rfl ?_
        exact lk_Model_putInstruction_j160 hγ this Q v1 (mI M 401 i9 v1.toNatClampNeg) (mI M11 300 i13 v1.toNatClampNeg) M11 h
      · rw [if_neg b71] at h
        refine E_mask [true, true, false, false, true, true, false] rfl ?_
        exact lk_Model_putInstruction_j153 hγ this Q v1 (mI M 401 i9 v1.toNatClampNeg) (mI M11 300 i13 v1.toNatClampNeg) M11 h
set_option maxRecDepth 4096 in
theorem lk_Model_putInstruction_j73 {γ : Gm} (hγ : Gk γ) (this : Nat) (Q : Mem → Prop) (v1 : Int32) (v2 : Int32) (M : Mem) (h : w_Model_putInstruction_j73 this Q v1 v2 M) : E γ k_Model_putInstruction 7 73 [some (vr (some (11, this))), some (vi v1), some (vi v2), none, none, none, none] [] M (Qv Q) := by
  unfold w_Model_putInstruction_j73 at h
  refine E_blk (lv' := [some (vr (some (11, this))), some (vi v1), some (vi v2), none, none, none, none]) (st' := [vr (some (11, this))]) (M1 := M) (pc' := 74) (tb_Model hγ) [.aload_n 0] (by decide +kernel) rfl rfl trivial ?_
  refine E_ldcwS (κ := k_Model_putInstruction) (pc := 74) (k := 40) hγ.2.2.2 rfl rfl (by decide +kernel) ?_
  refine E_callV (κ' := k_Model_putWord) (As := [vr (some (0, 40))]) (st := []) mv_Model_putWord (Or.inl (tbk_mem (j := 17) (k := 39) rfl)) rfl (by decide +kernel) (Nat.le_of_ble_eq_true rfl) (Nat.le_of_ble_eq_true rfl) rfl (by decide) (lk_Model_putWord hγ this 40 _ M h) (fun _ _ => Qv_r) (fun v M5 hp => Qv_k (R := fun st => E γ k_Model_putInstruction 7 80 [some (vr (some (11, this))), some (vi v1), some (vi v2), none, none, none, none] st M5 (Qv Q)) hp (fun h => ?_))
  obtain ⟨c6, h⟩ := h
  refine E_blk (lv' := [some (vr (some (11, this))), some (vi v1), some (vi v2), none, none, none, none]) (st' := [vi (mI M5 518 this v2.toNatClampNeg)]) (M1 := M5) (pc' := 86) (tb_Model hγ) [.aload_n 0, .getfield 326, .iload_n 2, .baload] (by decide +kernel) rfl rfl ⟨c6, trivial⟩ ?_
  refine E_if_eq (off := 15) (tgt := 101) (by decide +kernel) (by decide) (fun b7 => ?_) (fun b7 => ?_)
  · rw [if_pos b7] at h
    refine E_mask [true, true, false, false, false, false, false] rfl ?_
    exact lk_Model_putInstruction_j101 hγ this Q v1 M5 h
  · rw [if_neg b7] at h
    refine E_blk (lv' := [some (vr (some (11, this))), some (vi v1), some (vi v2), none, none, none, none]) (st' := [vi v2, vr (some (11, this))]) (M1 := M5) (pc' := 91) (tb_Model hγ) [.aload_n 0, .iload_n 2] (by decide +kernel) rfl rfl trivial ?_
    refine E_callV (κ' := k_Model_putLabel) (As := [vi v2]) (st := []) mv_Model_putLabel (Or.inl (tbk_mem (j := 17) (k := 96) rfl)) rfl (by decide +kernel) (Nat.le_of_ble_eq_true rfl) (Nat.le_of_ble_eq_true rfl) rfl (by decide) (lk_Model_putLabel hγ this v2 _ M5 h) (fun _ _ => Qv_r) (fun v M72 hp => Qv_k (R := fun st => E γ k_Model_putInstruction 7 94 [some (vr (some (11, this))), some (vi v1), some (vi v2), none, none, none, none] st M72 (Qv Q)) hp (fun h => ?_))
    refine E_blk (lv' := [some (vr (some (11, this))), some (vi v1), some (vi v2), none, none, none, none]) (st' := [vr (some (11, this))]) (M1 := M72) (pc' := 95) (tb_Model hγ) [.aload_n 0] (by decide +kernel) rfl rfl trivial ?_
    refine E_ldcwS (κ := k_Model_putInstruction) (pc := 95) (k := 27) hγ.2.2.2 rfl rfl (by decide +kernel) ?_
    refine E_callV (κ' := k_Model_putWord) (As := [vr (some (0, 27))]) (st := []) mv_Model_putWord (Or.inl (tbk_mem (j := 17) (k := 39) rfl)) rfl (by decide +kernel) (Nat.le_of_ble_eq_true rfl) (Nat.le_of_ble_eq_true rfl) rfl (by decide) (lk_Model_putWord hγ this 27 _ M72 h) (fun _ _ => Qv_r) (fun v M73 hp => Qv_k (R := fun st => E γ k_Model_putInstruction 7 101 [some (vr (some (11, this))), some (vi v1), some (vi v2), none, none, none, none] st M73 (Qv Q)) hp (fun h => ?_))
    refine E_mask [true, true, false, false, false, false, false] rfl ?_
    exact lk_Model_putInstruction_j101 hγ this Q v1 M73 h
set_option maxRecDepth 4096 in
theorem lk_Model_putInstruction {γ : Gm} (hγ : Gk γ) (this : Nat) (a1 : Int32) (a2 : Int32) (Q : Mem → Prop) (M : Mem) (h : w_Model_putInstruction this a1 a2 Q M) : E γ k_Model_putInstruction 7 0 [some (vr (some (11, this))), some (vi a1), some (vi a2), none, none, none, none] [] M (Qv Q) := by
  unfold w_Model_putInstruction at h
  refine E_blk (lv' := [some (vr (some (11, this))), some (vi a1), some (vi a2), none, none, none, none]) (st' := [vr (mR M 11 this 45)]) (M1 := M) (pc' := 4) (tb_Model hγ) [.aload_n 0, .getfield 522] (by decide +kernel) rfl rfl trivial ?_
  obtain ⟨i1, ei1, h⟩ := h
  rw [ei1]
  refine E_blk (lv' := [some (vr (some (11, this))), some (vi a1), some (vi a2), none, none, none, none]) (st' := [vr (mR M 12 i1 34)]) (M1 := M) (pc' := 7) (tb_Model hγ) [.getfield 686] (by decide +kernel) rfl rfl trivial ?_
  obtain ⟨i2, ei2, h⟩ := h
  rw [ei2]
  obtain ⟨c3, h⟩ := h
  refine E_blk (lv' := [some (vr (some (11, this))), some (vi a1), some (vi a2), some (vi ((mI M 300 i2 a1.toNatClampNeg) - (1 : Int32))), none, none, none]) (st' := [vi ((mI M 300 i2 a1.toNatClampNeg) - (1 : Int32))]) (M1 := M) (pc' := 13) (tb_Model hγ) [.iload_n 1, .iaload, .iconst 1, .isub, .istore_n 3, .iload_n 3] (by decide +kernel) rfl rfl ⟨c3, trivial⟩ ?_
  refine E_if_lt (off := 60) (tgt := 73) (by decide +kernel) (by decide) (fun b4 => ?_) (fun b4 => ?_)
  · rw [if_pos b4] at h
    refine E_mask [true, true, true, false, false, false, false] rfl ?_
    exact lk_Model_putInstruction_j73 hγ this Q a1 a2 M h
  · rw [if_neg b4] at h
    refine E_blk (lv' := [some (vr (some (11, this))), some (vi a1), some (vi a2), some (vi ((mI M 300 i2 a1.toNatClampNeg) - (1 : Int32))), none, none, none]) (st' := [vr (some (11, this))]) (M1 := M) (pc' := 17) (tb_Model hγ) [.aload_n 0] (by decide +kernel) rfl rfl trivial ?_
    refine E_ldcwS (κ := k_Model_putInstruction) (pc := 17) (k := 38) hγ.2.2.2 rfl rfl (by decide +kernel) ?_
    refine E_callV (κ' := k_Model_putWord) (As := [vr (some (0, 38))]) (st := []) mv_Model_putWord (Or.inl (tbk_mem (j := 17) (k := 39) rfl)) rfl (by decide +kernel) (Nat.le_of_ble_eq_true rfl) (Nat.le_of_ble_eq_true rfl) rfl (by decide) (lk_Model_putWord hγ this 38 _ M h) (fun _ _ => Qv_r) (fun v M74 hp => Qv_k (R := fun st => E γ k_Model_putInstruction 7 23 [some (vr (some (11, this))), some (vi a1), some (vi a2), some (vi ((mI M 300 i2 a1.toNatClampNeg) - (1 : Int32))), none, none, none] st M74 (Qv Q)) hp (fun h => ?_))
    refine E_blk (lv' := [some (vr (some (11, this))), some (vi a1), some (vi a2), some (vi ((mI M 300 i2 a1.toNatClampNeg) - (1 : Int32))), none, none, none]) (st' := [vr (mR M74 11 this 45), vi (0 : Int32), vi ((mI M 300 i2 a1.toNatClampNeg) - (1 : Int32)), vr (some (11, this))]) (M1 := M74) (pc' := 30) (tb_Model hγ) [.aload_n 0, .iload_n 3, .iconst 0, .aload_n 0, .getfield 522] (by decide +kernel) rfl rfl trivial ?_
    obtain ⟨i75, ei75, h⟩ := h
    rw [ei75]
    refine E_blk (lv' := [some (vr (some (11, this))), some (vi a1), some (vi a2), some (vi ((mI M 300 i2 a1.toNatClampNeg) - (1 : Int32))), none, none, none]) (st' := [vr (mR M74 12 i75 38), vi (0 : Int32), vi ((mI M 300 i2 a1.toNatClampNeg) - (1 : Int32)), vr (some (11, this))]) (M1 := M74) (pc' := 33) (tb_Model hγ) [.getfield 701] (by decide +kernel) rfl rfl trivial ?_
    obtain ⟨i76, ei76, h⟩ := h
    rw [ei76]
    obtain ⟨c77, h⟩ := h
    refine E_blk (lv' := [some (vr (some (11, this))), some (vi a1), some (vi a2), some (vi ((mI M 300 i2 a1.toNatClampNeg) - (1 : Int32))), none, none, none]) (st' := [vi (mI M74 300 i76 ((mI M 300 i2 a1.toNatClampNeg) - (1 : Int32)).toNatClampNeg), vi (0 : Int32), vi ((mI M 300 i2 a1.toNatClampNeg) - (1 : Int32)), vr (some (11, this))]) (M1 := M74) (pc' := 35) (tb_Model hγ) [.iload_n 3, .iaload] (by decide +kernel) rfl rfl ⟨c77, trivial⟩ ?_
    refine E_callV (κ' := k_Model_putKinds) (As := [vi ((mI M 300 i2 a1.toNatClampNeg) - (1 : Int32)), vi (0 : Int32), vi (mI M74 300 i76 ((mI M 300 i2 a1.toNatClampNeg) - (1 : Int32)).toNatClampNeg)]) (st := []) mv_Model_putKinds (Or.inl (tbk_mem (j := 17) (k := 90) rfl)) rfl (by decide +kernel) (Nat.le_of_ble_eq_true rfl) (Nat.le_of_ble_eq_true rfl) rfl (by decide) (lk_Model_putKinds hγ this ((mI M 300 i2 a1.toNatClampNeg) - (1 : Int32)) (0 : Int32) (mI M74 300 i76 ((mI M 300 i2 a1.toNatClampNeg) - (1 : Int32)).toNatClampNeg) _ M74 h) (fun _ _ => Qv_r) (fun v M78 hp => Qv_k (R := fun st => E γ k_Model_putInstruction 7 38 [some (vr (some (11, this))), some (vi a1), some (vi a2), some (vi ((mI M 300 i2 a1.toNatClampNeg) - (1 : Int32))), none, none, none] st M78 (Qv Q)) hp (fun h => ?_))
    refine E_blk (lv' := [some (vr (some (11, this))), some (vi a1), some (vi a2), some (vi ((mI M 300 i2 a1.toNatClampNeg) - (1 : Int32))), none, none, none]) (st' := [vi (59 : Int32), vr (some (11, this))]) (M1 := M78) (pc' := 41) (tb_Model hγ) [.aload_n 0, .bipush 59] (by decide +kernel) rfl rfl trivial ?_
    refine E_callV (κ' := k_Model_put) (As := [vi (59 : Int32)]) (st := []) mv_Model_put (Or.inl (tbk_mem (j := 17) (k := 43) rfl)) rfl (by decide +kernel) (Nat.le_of_ble_eq_true rfl) (Nat.le_of_ble_eq_true rfl) rfl (by decide) (lk_Model_put hγ this (59 : Int32) _ M78 h) (fun _ _ => Qv_r) (fun v M79 hp => Qv_k (R := fun st => E γ k_Model_putInstruction 7 44 [some (vr (some (11, this))), some (vi a1), some (vi a2), some (vi ((mI M 300 i2 a1.toNatClampNeg) - (1 : Int32))), none, none, none] st M79 (Qv Q)) hp (fun h => ?_))
    refine E_blk (lv' := [some (vr (some (11, this))), some (vi a1), some (vi a2), some (vi ((mI M 300 i2 a1.toNatClampNeg) - (1 : Int32))), none, none, none]) (st' := [vr (mR M79 11 this 45), vi ((mI M 300 i2 a1.toNatClampNeg) - (1 : Int32)), vr (some (11, this))]) (M1 := M79) (pc' := 50) (tb_Model hγ) [.aload_n 0, .iload_n 3, .aload_n 0, .getfield 522] (by decide +kernel) rfl rfl trivial ?_
    obtain ⟨i80, ei80, h⟩ := h
    rw [ei80]
    refine E_blk (lv' := [some (vr (some (11, this))), some (vi a1), some (vi a2), some (vi ((mI M 300 i2 a1.toNatClampNeg) - (1 : Int32))), none, none, none]) (st' := [vr (mR M79 12 i80 38), vi ((mI M 300 i2 a1.toNatClampNeg) - (1 : Int32)), vr (some (11, this))]) (M1 := M79) (pc' := 53) (tb_Model hγ) [.getfield 701] (by decide +kernel) rfl rfl trivial ?_
    obtain ⟨i81, ei81, h⟩ := h
    rw [ei81]
    obtain ⟨c82, h⟩ := h
    refine E_blk (lv' := [some (vr (some (11, this))), some (vi a1), some (vi a2), some (vi ((mI M 300 i2 a1.toNatClampNeg) - (1 : Int32))), none, none, none]) (st' := [vr (mR M79 11 this 45), vi (mI M79 300 i81 ((mI M 300 i2 a1.toNatClampNeg) - (1 : Int32)).toNatClampNeg), vi ((mI M 300 i2 a1.toNatClampNeg) - (1 : Int32)), vr (some (11, this))]) (M1 := M79) (pc' := 59) (tb_Model hγ) [.iload_n 3, .iaload, .aload_n 0, .getfield 522] (by decide +kernel) rfl rfl ⟨c82, trivial⟩ ?_
    obtain ⟨i83, ei83, h⟩ := h
    rw [ei83]
    refine E_blk (lv' := [some (vr (some (11, this))), some (vi a1), some (vi a2), some (vi ((mI M 300 i2 a1.toNatClampNeg) - (1 : Int32))), none, none, none]) (st' := [vr (mR M79 12 i83 39), vi (mI M79 300 i81 ((mI M 300 i2 a1.toNatClampNeg) - (1 : Int32)).toNatClampNeg), vi ((mI M 300 i2 a1.toNatClampNeg) - (1 : Int32)), vr (some (11, this))]) (M1 := M79) (pc' := 62) (tb_Model hγ) [.getfield 704] (by decide +kernel) rfl rfl trivial ?_
    obtain ⟨i84, ei84, h⟩ := h
    rw [ei84]
    obtain ⟨c85, h⟩ := h
    refine E_blk (lv' := [some (vr (some (11, this))), some (vi a1), some (vi a2), some (vi ((mI M 300 i2 a1.toNatClampNeg) - (1 : Int32))), none, none, none]) (st' := [vi (mI M79 300 i84 ((mI M 300 i2 a1.toNatClampNeg) - (1 : Int32)).toNatClampNeg), vi (mI M79 300 i81 ((mI M 300 i2 a1.toNatClampNeg) - (1 : Int32)).toNatClampNeg), vi ((mI M 300 i2 a1.toNatClampNeg) - (1 : Int32)), vr (some (11, this))]) (M1 := M79) (pc' := 64) (tb_Model hγ) [.iload_n 3, .iaload] (by decide +kernel) rfl rfl ⟨c85, trivial⟩ ?_
    refine E_callV (κ' := k_Model_putKinds) (As := [vi ((mI M 300 i2 a1.toNatClampNeg) - (1 : Int32)), vi (mI M79 300 i81 ((mI M 300 i2 a1.toNatClampNeg) - (1 : Int32)).toNatClampNeg), vi (mI M79 300 i84 ((mI M 300 i2 a1.toNatClampNeg) - (1 : Int32)).toNatClampNeg)]) (st := []) mv_Model_putKinds (Or.inl (tbk_mem (j := 17) (k := 90) rfl)) rfl (by decide +kernel) (Nat.le_of_ble_eq_true rfl) (Nat.le_of_ble_eq_true rfl) rfl (by decide) (lk_Model_putKinds hγ this ((mI M 300 i2 a1.toNatClampNeg) - (1 : Int32)) (mI M79 300 i81 ((mI M 300 i2 a1.toNatClampNeg) - (1 : Int32)).toNatClampNeg) (mI M79 300 i84 ((mI M 300 i2 a1.toNatClampNeg) - (1 : Int32)).toNatClampNeg) _ M79 h) (fun _ _ => Qv_r) (fun v M86 hp => Qv_k (R := fun st => E γ k_Model_putInstruction 7 67 [some (vr (some (11, this))), some (vi a1), some (vi a2), some (vi ((mI M 300 i2 a1.toNatClampNeg) - (1 : Int32))), none, none, none] st M86 (Qv Q)) hp (fun h => ?_))
    refine E_blk (lv' := [some (vr (some (11, this))), some (vi a1), some (vi a2), some (vi ((mI M 300 i2 a1.toNatClampNeg) - (1 : Int32))), none, none, none]) (st' := [vi (10 : Int32), vr (some (11, this))]) (M1 := M86) (pc' := 70) (tb_Model hγ) [.aload_n 0, .bipush 10] (by decide +kernel) rfl rfl trivial ?_
    refine E_callV (κ' := k_Model_put) (As := [vi (10 : Int32)]) (st := []) mv_Model_put (Or.inl (tbk_mem (j := 17) (k := 43) rfl)) rfl (by decide +kernel) (Nat.le_of_ble_eq_true rfl) (Nat.le_of_ble_eq_true rfl) rfl (by decide) (lk_Model_put hγ this (10 : Int32) _ M86 h) (fun _ _ => Qv_r) (fun v M87 hp => Qv_k (R := fun st => E γ k_Model_putInstruction 7 73 [some (vr (some (11, this))), some (vi a1), some (vi a2), some (vi ((mI M 300 i2 a1.toNatClampNeg) - (1 : Int32))), none, none, none] st M87 (Qv Q)) hp (fun h => ?_))
    refine E_mask [true, true, true, false, false, false, false] rfl ?_
    exact lk_Model_putInstruction_j73 hγ this Q a1 a2 M87 h
