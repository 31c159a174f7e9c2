def k_Model_listWants : Kp := (⟨"ClassWorksModel", "listWants", "(II)V"⟩, prog_13_method_74_code, 5, none, [])
theorem mv_Model_listWants : MV k_Model_listWants 11 2 := ⟨⟨_, rfl, rfl⟩, by decide, (tbk_mem (j := 15) (k := 223) rfl), Or.inr ⟨(tbk_mem (j := 15) (k := 222) rfl), 131, (tbk_mem (j := 11) (k := 41) rfl)⟩, Or.inl ⟨rfl, (tbk_mem (j := 15) (k := 224) rfl)⟩, ⟨by decide, by decide⟩, by decide +kernel, by decide +kernel, by decide⟩
def k_Model_isRef : Kp := (⟨"ClassWorksModel", "isRef", "(I)Z"⟩, prog_13_method_60_code, 1, some (.boolean), [])
theorem ms_Model_isRef : MSt k_Model_isRef 1 := ⟨(tbk_mem (j := 15) (k := 230) rfl), (tbk_mem (j := 1) (k := 21) rfl), Or.inl ⟨rfl, (tbk_mem (j := 15) (k := 231) rfl)⟩, ⟨by decide, by decide⟩, by decide +kernel, by decide +kernel, by decide⟩
def k_Model_isUnmade : Kp := (⟨"ClassWorksModel", "isUnmade", "(I)Z"⟩, prog_13_method_61_code, 1, some (.boolean), [])
theorem ms_Model_isUnmade : MSt k_Model_isUnmade 1 := ⟨(tbk_mem (j := 15) (k := 233) rfl), (tbk_mem (j := 1) (k := 21) rfl), Or.inl ⟨rfl, (tbk_mem (j := 15) (k := 234) rfl)⟩, ⟨by decide, by decide⟩, by decide +kernel, by decide +kernel, by decide⟩
def k_Model_checkTaken : Kp := (⟨"ClassWorksModel", "checkTaken", "(II)I"⟩, prog_13_method_75_code, 10, some (.int), [])
theorem mv_Model_checkTaken : MV k_Model_checkTaken 11 2 := ⟨⟨_, rfl, rfl⟩, by decide, (tbk_mem (j := 15) (k := 219) rfl), Or.inr ⟨(tbk_mem (j := 15) (k := 218) rfl), 131, (tbk_mem (j := 11) (k := 41) rfl)⟩, Or.inl ⟨rfl, (tbk_mem (j := 15) (k := 220) rfl)⟩, ⟨by decide, by decide⟩, by decide +kernel, by decide +kernel, by decide⟩
def k_Model_isNear : Kp := (⟨"ClassWorksModel", "isNear", "(I)Z"⟩, prog_13_method_76_code, 4, some (.boolean), [])
theorem mv_Model_isNear : MV k_Model_isNear 11 1 := ⟨⟨_, rfl, rfl⟩, by decide, (tbk_mem (j := 16) (k := 1) rfl), Or.inr ⟨(tbk_mem (j := 16) (k := 0) rfl), 131, (tbk_mem (j := 11) (k := 41) rfl)⟩, Or.inl ⟨rfl, (tbk_mem (j := 16) (k := 2) rfl)⟩, ⟨by decide, by decide⟩, by decide +kernel, by decide +kernel, by decide⟩
def k_Model_checkOwn : Kp := (⟨"ClassWorksModel", "checkOwn", "(II)I"⟩, prog_13_method_77_code, 6, some (.int), [])
theorem mv_Model_checkOwn : MV k_Model_checkOwn 11 2 := ⟨⟨_, rfl, rfl⟩, by decide, (tbk_mem (j := 15) (k := 237) rfl), Or.inr ⟨(tbk_mem (j := 15) (k := 236) rfl), 131, (tbk_mem (j := 11) (k := 41) rfl)⟩, Or.inl ⟨rfl, (tbk_mem (j := 15) (k := 238) rfl)⟩, ⟨by decide, by decide⟩, by decide +kernel, by decide +kernel, by decide⟩
def k_Model_lay : Kp := (⟨"ClassWorksModel", "lay", "(I)V"⟩, prog_13_method_78_code, 2, none, [])
theorem mv_Model_lay : MV k_Model_lay 11 1 := ⟨⟨_, rfl, rfl⟩, by decide, (tbk_mem (j := 16) (k := 9) rfl), Or.inr ⟨(tbk_mem (j := 16) (k := 8) rfl), 131, (tbk_mem (j := 11) (k := 41) rfl)⟩, Or.inl ⟨rfl, (tbk_mem (j := 16) (k := 10) rfl)⟩, ⟨by decide, by decide⟩, by decide +kernel, by decide +kernel, by decide⟩
def w_Model_listWants_j69 (this : Nat) (Q : Mem → Prop)  (M : Mem) : Prop :=
  w_Model_want this (1 : Int32) (fun M4 => Q M4) M
def w_Model_listWants_j694 (this : Nat) (Q : Mem → Prop) (s0 : Int32) (M : Mem) : Prop :=
  w_Model_want this s0 (fun M76 => Q M76) M
def w_Model_listWants_j639 (this : Nat) (Q : Mem → Prop) (s0 : Int32) (M : Mem) : Prop :=
  w_Model_want this s0 (fun M88 => Q M88) M
def w_Model_listWants_L150 (this : Nat) (Q : Mem → Prop) : Nat → Int32 → Int32 → Int32 → Int32 → Mem → Prop
  | 0, _, _, _, _, _ => False
  | n + 1, v1, v2, v3, v4, M => if v4 < 0 then (if v1 = (6 : Int32) then (w_Model_want this (7 : Int32) (fun M129 => Q M129) M) else (if v1 = (7 : Int32) then (Q M) else (if v1 = (8 : Int32) then (Q M) else (if v1 = (9 : Int32) then (Q M) else (if v1 = (10 : Int32) then (Q M) else (if v1 = (11 : Int32) then (Q M) else (if v1 = (12 : Int32) then (Q M) else (if v1 = (13 : Int32) then (Q M) else (if v1 = (14 : Int32) then (Q M) else (if v1 = (15 : Int32) then (Q M) else (if v1 = (16 : Int32) then (Q M) else (if v1 = (17 : Int32) then (Q M) else (if v1 = (18 : Int32) then (Q M) else (if v1 = (19 : Int32) then (w_Model_want this (8 : Int32) (fun M128 => Q M128) M) else (if v1 = (20 : Int32) then (w_Model_want this (8 : Int32) (fun M127 => Q M127) M) else (if v1 = (21 : Int32) then (w_Model_want this (8 : Int32) (fun M125 => w_Model_want this (8 : Int32) (fun M126 => Q M126) M125) M) else (if v1 = (22 : Int32) then (w_Model_want this (8 : Int32) (fun M123 => w_Model_want this (8 : Int32) (fun M124 => Q M124) M123) M) else (if v1 = (23 : Int32) then (Q M) else (if v1 = (24 : Int32) then (Q M) else (if v1 = (25 : Int32) then (Q M) else (if v1 = (26 : Int32) then (Q M) else (if v1 = (27 : Int32) then (Q M) else (if v1 = (28 : Int32) then (Q M) else (if v1 = (29 : Int32) then (Q M) else (if v1 = (30 : Int32) then (Q M) else (if v1 = (31 : Int32) then (Q M) else (if v1 = (32 : Int32) then (Q M) else (if v1 = (33 : Int32) then (Q M) else (if v1 = (34 : Int32) then (Q M) else (if v1 = (35 : Int32) then (Q M) else (if v1 = (36 : Int32) then (w_Model_want this (6 : Int32) (fun M122 => Q M122) M) else (if v1 = (37 : Int32) then (w_Model_want this (6 : Int32) (fun M121 => Q M121) M) else (if v1 = (38 : Int32) then (w_Model_want this (6 : Int32) (fun M119 => w_Model_want this (6 : Int32) (fun M120 => Q M120) M119) M) else (if v1 = (39 : Int32) then (w_Model_want this (6 : Int32) (fun M117 => w_Model_want this (6 : Int32) (fun M118 => Q M118) M117) M) else (if v1 = (40 : Int32) then (Q M) else (if v1 = (41 : Int32) then (Q M) else (if v1 = (42 : Int32) then (Q M) else (if v1 = (43 : Int32) then (w_Model_want this (1 : Int32) (fun M115 => w_Model_want this (2 : Int32) (fun M116 => Q M116) M115) M) else (if v1 = (44 : Int32) then (w_Model_want this (1 : Int32) (fun M112 => w_Model_want this (1 : Int32) (fun M113 => w_Model_want this (2 : Int32) (fun M114 => Q M114) M113) M112) M) else (if v1 = (45 : Int32) then (w_Model_want this (2 : Int32) (fun M111 => Q M111) M) else (if v1 = (46 : Int32) then (∃ i107, (mR M 11 this 45) = some (12, i107) ∧ ∃ i108, (mR M 12 i107 31) = some (300, i108) ∧ vp_in v2 (mL M 300 i108) ∧ w_Model_want this ((16 : Int32) + (mI M 300 i108 v2.toNatClampNeg)) (fun M110 => Q M110) M) else (if v1 = (47 : Int32) then (∃ i99, (mR M 11 this 45) = some (12, i99) ∧ ∃ i100, (mR M 12 i99 33) = some (300, i100) ∧ vp_in v2 (mL M 300 i100) ∧ w_Model_want this (mI M 300 i100 v2.toNatClampNeg) (fun M102 => ∃ i103, (mR M102 11 this 45) = some (12, i103) ∧ ∃ i104, (mR M102 12 i103 31) = some (300, i104) ∧ vp_in v2 (mL M102 300 i104) ∧ w_Model_want this ((16 : Int32) + (mI M102 300 i104 v2.toNatClampNeg)) (fun M106 => Q M106) M102) M) else (if v1 = (48 : Int32) then (Q M) else (if v1 = (49 : Int32) then (∃ i95, (mR M 11 this 45) = some (12, i95) ∧ ∃ i96, (mR M 12 i95 33) = some (300, i96) ∧ vp_in v2 (mL M 300 i96) ∧ w_Model_want this (mI M 300 i96 v2.toNatClampNeg) (fun M98 => Q M98) M) else (if v1 = (50 : Int32) then (∃ i91, (mR M 11 this 45) = some (12, i91) ∧ ∃ i92, (mR M 12 i91 31) = some (300, i92) ∧ vp_in v2 (mL M 300 i92) ∧ w_Model_want this ((16 : Int32) + (mI M 300 i92 v2.toNatClampNeg)) (fun M94 => Q M94) M) else (if v1 = (51 : Int32) then (∃ i84, (mR M 11 this 45) = some (12, i84) ∧ ∃ i85, (mR M 12 i84 32) = some (300, i85) ∧ vp_in v2 (mL M 300 i85) ∧ if (mI M 300 i85 v2.toNatClampNeg) = (mI M 11 this 6) then (w_Model_listWants_j639 this Q (8 : Int32) M) else (∃ i89, (mR M 11 this 45) = some (12, i89) ∧ vp_in (mI M 11 this 76) (mL M 130 i89) ∧ w_Model_listWants_j639 this Q ((16 : Int32) + (mI M 130 i89 (mI M 11 this 76).toNatClampNeg)) M)) else (if v1 = (52 : Int32) then (Q M) else (if v1 = (53 : Int32) then (∃ i80, (mR M 11 this 45) = some (12, i80) ∧ ∃ i81, (mR M 12 i80 31) = some (300, i81) ∧ vp_in v2 (mL M 300 i81) ∧ w_Model_want this ((16 : Int32) + (mI M 300 i81 v2.toNatClampNeg)) (fun M83 => Q M83) M) else (if v1 = (54 : Int32) then (w_Model_want this (6 : Int32) (fun M79 => Q M79) M) else (if v1 = (55 : Int32) then (w_Model_want this (6 : Int32) (fun M78 => Q M78) M) else (if v1 = (56 : Int32) then (w_Model_want this (((16 : Int32) + (mI M 11 this 8)) + (1 : Int32)) (fun M77 => Q M77) M) else (if v1 = (57 : Int32) then (Q M) else (if v1 = (58 : Int32) then (Q M) else (if v1 = (59 : Int32) then (∃ i70, (mR M 11 this 32) = some (300, i70) ∧ ∃ i71, (mR M 11 this 45) = some (12, i71) ∧ vp_in (mI M 11 this 75) (mL M 145 i71) ∧ vp_in (mI M 145 i71 (mI M 11 this 75).toNatClampNeg) (mL M 300 i70) ∧ ∃ x74 : Int32, x74 = (mI M 300 i70 (mI M 145 i71 (mI M 11 this 75).toNatClampNeg).toNatClampNeg) ∧ if x74 ≤ (1 : Int32) then (w_Model_listWants_j694 this Q (6 : Int32) M) else (w_Model_listWants_j694 this Q x74 M)) else (if v1 = (60 : Int32) then (w_Model_want this (6 : Int32) (fun M69 => Q M69) M) else (if v1 = (61 : Int32) then (w_Model_want this (6 : Int32) (fun M68 => Q M68) M) else (Q M))))))))))))))))))))))))))))))))))))))))))))))))))))))))) else (∃ i130, (mR M 11 this 35) = some (300, i130) ∧ ∃ i131, (mR M 11 this 30) = some (300, i131) ∧ vp_in v3 (mL M 300 i131) ∧ vp_in ((mI M 300 i131 v3.toNatClampNeg) + v4) (mL M 300 i130) ∧ w_Model_want this (mI M 300 i130 ((mI M 300 i131 v3.toNatClampNeg) + v4).toNatClampNeg) (fun M134 => (w_Model_listWants_L150 this Q n) v1 v2 v3 (v4 + (-1 : Int32)) M134) M)
def w_Model_listWants_j148 (this : Nat) (Q : Mem → Prop) (v1 : Int32) (v2 : Int32) (v3 : Int32) (s0 : Int32) (M : Mem) : Prop :=
  ∃ n135 : Nat, w_Model_listWants_L150 this Q n135 v1 v2 v3 s0 M
def w_Model_listWants_j147 (this : Nat) (Q : Mem → Prop) (v1 : Int32) (v2 : Int32) (v3 : Int32) (M : Mem) : Prop :=
  w_Model_listWants_j148 this Q v1 v2 v3 (-1 : Int32) M
def w_Model_listWants_j123 (this : Nat) (Q : Mem → Prop) (v1 : Int32) (v2 : Int32) (s0 : Int32) (M : Mem) : Prop :=
  if v1 < (50 : Int32) then (w_Model_listWants_j147 this Q v1 v2 s0 M) else (if (53 : Int32) < v1 then (w_Model_listWants_j147 this Q v1 v2 s0 M) else (∃ i137, (mR M 11 this 31) = some (300, i137) ∧ vp_in s0 (mL M 300 i137) ∧ w_Model_listWants_j148 this Q v1 v2 s0 ((mI M 300 i137 s0.toNatClampNeg) - (1 : Int32)) M))
def w_Model_listWants_j122 (this : Nat) (Q : Mem → Prop) (v1 : Int32) (v2 : Int32) (M : Mem) : Prop :=
  w_Model_listWants_j123 this Q v1 v2 (0 : Int32) M
def w_Model_listWants_j98 (this : Nat) (Q : Mem → Prop) (v1 : Int32) (v2 : Int32) (M : Mem) : Prop :=
  if v1 < (50 : Int32) then (w_Model_listWants_j122 this Q v1 v2 M) else (if (53 : Int32) < v1 then (w_Model_listWants_j122 this Q v1 v2 M) else (∃ i140, (mR M 11 this 45) = some (12, i140) ∧ ∃ i141, (mR M 12 i140 33) = some (300, i141) ∧ vp_in v2 (mL M 300 i141) ∧ w_Model_listWants_j123 this Q v1 v2 (mI M 300 i141 v2.toNatClampNeg) M))
def w_Model_listWants_j46 (this : Nat) (Q : Mem → Prop) (v1 : Int32) (v2 : Int32) (M : Mem) : Prop :=
  if v1 = (40 : Int32) then (w_Model_listWants_j69 this Q  M) else (if v1 = (5 : Int32) then (w_Model_listWants_j69 this Q  M) else (if v1 = (42 : Int32) then (w_Model_listWants_j69 this Q  M) else (if v1 = (58 : Int32) then (w_Model_listWants_j69 this Q  M) else (if v1 < (30 : Int32) then (w_Model_listWants_j98 this Q v1 v2 M) else (if (35 : Int32) < v1 then (w_Model_listWants_j98 this Q v1 v2 M) else (w_Model_want this (1 : Int32) (fun M144 => w_Model_want this (1 : Int32) (fun M145 => Q M145) M144) M))))))
def w_Model_listWants_j34 (this : Nat) (Q : Mem → Prop) (v1 : Int32) (v2 : Int32) (M : Mem) : Prop :=
  if v1 < (24 : Int32) then (w_Model_listWants_j46 this Q v1 v2 M) else (if v1 ≤ (29 : Int32) then (w_Model_listWants_j69 this Q  M) else (w_Model_listWants_j46 this Q v1 v2 M))
def w_Model_listWants (this : Nat) (a1 : Int32) (a2 : Int32) (Q : Mem → Prop) (M : Mem) : Prop :=
  if a1 < (8 : Int32) then (w_Model_listWants_j34 this Q a1 a2 (sI M 11 this 79 (0 : Int32))) else (if (18 : Int32) < a1 then (w_Model_listWants_j34 this Q a1 a2 (sI M 11 this 79 (0 : Int32))) else (w_Model_want this (1 : Int32) (fun M148 => if a1 = (13 : Int32) then (Q M148) else (w_Model_want this (1 : Int32) (fun M150 => Q M150) M148)) (sI M 11 this 79 (0 : Int32))))
set_option maxRecDepth 4096 in
theorem lk_Model_listWants_j69 {γ : Gm} (hγ : Gk γ) (this : Nat) (Q : Mem → Prop)  (M : Mem) (h : w_Model_listWants_j69 this Q  M) : E γ k_Model_listWants 1 69 [some (vr (some (11, this))), none, none, none, none] [] M (Qv Q) := by
  unfold w_Model_listWants_j69 at h
  refine E_blk (lv' := [some (vr (some (11, this))), none, none, none, none]) (st' := [vi (1 : Int32), vr (some (11, this))]) (M1 := M) (pc' := 71) (tb_Model hγ) [.aload_n 0, .iconst 1] (by decide +kernel) rfl rfl trivial ?_
  refine E_callV (κ' := k_Model_want) (As := [vi (1 : Int32)]) (st := []) mv_Model_want (Or.inl (tbk_mem (j := 15) (k := 225) rfl)) rfl (by decide +kernel) (Nat.le_of_ble_eq_true rfl) (Nat.le_of_ble_eq_true rfl) rfl (by decide) (lk_Model_want hγ this (1 : Int32) _ M h) (fun _ _ => Qv_r) (fun v M4 hp => Qv_k (R := fun st => E γ k_Model_listWants 1 74 [some (vr (some (11, this))), none, none, none, none] st M4 (Qv Q)) hp (fun h => ?_))
  exact E_vret rfl (by decide +kernel) h
set_option maxRecDepth 4096 in
theorem lk_Model_listWants_j694 {γ : Gm} (hγ : Gk γ) (this : Nat) (Q : Mem → Prop) (s0 : Int32) (M : Mem) (h : w_Model_listWants_j694 this Q s0 M) : E γ k_Model_listWants 1 694 [none, none, none, none, none] [vi s0, vr (some (11, this))] M (Qv Q) := by
  unfold w_Model_listWants_j694 at h
  refine E_callV (κ' := k_Model_want) (As := [vi s0]) (st := []) mv_Model_want (Or.inl (tbk_mem (j := 15) (k := 225) rfl)) rfl (by decide +kernel) (Nat.le_of_ble_eq_true rfl) (Nat.le_of_ble_eq_true rfl) rfl (by decide) (lk_Model_want hγ this s0 _ M h) (fun _ _ => Qv_r) (fun v M76 hp => Qv_k (R := fun st => E γ k_Model_listWants 1 697 [none, none, none, none, none] st M76 (Qv Q)) hp (fun h => ?_))
  refine E_goto (off := 3) (tgt := 700) (by decide +kernel) (by decide) ?_
  exact E_vret rfl (by decide +kernel) h
set_option maxRecDepth 4096 in
theorem lk_Model_listWants_j639 {γ : Gm} (hγ : Gk γ) (this : Nat) (Q : Mem → Prop) (s0 : Int32) (M : Mem) (h : w_Model_listWants_j639 this Q s0 M) : E γ k_Model_listWants 1 639 [none, none, none, none, none] [vi s0, vr (some (11, this))] M (Qv Q) := by
  unfold w_Model_listWants_j639 at h
  refine E_callV (κ' := k_Model_want) (As := [vi s0]) (st := []) mv_Model_want (Or.inl (tbk_mem (j := 15) (k := 225) rfl)) rfl (by decide +kernel) (Nat.le_of_ble_eq_true rfl) (Nat.le_of_ble_eq_true rfl) rfl (by decide) (lk_Model_want hγ this s0 _ M h) (fun _ _ => Qv_r) (fun v M88 hp => Qv_k (R := fun st => E γ k_Model_listWants 1 642 [none, none, none, none, none] st M88 (Qv Q)) hp (fun h => ?_))
  refine E_goto (off := 58) (tgt := 700) (by decide +kernel) (by decide) ?_
  exact E_vret rfl (by decide +kernel) h
set_option maxRecDepth 4096 in
theorem lk_Model_listWants_L150 {γ : Gm} (hγ : Gk γ) (this : Nat) (Q : Mem → Prop) : ∀ (n : Nat) (v1 : Int32) (v2 : Int32) (v3 : Int32) (v4 : Int32) (M : Mem), w_Model_listWants_L150 this Q n v1 v2 v3 v4 M → E γ k_Model_listWants 1 150 [some (vr (some (11, this))), some (vi v1), some (vi v2), some (vi v3), some (vi v4)] [] M (Qv Q) := by
  intro n
  induction n with
  | zero => intro v1 v2 v3 v4 M h; exact h.elim
  | succ n ih =>
    intro v1 v2 v3 v4 M h
    unfold w_Model_listWants_L150 at h
    refine E_blk (lv' := [some (vr (some (11, this))), some (vi v1), some (vi v2), some (vi v3), some (vi v4)]) (st' := [vi v4]) (M1 := M) (pc' := 152) (tb_Model hγ) [.iload 4] (by decide +kernel) rfl rfl trivial ?_
    refine E_if_lt (off := 27) (tgt := 179) (by decide +kernel) (by decide) (fun b11 => ?_) (fun b11 => ?_)
    · rw [if_pos b11] at h
      refine E_blk (lv' := [some (vr (some (11, this))), some (vi v1), some (vi v2), some (vi v3), some (vi v4)]) (st' := [vi v1]) (M1 := M) (pc' := 180) (tb_Model hγ) [.iload_n 1] (by decide +kernel) rfl rfl trivial ?_
      by_cases b12 : v1 = (6 : Int32)
      · rw [if_pos b12] at h
        refine E.up (fun _ _ hJ => J_tswI (len := 240) (dflt := 520) (lo := 6) (hi := 61) (offs := #[240, 520, 520, 520, 520, 520, 520, 520, 520, 520, 520, 520, 520, 249, 249, 258, 258, 520, 520, 520, 520, 520, 520, 520, 520, 520, 520, 520, 520, 520, 288, 288, 273, 273, 520, 520, 520, 297, 310, 328, 336, 355, 520, 387, 403, 422, 520, 403, 288, 288, 465, 520, 520, 481, 288, 288]) (off := 240) (tgt := 420) (by decide +kernel) (by rw [b12]; decide) (by rw [b12]; decide) (by rw [b12]; rfl) (by decide) hJ) ?_
        refine E_blk (lv' := [some (vr (some (11, this))), some (vi v1), some (vi v2), some (vi v3), some (vi v4)]) (st' := [vi (7 : Int32), vr (some (11, this))]) (M1 := M) (pc' := 423) (tb_Model hγ) [.aload_n 0, .bipush 7] (by decide +kernel) rfl rfl trivial ?_
        refine E_callV (κ' := k_Model_want) (As := [vi (7 : Int32)]) (st := []) mv_Model_want (Or.inl (tbk_mem (j := 15) (k := 225) rfl)) rfl (by decide +kernel) (Nat.le_of_ble_eq_true rfl) (Nat.le_of_ble_eq_true rfl) rfl (by decide) (lk_Model_want hγ this (7 : Int32) _ M h) (fun _ _ => Qv_r) (fun v M129 hp => Qv_k (R := fun st => E γ k_Model_listWants 1 426 [some (vr (some (11, this))), some (vi v1), some (vi v2), some (vi v3), some (vi v4)] st M129 (Qv Q)) hp (fun h => ?_))
        refine E_goto (off := 274) (tgt := 700) (by decide +kernel) (by decide) ?_
        exact E_vret rfl (by decide +kernel) h
      · rw [if_neg b12] at h
        by_cases b13 : v1 = (7 : Int32)
        · rw [if_pos b13] at h
          refine E.up (fun _ _ hJ => J_tswI (len := 240) (dflt := 520) (lo := 6) (hi := 61) (offs := #[240, 520, 520, 520, 520, 520, 520, 520, 520, 520, 520, 520, 520, 249, 249, 258, 258, 520, 520, 520, 520, 520, 520, 520, 520, 520, 520, 520, 520, 520, 288, 288, 273, 273, 520, 520, 520, 297, 310, 328, 336, 355, 520, 387, 403, 422, 520, 403, 288, 288, 465, 520, 520, 481, 288, 288]) (off := 520) (tgt := 700) (by decide +kernel) (by rw [b13]; decide) (by rw [b13]; decide) (by rw [b13]; rfl) (by decide) hJ) ?_
          exact E_vret rfl (by decide +kernel) h
        · rw [if_neg b13] at h
          by_cases b14 : v1 = (8 : Int32)
          · rw [if_pos b14] at h
            refine E.up (fun _ _ hJ => J_tswI (len := 240) (dflt := 520) (lo := 6) (hi := 61) (offs := #[240, 520, 520, 520, 520, 520, 520, 520, 520, 520, 520, 520, 520, 249, 249, 258, 258, 520, 520, 520, 520, 520, 520, 520, 520, 520, 520, 520, 520, 520, 288, 288, 273, 273, 520, 520, 520, 297, 310, 328, 336, 355, 520, 387, 403, 422, 520, 403, 288, 288, 465, 520, 520, 481, 288, 288]) (off := 520) (tgt := 700) (by decide +kernel) (by rw [b14]; decide) (by rw [b14]; decide) (by rw [b14]; rfl) (by decide) hJ) ?_
            exact E_vret rfl (by decide +kernel) h
          · rw [if_neg b14] at h
            by_cases b15 : v1 = (9 : Int32)
            · rw [if_pos b15] at h
              refine E.up (fun _ _ hJ => J_tswI (len := 240) (dflt := 520) (lo := 6) (hi := 61) (offs := #[240, 520, 520, 520, 520, 520, 520, 520, 520, 520, 520, 520, 520, 249, 249, 258, 258, 520, 520, 520, 520, 520, 520, 520, 520, 520, 520, 520, 520, 520, 288, 288, 273, 273, 520, 520, 520, 297, 310, 328, 336, 355, 520, 387, 403, 422, 520, 403, 288, 288, 465, 520, 520, 481, 288, 288]) (off := 520) (tgt := 700) (by decide +kernel) (by rw [b15]; decide) (by rw [b15]; decide) (by rw [b15]; rfl) (by decide) hJ) ?_
              exact E_vret rfl (by decide +kernel) h
            · rw [if_neg b15] at h
              by_cases b16 : v1 = (10 : Int32)
              · rw [if_pos b16] at h
                refine E.up (fun _ _ hJ => J_tswI (len := 240) (dflt := 520) (lo := 6) (hi := 61) (offs := #[240, 520, 520, 520, 520, 520, 520, 520, 520, 520, 520, 520, 520, 249, 249, 258, 258, 520, 520, 520, 520, 520, 520, 520, 520, 520, 520, 520, 520, 520, 288, 288, 273, 273, 520, 520, 520, 297, 310, 328, 336, 355, 520, 387, 403, 422, 520, 403, 288, 288, 465, 520, 520, 481, 288, 288]) (off := 520) (tgt := 700) (by decide +kernel) (by rw [b16]; decide) (by rw [b16]; decide) (by rw [b16]; rfl) (by decide) hJ) ?_
                exact E_vret rfl (by decide +kernel) h
              · rw [if_neg b16] at h
                by_cases b17 : v1 = (11 : Int32)
                · rw [if_pos b17] at h
                  refine E.up (fun _ _ hJ => J_tswI (len := 240) (dflt := 520) (lo := 6) (hi := 61) (offs := #[240, 520, 520, 520, 520, 520, 520, 520, 520, 520, 520, 520, 520, 249, 249, 258, 258, 520, 520, 520, 520, 520, 520, 520, 520, 520, 520, 520, 520, 520, 288, 288, 273, 273, 520, 520, 520, 297, 310, 328, 336, 355, 520, 387, 403, 422, 520, 403, 288, 288, 465, 520, 520, 481, 288, 288]) (off := 520) (tgt := 700) (by decide +kernel) (by rw [b17]; decide) (by rw [b17]; decide) (by rw [b17]; rfl) (by decide) hJ) ?_
                  exact E_vret rfl (by decide +kernel) h
                · rw [if_neg b17] at h
                  by_cases b18 : v1 = (12 : Int32)
                  · rw [if_pos b18] at h
                    refine E.up (fun _ _ hJ => J_tswI (len := 240) (dflt := 520) (lo := 6) (hi := 61) (offs := #[240, 520, 520, 520, 520, 520, 520, 520, 520, 520, 520, 520, 520, 249, 249, 258, 258, 520, 520, 520, 520, 520, 520, 520, 520, 520, 520, 520, 520, 520, 288, 288, 273, 273, 520, 520, 520, 297, 310, 328, 336, 355, 520, 387, 403, 422, 520, 403, 288, 288, 465, 520, 520, 481, 288, 288]) (off := 520) (tgt := 700) (by decide +kernel) (by rw [b18]; decide) (by rw [b18]; decide) (by rw [b18]; rfl) (by decide) hJ) ?_
                    exact E_vret rfl (by decide +kernel) h
                  · rw [if_neg b18] at h
                    by_cases b19 : v1 = (13 : Int32)
                    · rw [if_pos b19] at h
                      refine E.up (fun _ _ hJ => J_tswI (len := 240) (dflt := 520) (lo := 6) (hi := 61) (offs := #[240, 520, 520, 520, 520, 520, 520, 520, 520, 520, 520, 520, 520, 249, 249, 258, 258, 520, 520, 520, 520, 520, 520, 520, 520, 520, 520, 520, 520, 520, 288, 288, 273, 273, 520, 520, 520, 297, 310, 328, 336, 355, 520, 387, 403, 422, 520, 403, 288, 288, 465, 520, 520, 481, 288, 288]) (off := 520) (tgt := 700) (by decide +kernel) (by rw [b19]; decide) (by rw [b19]; decide) (by rw [b19]; rfl) (by decide) hJ) ?_
                      exact E_vret rfl (by decide +kernel) h
                    · rw [if_neg b19] at h
                      by_cases b20 : v1 = (14 : Int32)
                      · rw [if_pos b20] at h
                        refine E.up (fun _ _ hJ => J_tswI (len := 240) (dflt := 520) (lo := 6) (hi := 61) (offs := #[240, 520, 520, 520, 520, 520, 520, 520, 520, 520, 520, 520, 520, 249, 249, 258, 258, 520, 520, 520, 520, 520, 520, 520, 520, 520, 520, 520, 520, 520, 288, 288, 273, 273, 520, 520, 520, 297, 310, 328, 336, 355, 520, 387, 403, 422, 520, 403, 288, 288, 465, 520, 520, 481, 288, 288]) (off := 520) (tgt := 700) (by decide +kernel) (by rw [b20]; decide) (by rw [b20]; decide) (by rw [b20]; rfl) (by decide) hJ) ?_
                        exact E_vret rfl (by decide +kernel) h
                      · rw [if_neg b20] at h
                        by_cases b21 : v1 = (15 : Int32)
                        · rw [if_pos b21] at h
                          refine E.up (fun _ _ hJ => J_tswI (len := 240) (dflt := 520) (lo := 6) (hi := 61) (offs := #[240, 520, 520, 520, 520, 520, 520, 520, 520, 520, 520, 520, 520, 249, 249, 258, 258, 520, 520, 520, 520, 520, 520, 520, 520, 520, 520, 520, 520, 520, 288, 288, 273, 273, 520, 520, 520, 297, 310, 328, 336, 355, 520, 387, 403, 422, 520, 403, 288, 288, 465, 520, 520, 481, 288, 288]) (off := 520) (tgt := 700) (by decide +kernel) (by rw [b21]; decide) (by rw [b21]; decide) (by rw [b21]; rfl) (by decide) hJ) ?_
                          exact E_vret rfl (by decide +kernel) h
                        · rw [if_neg b21] at h
                          by_cases b22 : v1 = (16 : Int32)
                          · rw [if_pos b22] at h
                            refine E.up (fun _ _ hJ => J_tswI (len := 240) (dflt := 520) (lo := 6) (hi := 61) (offs := #[240, 520, 520, 520, 520, 520, 520, 520, 520, 520, 520, 520, 520, 249, 249, 258, 258, 520, 520, 520, 520, 520, 520, 520, 520, 520, 520, 520, 520, 520, 288, 288, 273, 273, 520, 520, 520, 297, 310, 328, 336, 355, 520, 387, 403, 422, 520, 403, 288, 288, 465, 520, 520, 481, 288, 288]) (off := 520) (tgt := 700) (by decide +kernel) (by rw [b22]; decide) (by rw [b22]; decide) (by rw [b22]; rfl) (by decide) hJ) ?_
                            exact E_vret rfl (by decide +kernel) h
                          · rw [if_neg b22] at h
                            by_cases b23 : v1 = (17 : Int32)
                            · rw [if_pos b23] at h
                              refine E.up (fun _ _ hJ => J_tswI (len := 240) (dflt := 520) (lo := 6) (hi := 61) (offs := #[240, 520, 520, 520, 520, 520, 520, 520, 520, 520, 520, 520, 520, 249, 249, 258, 258, 520, 520, 520, 520, 520, 520, 520, 520, 520, 520, 520, 520, 520, 288, 288, 273, 273, 520, 520, 520, 297, 310, 328, 336, 355, 520, 387, 403, 422, 520, 403, 288, 288, 465, 520, 520, 481, 288, 288]) (off := 520) (tgt := 700) (by decide +kernel) (by rw [b23]; decide) (by rw [b23]; decide) (by rw [b23]; rfl) (by decide) hJ) ?_
                              exact E_vret rfl (by decide +kernel) h
                            · rw [if_neg b23] at h
                              by_cases b24 : v1 = (18 : Int32)
                              · rw [if_pos b24] at h
                                refine E.up (fun _ _ hJ => J_tswI (len := 240) (dflt := 520) (lo := 6) (hi := 61) (offs := #[240, 520, 520, 520, 520, 520, 520, 520, 520, 520, 520, 520, 520, 249, 249, 258, 258, 520, 520, 520, 520, 520, 520, 520, 520, 520, 520, 520, 520, 520, 288, 288, 273, 273, 520, 520, 520, 297, 310, 328, 336, 355, 520, 387, 403, 422, 520, 403, 288, 288, 465, 520, 520, 481, 288, 288]) (off := 520) (tgt := 700) (by decide +kernel) (by rw [b24]; decide) (by rw [b24]; decide) (by rw [b24]; rfl) (by decide) hJ) ?_
                                exact E_vret rfl (by decide +kernel) h
                              · rw [if_neg b24] at h
                                by_cases b25 : v1 = (19 : Int32)
                                · rw [if_pos b25] at h
                                  refine E.up (fun _ _ hJ => J_tswI (len := 240) (dflt := 520) (lo := 6) (hi := 61) (offs := #[240, 520, 520, 520, 520, 520, 520, 520, 520, 520, 520, 520, 520, 249, 249, 258, 258, 520, 520, 520, 520, 520, 520, 520, 520, 520, 520, 520, 520, 520, 288, 288, 273, 273, 520, 520, 520, 297, 310, 328, 336, 355, 520, 387, 403, 422, 520, 403, 288, 288, 465, 520, 520, 481, 288, 288]) (off := 249) (tgt := 429) (by decide +kernel) (by rw [b25]; decide) (by rw [b25]; decide) (by rw [b25]; rfl) (by decide) hJ) ?_
                                  refine E_blk (lv' := [some (vr (some (11, this))), some (vi v1), some (vi v2), some (vi v3), some (vi v4)]) (st' := [vi (8 : Int32), vr (some (11, this))]) (M1 := M) (pc' := 432) (tb_Model hγ) [.aload_n 0, .bipush 8] (by decide +kernel) rfl rfl trivial ?_
                                  refine E_callV (κ' := k_Model_want) (As := [vi (8 : Int32)]) (st := []) mv_Model_want (Or.inl (tbk_mem (j := 15) (k := 225) rfl)) rfl (by decide +kernel) (Nat.le_of_ble_eq_true rfl) (Nat.le_of_ble_eq_true rfl) rfl (by decide) (lk_Model_want hγ this (8 : Int32) _ M h) (fun _ _ => Qv_r) (fun v M128 hp => Qv_k (R := fun st => E γ k_Model_listWants 1 435 [some (vr (some (11, this))), some (vi v1), some (vi v2), some (vi v3), some (vi v4)] st M128 (Qv Q)) hp (fun h => ?_))
                                  refine E_goto (off := 265) (tgt := 700) (by decide +kernel) (by decide) ?_
                                  exact E_vret rfl (by decide +kernel) h
                                · rw [if_neg b25] at h
                                  by_cases b26 : v1 = (20 : Int32)
                                  · rw [if_pos b26] at h
                                    refine E.up (fun _ _ hJ => J_tswI (len := 240) (dflt := 520) (lo := 6) (hi := 61) (offs := #[240, 520, 520, 520, 520, 520, 520, 520, 520, 520, 520, 520, 520, 249, 249, 258, 258, 520, 520, 520, 520, 520, 520, 520, 520, 520, 520, 520, 520, 520, 288, 288, 273, 273, 520, 520, 520, 297, 310, 328, 336, 355, 520, 387, 403, 422, 520, 403, 288, 288, 465, 520, 520, 481, 288, 288]) (off := 249) (tgt := 429) (by decide +kernel) (by rw [b26]; decide) (by rw [b26]; decide) (by rw [b26]; rfl) (by decide) hJ) ?_
                                    refine E_blk (lv' := [some (vr (some (11, this))), some (vi v1), some (vi v2), some (vi v3), some (vi v4)]) (st' := [vi (8 : Int32), vr (some (11, this))]) (M1 := M) (pc' := 432) (tb_Model hγ) [.aload_n 0, .bipush 8] (by decide +kernel) rfl rfl trivial ?_
                                    refine E_callV (κ' := k_Model_want) (As := [vi (8 : Int32)]) (st := []) mv_Model_want (Or.inl (tbk_mem (j := 15) (k := 225) rfl)) rfl (by decide +kernel) (Nat.le_of_ble_eq_true rfl) (Nat.le_of_ble_eq_true rfl) rfl (by decide) (lk_Model_want hγ this (8 : Int32) _ M h) (fun _ _ => Qv_r) (fun v M127 hp => Qv_k (R := fun st => E γ k_Model_listWants 1 435 [some (vr (some (11, this))), some (vi v1), some (vi v2), some (vi v3), some (vi v4)] st M127 (Qv Q)) hp (fun h => ?_))
                                    refine E_goto (off := 265) (tgt := 700) (by decide +kernel) (by decide) ?_
                                    exact E_vret rfl (by decide +kernel) h
                                  · rw [if_neg b26] at h
                                    by_cases b27 : v1 = (21 : Int32)
                                    · rw [if_pos b27] at h
                                      refine E.up (fun _ _ hJ => J_tswI (len := 240) (dflt := 520) (lo := 6) (hi := 61) (offs := #[240, 520, 520, 520, 520, 520, 520, 520, 520, 520, 520, 520, 520, 249, 249, 258, 258, 520, 520, 520, 520, 520, 520, 520, 520, 520, 520, 520, 520, 520, 288, 288, 273, 273, 520, 520, 520, 297, 310, 328, 336, 355, 520, 387, 403, 422, 520, 403, 288, 288, 465, 520, 520, 481, 288, 288]) (off := 258) (tgt := 438) (by decide +kernel) (by rw [b27]; decide) (by rw [b27]; decide) (by rw [b27]; rfl) (by decide) hJ) ?_
                                      refine E_blk (lv' := [some (vr (some (11, this))), some (vi v1), some (vi v2), some (vi v3), some (vi v4)]) (st' := [vi (8 : Int32), vr (some (11, this))]) (M1 := M) (pc' := 441) (tb_Model hγ) [.aload_n 0, .bipush 8] (by decide +kernel) rfl rfl trivial ?_
                                      refine E_callV (κ' := k_Model_want) (As := [vi (8 : Int32)]) (st := []) mv_Model_want (Or.inl (tbk_mem (j := 15) (k := 225) rfl)) rfl (by decide +kernel) (Nat.le_of_ble_eq_true rfl) (Nat.le_of_ble_eq_true rfl) rfl (by decide) (lk_Model_want hγ this (8 : Int32) _ M h) (fun _ _ => Qv_r) (fun v M125 hp => Qv_k (R := fun st => E γ k_Model_listWants 1 444 [some (vr (some (11, this))), some (vi v1), some (vi v2), some (vi v3), some (vi v4)] st M125 (Qv Q)) hp (fun h => ?_))
                                      refine E_blk (lv' := [some (vr (some (11, this))), some (vi v1), some (vi v2), some (vi v3), some (vi v4)]) (st' := [vi (8 : Int32), vr (some (11, this))]) (M1 := M125) (pc' := 447) (tb_Model hγ) [.aload_n 0, .bipush 8] (by decide +kernel) rfl rfl trivial ?_
                                      refine E_callV (κ' := k_Model_want) (As := [vi (8 : Int32)]) (st := []) mv_Model_want (Or.inl (tbk_mem (j := 15) (k := 225) rfl)) rfl (by decide +kernel) (Nat.le_of_ble_eq_true rfl) (Nat.le_of_ble_eq_true rfl) rfl (by decide) (lk_Model_want hγ this (8 : Int32) _ M125 h) (fun _ _ => Qv_r) (fun v M126 hp => Qv_k (R := fun st => E γ k_Model_listWants 1 450 [some (vr (some (11, this))), some (vi v1), some (vi v2), some (vi v3), some (vi v4)] st M126 (Qv Q)) hp (fun h => ?_))
                                      refine E_goto (off := 250) (tgt := 700) (by decide +kernel) (by decide) ?_
                                      exact E_vret rfl (by decide +kernel) h
                                    · rw [if_neg b27] at h
                                      by_cases b28 : v1 = (22 : Int32)
                                      · rw [if_pos b28] at h
                                        refine E.up (fun _ _ hJ => J_tswI (len := 240) (dflt := 520) (lo := 6) (hi := 61) (offs := #[240, 520, 520, 520, 520, 520, 520, 520, 520, 520, 520, 520, 520, 249, 249, 258, 258, 520, 520, 520, 520, 520, 520, 520, 520, 520, 520, 520, 520, 520, 288, 288, 273, 273, 520, 520, 520, 297, 310, 328, 336, 355, 520, 387, 403, 422, 520, 403, 288, 288, 465, 520, 520, 481, 288, 288]) (off := 258) (tgt := 438) (by decide +kernel) (by rw [b28]; decide) (by rw [b28]; decide) (by rw [b28]; rfl) (by decide) hJ) ?_
                                        refine E_blk (lv' := [some (vr (some (11, this))), some (vi v1), some (vi v2), some (vi v3), some (vi v4)]) (st' := [vi (8 : Int32), vr (some (11, this))]) (M1 := M) (pc' := 441) (tb_Model hγ) [.aload_n 0, .bipush 8] (by decide +kernel) rfl rfl trivial ?_
                                        refine E_callV (κ' := k_Model_want) (As := [vi (8 : Int32)]) (st := []) mv_Model_want (Or.inl (tbk_mem (j := 15) (k := 225) rfl)) rfl (by decide +kernel) (Nat.le_of_ble_eq_true rfl) (Nat.le_of_ble_eq_true rfl) rfl (by decide) (lk_Model_want hγ this (8 : Int32) _ M h) (fun _ _ => Qv_r) (fun v M123 hp => Qv_k (R := fun st => E γ k_Model_listWants 1 444 [some (vr (some (11, this))), some (vi v1), some (vi v2), some (vi v3), some (vi v4)] st M123 (Qv Q)) hp (fun h => ?_))
                                        refine E_blk (lv' := [some (vr (some (11, this))), some (vi v1), some (vi v2), some (vi v3), some (vi v4)]) (st' := [vi (8 : Int32), vr (some (11, this))]) (M1 := M123) (pc' := 447) (tb_Model hγ) [.aload_n 0, .bipush 8] (by decide +kernel) rfl rfl trivial ?_
                                        refine E_callV (κ' := k_Model_want) (As := [vi (8 : Int32)]) (st := []) mv_Model_want (Or.inl (tbk_mem (j := 15) (k := 225) rfl)) rfl (by decide +kernel) (Nat.le_of_ble_eq_true rfl) (Nat.le_of_ble_eq_true rfl) rfl (by decide) (lk_Model_want hγ this (8 : Int32) _ M123 h) (fun _ _ => Qv_r) (fun v M124 hp => Qv_k (R := fun st => E γ k_Model_listWants 1 450 [some (vr (some (11, this))), some (vi v1), some (vi v2), some (vi v3), some (vi v4)] st M124 (Qv Q)) hp (fun h => ?_))
                                        refine E_goto (off := 250) (tgt := 700) (by decide +kernel) (by decide) ?_
                                        exact E_vret rfl (by decide +kernel) h
                                      · rw [if_neg b28] at h
                                        by_cases b29 : v1 = (23 : Int32)
                                        · rw [if_pos b29] at h
                                          refine E.up (fun _ _ hJ => J_tswI (len := 240) (dflt := 520) (lo := 6) (hi := 61) (offs := #[240, 520, 520, 520, 520, 520, 520, 520, 520, 520, 520, 520, 520, 249, 249, 258, 258, 520, 520, 520, 520, 520, 520, 520, 520, 520, 520, 520, 520, 520, 288, 288, 273, 273, 520, 520, 520, 297, 310, 328, 336, 355, 520, 387, 403, 422, 520, 403, 288, 288, 465, 520, 520, 481, 288, 288]) (off := 520) (tgt := 700) (by decide +kernel) (by rw [b29]; decide) (by rw [b29]; decide) (by rw [b29]; rfl) (by decide) hJ) ?_
                                          exact E_vret rfl (by decide +kernel) h
                                        · rw [if_neg b29] at h
                                          by_cases b30 : v1 = (24 : Int32)
                                          · rw [if_pos b30] at h
                                            refine E.up (fun _ _ hJ => J_tswI (len := 240) (dflt := 520) (lo := 6) (hi := 61) (offs := #[240, 520, 520, 520, 520, 520, 520, 520, 520, 520, 520, 520, 520, 249, 249, 258, 258, 520, 520, 520, 520, 520, 520, 520, 520, 520, 520, 520, 520, 520, 288, 288, 273, 273, 520, 520, 520, 297, 310, 328, 336, 355, 520, 387, 403, 422, 520, 403, 288, 288, 465, 520, 520, 481, 288, 288]) (off := 520) (tgt := 700) (by decide +kernel) (by rw [b30]; decide) (by rw [b30]; decide) (by rw [b30]; rfl) (by decide) hJ) ?_
                                            exact E_vret rfl (by decide +kernel) h
                                          · rw [if_neg b30] at h
                                            by_cases b31 : v1 = (25 : Int32)
                                            · rw [if_pos b31] at h
                                              refine E.up (fun _ _ hJ => J_tswI (len := 240) (dflt := 520) (lo := 6) (hi := 61) (offs := #[240, 520, 520, 520, 520, 520, 520, 520, 520, 520, 520, 520, 520, 249, 249, 258, 258, 520, 520, 520, 520, 520, 520, 520, 520, 520, 520, 520, 520, 520, 288, 288, 273, 273, 520, 520, 520, 297, 310, 328, 336, 355, 520, 387, 403, 422, 520, 403, 288, 288, 465, 520, 520, 481, 288, 288]) (off := 520) (tgt := 700) (by decide +kernel) (by rw [b31]; decide) (by rw [b31]; decide) (by rw [b31]; rfl) (by decide) hJ) ?_
                                              exact E_vret rfl (by decide +kernel) h
                                            · rw [if_neg b31] at h
                                              by_cases b32 : v1 = (26 : Int32)
                                              · rw [if_pos b32] at h
                                                refine E.up (fun _ _ hJ => J_tswI (len := 240) (dflt := 520) (lo := 6) (hi := 61) (offs := #[240, 520, 520, 520, 520, 520, 520, 520, 520, 520, 520, 520, 520, 249, 249, 258, 258, 520, 520, 520, 520, 520, 520, 520, 520, 520, 520, 520, 520, 520, 288, 288, 273, 273, 520, 520, 520, 297, 310, 328, 336, 355, 520, 387, 403, 422, 520, 403, 288, 288, 465, 520, 520, 481, 288, 288]) (off := 520) (tgt := 700) (by decide +kernel) (by rw [b32]; decide) (by rw [b32]; decide) (by rw [b32]; rfl) (by decide) hJ) ?_
                                                exact E_vret rfl (by decide +kernel) h
                                              · rw [if_neg b32] at h
                                                by_cases b33 : v1 = (27 : Int32)
                                                · rw [if_pos b33] at h
                                                  refine E.up (fun _ _ hJ => J_tswI (len := 240) (dflt := 520) (lo := 6) (hi := 61) (offs := #[240, 520, 520, 520, 520, 520, 520, 520, 520, 520, 520, 520, 520, 249, 249, 258, 258, 520, 520, 520, 520, 520, 520, 520, 520, 520, 520, 520, 520, 520, 288, 288, 273, 273, 520, 520, 520, 297, 310, 328, 336, 355, 520, 387, 403, 422, 520, 403, 288, 288, 465, 520, 520, 481, 288, 288]) (off := 520) (tgt := 700) (by decide +kernel) (by rw [b33]; decide) (by rw [b33]; decide) (by rw [b33]; rfl) (by decide) hJ) ?_
                                                  exact E_vret rfl (by decide +kernel) h
                                                · rw [if_neg b33] at h
                                                  by_cases b34 : v1 = (28 : Int32)
                                                  · rw [if_pos b34] at h
                                                    refine E.up (fun _ _ hJ => J_tswI (len := 240) (dflt := 520) (lo := 6) (hi := 61) (offs := #[240, 520, 520, 520, 520, 520, 520, 520, 520, 520, 520, 520, 520, 249, 249, 258, 258, 520, 520, 520, 520, 520, 520, 520, 520, 520, 520, 520, 520, 520, 288, 288, 273, 273, 520, 520, 520, 297, 310, 328, 336, 355, 520, 387, 403, 422, 520, 403, 288, 288, 465, 520, 520, 481, 288, 288]) (off := 520) (tgt := 700) (by decide +kernel) (by rw [b34]; decide) (by rw [b34]; decide) (by rw [b34]; rfl) (by decide) hJ) ?_
                                                    exact E_vret rfl (by decide +kernel) h
                                                  · rw [if_neg b34] at h
                                                    by_cases b35 : v1 = (29 : Int32)
                                                    · rw [if_pos b35] at h
                                                      refine E.up (fun _ _ hJ => J_tswI (len := 240) (dflt := 520) (lo := 6) (hi := 61) (offs := #[240, 520, 520, 520, 520, 520, 520, 520, 520, 520, 520, 520, 520, 249, 249, 258, 258, 520, 520, 520, 520, 520, 520, 520, 520, 520, 520, 520, 520, 520, 288, 288, 273, 273, 520, 520, 520, 297, 310, 328, 336, 355, 520, 387, 403, 422, 520, 403, 288, 288, 465, 520, 520, 481, 288, 288]) (off := 520) (tgt := 700) (by decide +kernel) (by rw [b35]; decide) (by rw [b35]; decide) (by rw [b35]; rfl) (by decide) hJ) ?_
                                                      exact E_vret rfl (by decide +kernel) h
                                                    · rw [if_neg b35] at h
                                                      by_cases b36 : v1 = (30 : Int32)
                                                      · rw [if_pos b36] at h
                                                        refine E.up (fun _ _ hJ => J_tswI (len := 240) (dflt := 520) (lo := 6) (hi := 61) (offs := #[240, 520, 520, 520, 520, 520, 520, 520, 520, 520, 520, 520, 520, 249, 249, 258, 258, 520, 520, 520, 520, 520, 520, 520, 520, 520, 520, 520, 520, 520, 288, 288, 273, 273, 520, 520, 520, 297, 310, 328, 336, 355, 520, 387, 403, 422, 520, 403, 288, 288, 465, 520, 520, 481, 288, 288]) (off := 520) (tgt := 700) (by decide +kernel) (by rw [b36]; decide) (by rw [b36]; decide) (by rw [b36]; rfl) (by decide) hJ) ?_
                                                        exact E_vret rfl (by decide +kernel) h
                                                      · rw [if_neg b36] at h
                                                        by_cases b37 : v1 = (31 : Int32)
                                                        · rw [if_pos b37] at h
                                                          refine E.up (fun _ _ hJ => J_tswI (len := 240) (dflt := 520) (lo := 6) (hi := 61) (offs := #[240, 520, 520, 520, 520, 520, 520, 520, 520, 520, 520, 520, 520, 249, 249, 258, 258, 520, 520, 520, 520, 520, 520, 520, 520, 520, 520, 520, 520, 520, 288, 288, 273, 273, 520, 520, 520, 297, 310, 328, 336, 355, 520, 387, 403, 422, 520, 403, 288, 288, 465, 520, 520, 481, 288, 288]) (off := 520) (tgt := 700) (by decide +kernel) (by rw [b37]; decide) (by rw [b37]; decide) (by rw [b37]; rfl) (by decide) hJ) ?_
                                                          exact E_vret rfl (by decide +kernel) h
                                                        · rw [if_neg b37] at h
                                                          by_cases b38 : v1 = (32 : Int32)
                                                          · rw [if_pos b38] at h
                                                            refine E.up (fun _ _ hJ => J_tswI (len := 240) (dflt := 520) (lo := 6) (hi := 61) (offs := #[240, 520, 520, 520, 520, 520, 520, 520, 520, 520, 520, 520, 520, 249, 249, 258, 258, 520, 520, 520, 520, 520, 520, 520, 520, 520, 520, 520, 520, 520, 288, 288, 273, 273, 520, 520, 520, 297, 310, 328, 336, 355, 520, 387, 403, 422, 520, 403, 288, 288, 465, 520, 520, 481, 288, 288]) (off := 520) (tgt := 700) (by decide +kernel) (by rw [b38]; decide) (by rw [b38]; decide) (by rw [b38]; rfl) (by decide) hJ) ?_
                                                            exact E_vret rfl (by decide +kernel) h
                                                          · rw [if_neg b38] at h
                                                            by_cases b39 : v1 = (33 : Int32)
                                                            · rw [if_pos b39] at h
                                                              refine E.up (fun _ _ hJ => J_tswI (len := 240) (dflt := 520) (lo := 6) (hi := 61) (offs := #[240, 520, 520, 520, 520, 520, 520, 520, 520, 520, 520, 520, 520, 249, 249, 258, 258, 520, 520, 520, 520, 520, 520, 520, 520, 520, 520, 520, 520, 520, 288, 288, 273, 273, 520, 520, 520, 297, 310, 328, 336, 355, 520, 387, 403, 422, 520, 403, 288, 288, 465, 520, 520, 481, 288, 288]) (off := 520) (tgt := 700) (by decide +kernel) (by rw [b39]; decide) (by rw [b39]; decide) (by rw [b39]; rfl) (by decide) hJ) ?_
                                                              exact E_vret rfl (by decide +kernel) h
                                                            · rw [if_neg b39] at h
                                                              by_cases b40 : v1 = (34 : Int32)
                                                              · rw [if_pos b40] at h
                                                                refine E.up (fun _ _ hJ => J_tswI (len := 240) (dflt := 520) (lo := 6) (hi := 61) (offs := #[240, 520, 520, 520, 520, 520, 520, 520, 520, 520, 520, 520, 520, 249, 249, 258, 258, 520, 520, 520, 520, 520, 520, 520, 520, 520, 520, 520, 520, 520, 288, 288, 273, 273, 520, 520, 520, 297, 310, 328, 336, 355, 520, 387, 403, 422, 520, 403, 288, 288, 465, 520, 520, 481, 288, 288]) (off := 520) (tgt := 700) (by decide +kernel) (by rw [b40]; decide) (by rw [b40]; decide) (by rw [b40]; rfl) (by decide) hJ) ?_
                                                                exact E_vret rfl (by decide +kernel) h
                                                              · rw [if_neg b40] at h
                                                                by_cases b41 : v1 = (35 : Int32)
                                                                · rw [if_pos b41] at h
                                                                  refine E.up (fun _ _ hJ => J_tswI (len := 240) (dflt := 520) (lo := 6) (hi := 61) (offs := #[240, 520, 520, 520, 520, 520, 520, 520, 520, 520, 520, 520, 520, 249, 249, 258, 258, 520, 520, 520, 520, 520, 520, 520, 520, 520, 520, 520, 520, 520, 288, 288, 273, 273, 520, 520, 520, 297, 310, 328, 336, 355, 520, 387, 403, 422, 520, 403, 288, 288, 465, 520, 520, 481, 288, 288]) (off := 520) (tgt := 700) (by decide +kernel) (by rw [b41]; decide) (by rw [b41]; decide) (by rw [b41]; rfl) (by decide) hJ) ?_
                                                                  exact E_vret rfl (by decide +kernel) h
                                                                · rw [if_neg b41] at h
                                                                  by_cases b42 : v1 = (36 : Int32)
                                                                  · rw [if_pos b42] at h
                                                                    refine E.up (fun _ _ hJ => J_tswI (len := 240) (dflt := 520) (lo := 6) (hi := 61) (offs := #[240, 520, 520, 520, 520, 520, 520, 520, 520, 520, 520, 520, 520, 249, 249, 258, 258, 520, 520, 520, 520, 520, 520, 520, 520, 520, 520, 520, 520, 520, 288, 288, 273, 273, 520, 520, 520, 297, 310, 328, 336, 355, 520, 387, 403, 422, 520, 403, 288, 288, 465, 520, 520, 481, 288, 288]) (off := 288) (tgt := 468) (by decide +kernel) (by rw [b42]; decide) (by rw [b42]; decide) (by rw [b42]; rfl) (by decide) hJ) ?_
                                                                    refine E_blk (lv' := [some (vr (some (11, this))), some (vi v1), some (vi v2), some (vi v3), some (vi v4)]) (st' := [vi (6 : Int32), vr (some (11, this))]) (M1 := M) (pc' := 471) (tb_Model hγ) [.aload_n 0, .bipush 6] (by decide +kernel) rfl rfl trivial ?_
                                                                    refine E_callV (κ' := k_Model_want) (As := [vi (6 : Int32)]) (st := []) mv_Model_want (Or.inl (tbk_mem (j := 15) (k := 225) rfl)) rfl (by decide +kernel) (Nat.le_of_ble_eq_true rfl) (Nat.le_of_ble_eq_true rfl) rfl (by decide) (lk_Model_want hγ this (6 : Int32) _ M h) (fun _ _ => Qv_r) (fun v M122 hp => Qv_k (R := fun st => E γ k_Model_listWants 1 474 [some (vr (some (11, this))), some (vi v1), some (vi v2), some (vi v3), some (vi v4)] st M122 (Qv Q)) hp (fun h => ?_))
                                                                    refine E_goto (off := 226) (tgt := 700) (by decide +kernel) (by decide) ?_
                                                                    exact E_vret rfl (by decide +kernel) h
                                                                  · rw [if_neg b42] at h
                                                                    by_cases b43 : v1 = (37 : Int32)
                                                                    · rw [if_pos b43] at h
                                                                      refine E.up (fun _ _ hJ => J_tswI (len := 240) (dflt := 520) (lo := 6) (hi := 61) (offs := #[240, 520, 520, 520, 520, 520, 520, 520, 520, 520, 520, 520, 520, 249, 249, 258, 258, 520, 520, 520, 520, 520, 520, 520, 520, 520, 520, 520, 520, 520, 288, 288, 273, 273, 520, 520, 520, 297, 310, 328, 336, 355, 520, 387, 403, 422, 520, 403, 288, 288, 465, 520, 520, 481, 288, 288]) (off := 288) (tgt := 468) (by decide +kernel) (by rw [b43]; decide) (by rw [b43]; decide) (by rw [b43]; rfl) (by decide) hJ) ?_
                                                                      refine E_blk (lv' := [some (vr (some (11, this))), some (vi v1), some (vi v2), some (vi v3), some (vi v4)]) (st' := [vi (6 : Int32), vr (some (11, this))]) (M1 := M) (pc' := 471) (tb_Model hγ) [.aload_n 0, .bipush 6] (by decide +kernel) rfl rfl trivial ?_
                                                                      refine E_callV (κ' := k_Model_want) (As := [vi (6 : Int32)]) (st := []) mv_Model_want (Or.inl (tbk_mem (j := 15) (k := 225) rfl)) rfl (by decide +kernel) (Nat.le_of_ble_eq_true rfl) (Nat.le_of_ble_eq_true rfl) rfl (by decide) (lk_Model_want hγ this (6 : Int32) _ M h) (fun _ _ => Qv_r) (fun v M121 hp => Qv_k (R := fun st => E γ k_Model_listWants 1 474 [some (vr (some (11, this))), some (vi v1), some (vi v2), some (vi v3), some (vi v4)] st M121 (Qv Q)) hp (fun h => ?_))
                                                                      refine E_goto (off := 226) (tgt := 700) (by decide +kernel) (by decide) ?_
                                                                      exact E_vret rfl (by decide +kernel) h
                                                                    · rw [if_neg b43] at h
                                                                      by_cases b44 : v1 = (38 : Int32)
                                                                      · rw [if_pos b44] at h
                                                                        refine E.up (fun _ _ hJ => J_tswI (len := 240) (dflt := 520) (lo := 6) (hi := 61) (offs := #[240, 520, 520, 520, 520, 520, 520, 520, 520, 520, 520, 520, 520, 249, 249, 258, 258, 520, 520, 520, 520, 520, 520, 520, 520, 520, 520, 520, 520, 520, 288, 288, 273, 273, 520, 520, 520, 297, 310, 328, 336, 355, 520, 387, 403, 422, 520, 403, 288, 288, 465, 520, 520, 481, 288, 288]) (off := 273) (tgt := 453) (by decide +kernel) (by rw [b44]; decide) (by rw [b44]; decide) (by rw [b44]; rfl) (by decide) hJ) ?_
                                                                        refine E_blk (lv' := [some (vr (some (11, this))), some (vi v1), some (vi v2), some (vi v3), some (vi v4)]) (st' := [vi (6 : Int32), vr (some (11, this))]) (M1 := M) (pc' := 456) (tb_Model hγ) [.aload_n 0, .bipush 6] (by decide +kernel) rfl rfl trivial ?_
                                                                        refine E_callV (κ' := k_Model_want) (As := [vi (6 : Int32)]) (st := []) mv_Model_want (Or.inl (tbk_mem (j := 15) (k := 225) rfl)) rfl (by decide +kernel) (Nat.le_of_ble_eq_true rfl) (Nat.le_of_ble_eq_true rfl) rfl (by decide) (lk_Model_want hγ this (6 : Int32) _ M h) (fun _ _ => Qv_r) (fun v M119 hp => Qv_k (R := fun st => E γ k_Model_listWants 1 459 [some (vr (some (11, this))), some (vi v1), some (vi v2), some (vi v3), some (vi v4)] st M119 (Qv Q)) hp (fun h => ?_))
                                                                        refine E_blk (lv' := [some (vr (some (11, this))), some (vi v1), some (vi v2), some (vi v3), some (vi v4)]) (st' := [vi (6 : Int32), vr (some (11, this))]) (M1 := M119) (pc' := 462) (tb_Model hγ) [.aload_n 0, .bipush 6] (by decide +kernel) rfl rfl trivial ?_
                                                                        refine E_callV (κ' := k_Model_want) (As := [vi (6 : Int32)]) (st := []) mv_Model_want (Or.inl (tbk_mem (j := 15) (k := 225) rfl)) rfl (by decide +kernel) (Nat.le_of_ble_eq_true rfl) (Nat.le_of_ble_eq_true rfl) rfl (by decide) (lk_Model_want hγ this (6 : Int32) _ M119 h) (fun _ _ => Qv_r) (fun v M120 hp => Qv_k (R := fun st => E γ k_Model_listWants 1 465 [some (vr (some (11, this))), some (vi v1), some (vi v2), some (vi v3), some (vi v4)] st M120 (Qv Q)) hp (fun h => ?_))
                                                                        refine E_goto (off := 235) (tgt := 700) (by decide +kernel) (by decide) ?_
                                                                        exact E_vret rfl (by decide +kernel) h
                                                                      · rw [if_neg b44] at h
                                                                        by_cases b45 : v1 = (39 : Int32)
                                                                        · rw [if_pos b45] at h
                                                                          refine E.up (fun _ _ hJ => J_tswI (len := 240) (dflt := 520) (lo := 6) (hi := 61) (offs := #[240, 520, 520, 520, 520, 520, 520, 520, 520, 520, 520, 520, 520, 249, 249, 258, 258, 520, 520, 520, 520, 520, 520, 520, 520, 520, 520, 520, 520, 520, 288, 288, 273, 273, 520, 520, 520, 297, 310, 328, 336, 355, 520, 387, 403, 422, 520, 403, 288, 288, 465, 520, 520, 481, 288, 288]) (off := 273) (tgt := 453) (by decide +kernel) (by rw [b45]; decide) (by rw [b45]; decide) (by rw [b45]; rfl) (by decide) hJ) ?_
                                                                          refine E_blk (lv' := [some (vr (some (11, this))), some (vi v1), some (vi v2), some (vi v3), some (vi v4)]) (st' := [vi (6 : Int32), vr (some (11, this))]) (M1 := M) (pc' := 456) (tb_Model hγ) [.aload_n 0, .bipush 6] (by decide +kernel) rfl rfl trivial ?_
                                                                          refine E_callV (κ' := k_Model_want) (As := [vi (6 : Int32)]) (st := []) mv_Model_want (Or.inl (tbk_mem (j := 15) (k := 225) rfl)) rfl (by decide +kernel) (Nat.le_of_ble_eq_true rfl) (Nat.le_of_ble_eq_true rfl) rfl (by decide) (lk_Model_want hγ this (6 : Int32) _ M h) (fun _ _ => Qv_r) (fun v M117 hp => Qv_k (R := fun st => E γ k_Model_listWants 1 459 [some (vr (some (11, this))), some (vi v1), some (vi v2), some (vi v3), some (vi v4)] st M117 (Qv Q)) hp (fun h => ?_))
                                                                          refine E_blk (lv' := [some (vr (some (11, this))), some (vi v1), some (vi v2), some (vi v3), some (vi v4)]) (st' := [vi (6 : Int32), vr (some (11, this))]) (M1 := M117) (pc' := 462) (tb_Model hγ) [.aload_n 0, .bipush 6] (by decide +kernel) rfl rfl trivial ?_
                                                                          refine E_callV (κ' := k_Model_want) (As := [vi (6 : Int32)]) (st := []) mv_Model_want (Or.inl (tbk_mem (j := 15) (k := 225) rfl)) rfl (by decide +kernel) (Nat.le_of_ble_eq_true rfl) (Nat.le_of_ble_eq_true rfl) rfl (by decide) (lk_Model_want hγ this (6 : Int32) _ M117 h) (fun _ _ => Qv_r) (fun v M118 hp => Qv_k (R := fun st => E γ k_Model_listWants 1 465 [some (vr (some (11, this))), some (vi v1), some (vi v2), some (vi v3), some (vi v4)] st M118 (Qv Q)) hp (fun h => ?_))
                                                                          refine E_goto (off := 235) (tgt := 700) (by decide +kernel) (by decide) ?_
                                                                          exact E_vret rfl (by decide +kernel) h
                                                                        · rw [if_neg b45] at h
                                                                          by_cases b46 : v1 = (40 : Int32)
                                                                          · rw [if_pos b46] at h
                                                                            refine E.up (fun _ _ hJ => J_tswI (len := 240) (dflt := 520) (lo := 6) (hi := 61) (offs := #[240, 520, 520, 520, 520, 520, 520, 520, 520, 520, 520, 520, 520, 249, 249, 258, 258, 520, 520, 520, 520, 520, 520, 520, 520, 520, 520, 520, 520, 520, 288, 288, 273, 273, 520, 520, 520, 297, 310, 328, 336, 355, 520, 387, 403, 422, 520, 403, 288, 288, 465, 520, 520, 481, 288, 288]) (off := 520) (tgt := 700) (by decide +kernel) (by rw [b46]; decide) (by rw [b46]; decide) (by rw [b46]; rfl) (by decide) hJ) ?_
                                                                            exact E_vret rfl (by decide +kernel) h
                                                                          · rw [if_neg b46] at h
                                                                            by_cases b47 : v1 = (41 : Int32)
                                                                            · rw [if_pos b47] at h
                                                                              refine E.up (fun _ _ hJ => J_tswI (len := 240) (dflt := 520) (lo := 6) (hi := 61) (offs := #[240, 520, 520, 520, 520, 520, 520, 520, 520, 520, 520, 520, 520, 249, 249, 258, 258, 520, 520, 520, 520, 520, 520, 520, 520, 520, 520, 520, 520, 520, 288, 288, 273, 273, 520, 520, 520, 297, 310, 328, 336, 355, 520, 387, 403, 422, 520, 403, 288, 288, 465, 520, 520, 481, 288, 288]) (off := 520) (tgt := 700) (by decide +kernel) (by rw [b47]; decide) (by rw [b47]; decide) (by rw [b47]; rfl) (by decide) hJ) ?_
                                                                              exact E_vret rfl (by decide +kernel) h
                                                                            · rw [if_neg b47] at h
                                                                              by_cases b48 : v1 = (42 : Int32)
                                                                              · rw [if_pos b48] at h
                                                                                refine E.up (fun _ _ hJ => J_tswI (len := 240) (dflt := 520) (lo := 6) (hi := 61) (offs := #[240, 520, 520, 520, 520, 520, 520, 520, 520, 520, 520, 520, 520, 249, 249, 258, 258, 520, 520, 520, 520, 520, 520, 520, 520, 520, 520, 520, 520, 520, 288, 288, 273, 273, 520, 520, 520, 297, 310, 328, 336, 355, 520, 387, 403, 422, 520, 403, 288, 288, 465, 520, 520, 481, 288, 288]) (off := 520) (tgt := 700) (by decide +kernel) (by rw [b48]; decide) (by rw [b48]; decide) (by rw [b48]; rfl) (by decide) hJ) ?_
                                                                                exact E_vret rfl (by decide +kernel) h
                                                                              · rw [if_neg b48] at h
                                                                                by_cases b49 : v1 = (43 : Int32)
                                                                                · rw [if_pos b49] at h
                                                                                  refine E.up (fun _ _ hJ => J_tswI (len := 240) (dflt := 520) (lo := 6) (hi := 61) (offs := #[240, 520, 520, 520, 520, 520, 520, 520, 520, 520, 520, 520, 520, 249, 249, 258, 258, 520, 520, 520, 520, 520, 520, 520, 520, 520, 520, 520, 520, 520, 288, 288, 273, 273, 520, 520, 520, 297, 310, 328, 336, 355, 520, 387, 403, 422, 520, 403, 288, 288, 465, 520, 520, 481, 288, 288]) (off := 297) (tgt := 477) (by decide +kernel) (by rw [b49]; decide) (by rw [b49]; decide) (by rw [b49]; rfl) (by decide) hJ) ?_
                                                                                  refine E_blk (lv' := [some (vr (some (11, this))), some (vi v1), some (vi v2), some (vi v3), some (vi v4)]) (st' := [vi (1 : Int32), vr (some (11, this))]) (M1 := M) (pc' := 479) (tb_Model hγ) [.aload_n 0, .iconst 1] (by decide +kernel) rfl rfl trivial ?_
                                                                                  refine E_callV (κ' := k_Model_want) (As := [vi (1 : Int32)]) (st := []) mv_Model_want (Or.inl (tbk_mem (j := 15) (k := 225) rfl)) rfl (by decide +kernel) (Nat.le_of_ble_eq_true rfl) (Nat.le_of_ble_eq_true rfl) rfl (by decide) (lk_Model_want hγ this (1 : Int32) _ M h) (fun _ _ => Qv_r) (fun v M115 hp => Qv_k (R := fun st => E γ k_Model_listWants 1 482 [some (vr (some (11, this))), some (vi v1), some (vi v2), some (vi v3), some (vi v4)] st M115 (Qv Q)) hp (fun h => ?_))
                                                                                  refine E_blk (lv' := [some (vr (some (11, this))), some (vi v1), some (vi v2), some (vi v3), some (vi v4)]) (st' := [vi (2 : Int32), vr (some (11, this))]) (M1 := M115) (pc' := 484) (tb_Model hγ) [.aload_n 0, .iconst 2] (by decide +kernel) rfl rfl trivial ?_
                                                                                  refine E_callV (κ' := k_Model_want) (As := [vi (2 : Int32)]) (st := []) mv_Model_want (Or.inl (tbk_mem (j := 15) (k := 225) rfl)) rfl (by decide +kernel) (Nat.le_of_ble_eq_true rfl) (Nat.le_of_ble_eq_true rfl) rfl (by decide) (lk_Model_want hγ this (2 : Int32) _ M115 h) (fun _ _ => Qv_r) (fun v M116 hp => Qv_k (R := fun st => E γ k_Model_listWants 1 487 [some (vr (some (11, this))), some (vi v1), some (vi v2), some (vi v3), some (vi v4)] st M116 (Qv Q)) hp (fun h => ?_))
                                                                                  refine E_goto (off := 213) (tgt := 700) (by decide +kernel) (by decide) ?_
                                                                                  exact E_vret rfl (by decide +kernel) h
                                                                                · rw [if_neg b49] at h
                                                                                  by_cases b50 : v1 = (44 : Int32)
                                                                                  · rw [if_pos b50] at h
                                                                                    refine E.up (fun _ _ hJ => J_tswI (len := 240) (dflt := 520) (lo := 6) (hi := 61) (offs := #[240, 520, 520, 520, 520, 520, 520, 520, 520, 520, 520, 520, 520, 249, 249, 258, 258, 520, 520, 520, 520, 520, 520, 520, 520, 520, 520, 520, 520, 520, 288, 288, 273, 273, 520, 520, 520, 297, 310, 328, 336, 355, 520, 387, 403, 422, 520, 403, 288, 288, 465, 520, 520, 481, 288, 288]) (off := 310) (tgt := 490) (by decide +kernel) (by rw [b50]; decide) (by rw [b50]; decide) (by rw [b50]; rfl) (by decide) hJ) ?_
                                                                                    refine E_blk (lv' := [some (vr (some (11, this))), some (vi v1), some (vi v2), some (vi v3), some (vi v4)]) (st' := [vi (1 : Int32), vr (some (11, this))]) (M1 := M) (pc' := 492) (tb_Model hγ) [.aload_n 0, .iconst 1] (by decide +kernel) rfl rfl trivial ?_
                                                                                    refine E_callV (κ' := k_Model_want) (As := [vi (1 : Int32)]) (st := []) mv_Model_want (Or.inl (tbk_mem (j := 15) (k := 225) rfl)) rfl (by decide +kernel) (Nat.le_of_ble_eq_true rfl) (Nat.le_of_ble_eq_true rfl) rfl (by decide) (lk_Model_want hγ this (1 : Int32) _ M h) (fun _ _ => Qv_r) (fun v M112 hp => Qv_k (R := fun st => E γ k_Model_listWants 1 495 [some (vr (some (11, this))), some (vi v1), some (vi v2), some (vi v3), some (vi v4)] st M112 (Qv Q)) hp (fun h => ?_))
                                                                                    refine E_blk (lv' := [some (vr (some (11, this))), some (vi v1), some (vi v2), some (vi v3), some (vi v4)]) (st' := [vi (1 : Int32), vr (some (11, this))]) (M1 := M112) (pc' := 497) (tb_Model hγ) [.aload_n 0, .iconst 1] (by decide +kernel) rfl rfl trivial ?_
                                                                                    refine E_callV (κ' := k_Model_want) (As := [vi (1 : Int32)]) (st := []) mv_Model_want (Or.inl (tbk_mem (j := 15) (k := 225) rfl)) rfl (by decide +kernel) (Nat.le_of_ble_eq_true rfl) (Nat.le_of_ble_eq_true rfl) rfl (by decide) (lk_Model_want hγ this (1 : Int32) _ M112 h) (fun _ _ => Qv_r) (fun v M113 hp => Qv_k (R := fun st => E γ k_Model_listWants 1 500 [some (vr (some (11, this))), some (vi v1), some (vi v2), some (vi v3), some (vi v4)] st M113 (Qv Q)) hp (fun h => ?_))
                                                                                    refine E_blk (lv' := [some (vr (some (11, this))), some (vi v1), some (vi v2), some (vi v3), some (vi v4)]) (st' := [vi (2 : Int32), vr (some (11, this))]) (M1 := M113) (pc' := 502) (tb_Model hγ) [.aload_n 0, .iconst 2] (by decide +kernel) rfl rfl trivial ?_
                                                                                    refine E_callV (κ' := k_Model_want) (As := [vi (2 : Int32)]) (st := []) mv_Model_want (Or.inl (tbk_mem (j := 15) (k := 225) rfl)) rfl (by decide +kernel) (Nat.le_of_ble_eq_true rfl) (Nat.le_of_ble_eq_true rfl) rfl (by decide) (lk_Model_want hγ this (2 : Int32) _ M113 h) (fun _ _ => Qv_r) (fun v M114 hp => Qv_k (R := fun st => E γ k_Model_listWants 1 505 [some (vr (some (11, this))), some (vi v1), some (vi v2), some (vi v3), some (vi v4)] st M114 (Qv Q)) hp (fun h => ?_))
                                                                                    refine E_goto (off := 195) (tgt := 700) (by decide +kernel) (by decide) ?_
                                                                                    exact E_vret rfl (by decide +kernel) h
                                                                                  · rw [if_neg b50] at h
                                                                                    by_cases b51 : v1 = (45 : Int32)
                                                                                    · rw [if_pos b51] at h
                                                                                      refine E.up (fun _ _ hJ => J_tswI (len := 240) (dflt := 520) (lo := 6) (hi := 61) (offs := #[240, 520, 520, 520, 520, 520, 520, 520, 520, 520, 520, 520, 520, 249, 249, 258, 258, 520, 520, 520, 520, 520, 520, 520, 520, 520, 520, 520, 520, 520, 288, 288, 273, 273, 520, 520, 520, 297, 310, 328, 336, 355, 520, 387, 403, 422, 520, 403, 288, 288, 465, 520, 520, 481, 288, 288]) (off := 328) (tgt := 508) (by decide +kernel) (by rw [b51]; decide) (by rw [b51]; decide) (by rw [b51]; rfl) (by decide) hJ) ?_
                                                                                      refine E_blk (lv' := [some (vr (some (11, this))), some (vi v1), some (vi v2), some (vi v3), some (vi v4)]) (st' := [vi (2 : Int32), vr (some (11, this))]) (M1 := M) (pc' := 510) (tb_Model hγ) [.aload_n 0, .iconst 2] (by decide +kernel) rfl rfl trivial ?_
                                                                                      refine E_callV (κ' := k_Model_want) (As := [vi (2 : Int32)]) (st := []) mv_Model_want (Or.inl (tbk_mem (j := 15) (k := 225) rfl)) rfl (by decide +kernel) (Nat.le_of_ble_eq_true rfl) (Nat.le_of_ble_eq_true rfl) rfl (by decide) (lk_Model_want hγ this (2 : Int32) _ M h) (fun _ _ => Qv_r) (fun v M111 hp => Qv_k (R := fun st => E γ k_Model_listWants 1 513 [some (vr (some (11, this))), some (vi v1), some (vi v2), some (vi v3), some (vi v4)] st M111 (Qv Q)) hp (fun h => ?_))
                                                                                      refine E_goto (off := 187) (tgt := 700) (by decide +kernel) (by decide) ?_
                                                                                      exact E_vret rfl (by decide +kernel) h
                                                                                    · rw [if_neg b51] at h
                                                                                      by_cases b52 : v1 = (46 : Int32)
                                                                                      · rw [if_pos b52] at h
                                                                                        refine E.up (fun _ _ hJ => J_tswI (len := 240) (dflt := 520) (lo := 6) (hi := 61) (offs := #[240, 520, 520, 520, 520, 520, 520, 520, 520, 520, 520, 520, 520, 249, 249, 258, 258, 520, 520, 520, 520, 520, 520, 520, 520, 520, 520, 520, 520, 520, 288, 288, 273, 273, 520, 520, 520, 297, 310, 328, 336, 355, 520, 387, 403, 422, 520, 403, 288, 288, 465, 520, 520, 481, 288, 288]) (off := 336) (tgt := 516) (by decide +kernel) (by rw [b52]; decide) (by rw [b52]; decide) (by rw [b52]; rfl) (by decide) hJ) ?_
                                                                                        refine E_blk (lv' := [some (vr (some (11, this))), some (vi v1), some (vi v2), some (vi v3), some (vi v4)]) (st' := [vr (mR M 11 this 45), vi (16 : Int32), vr (some (11, this))]) (M1 := M) (pc' := 523) (tb_Model hγ) [.aload_n 0, .bipush 16, .aload_n 0, .getfield 522] (by decide +kernel) rfl rfl trivial ?_
                                                                                        obtain ⟨i107, ei107, h⟩ := h
                                                                                        rw [ei107]
                                                                                        refine E_blk (lv' := [some (vr (some (11, this))), some (vi v1), some (vi v2), some (vi v3), some (vi v4)]) (st' := [vr (mR M 12 i107 31), vi (16 : Int32), vr (some (11, this))]) (M1 := M) (pc' := 526) (tb_Model hγ) [.getfield 677] (by decide +kernel) rfl rfl trivial ?_
                                                                                        obtain ⟨i108, ei108, h⟩ := h
                                                                                        rw [ei108]
                                                                                        obtain ⟨c109, h⟩ := h
                                                                                        refine E_blk (lv' := [some (vr (some (11, this))), some (vi v1), some (vi v2), some (vi v3), some (vi v4)]) (st' := [vi ((16 : Int32) + (mI M 300 i108 v2.toNatClampNeg)), vr (some (11, this))]) (M1 := M) (pc' := 529) (tb_Model hγ) [.iload_n 2, .iaload, .iadd] (by decide +kernel) rfl rfl ⟨c109, trivial⟩ ?_
                                                                                        refine E_callV (κ' := k_Model_want) (As := [vi ((16 : Int32) + (mI M 300 i108 v2.toNatClampNeg))]) (st := []) mv_Model_want (Or.inl (tbk_mem (j := 15) (k := 225) rfl)) rfl (by decide +kernel) (Nat.le_of_ble_eq_true rfl) (Nat.le_of_ble_eq_true rfl) rfl (by decide) (lk_Model_want hγ this ((16 : Int32) + (mI M 300 i108 v2.toNatClampNeg)) _ M h) (fun _ _ => Qv_r) (fun v M110 hp => Qv_k (R := fun st => E γ k_Model_listWants 1 532 [some (vr (some (11, this))), some (vi v1), some (vi v2), some (vi v3), some (vi v4)] st M110 (Qv Q)) hp (fun h => ?_))
                                                                                        refine E_goto (off := 168) (tgt := 700) (by decide +kernel) (by decide) ?_
                                                                                        exact E_vret rfl (by decide +kernel) h
                                                                                      · rw [if_neg b52] at h
                                                                                        by_cases b53 : v1 = (47 : Int32)
                                                                                        · rw [if_pos b53] at h
                                                                                          refine E.up (fun _ _ hJ => J_tswI (len := 240) (dflt := 520) (lo := 6) (hi := 61) (offs := #[240, 520, 520, 520, 520, 520, 520, 520, 520, 520, 520, 520, 520, 249, 249, 258, 258, 520, 520, 520, 520, 520, 520, 520, 520, 520, 520, 520, 520, 520, 288, 288, 273, 273, 520, 520, 520, 297, 310, 328, 336, 355, 520, 387, 403, 422, 520, 403, 288, 288, 465, 520, 520, 481, 288, 288]) (off := 355) (tgt := 535) (by decide +kernel) (by rw [b53]; decide) (by rw [b53]; decide) (by rw [b53]; rfl) (by decide) hJ) ?_
                                                                                          refine E_blk (lv' := [some (vr (some (11, this))), some (vi v1), some (vi v2), some (vi v3), some (vi v4)]) (st' := [vr (mR M 11 this 45), vr (some (11, this))]) (M1 := M) (pc' := 540) (tb_Model hγ) [.aload_n 0, .aload_n 0, .getfield 522] (by decide +kernel) rfl rfl trivial ?_
                                                                                          obtain ⟨i99, ei99, h⟩ := h
                                                                                          rw [ei99]
                                                                                          refine E_blk (lv' := [some (vr (some (11, this))), some (vi v1), some (vi v2), some (vi v3), some (vi v4)]) (st' := [vr (mR M 12 i99 33), vr (some (11, this))]) (M1 := M) (pc' := 543) (tb_Model hγ) [.getfield 683] (by decide +kernel) rfl rfl trivial ?_
                                                                                          obtain ⟨i100, ei100, h⟩ := h
                                                                                          rw [ei100]
                                                                                          obtain ⟨c101, h⟩ := h
                                                                                          refine E_blk (lv' := [some (vr (some (11, this))), some (vi v1), some (vi v2), some (vi v3), some (vi v4)]) (st' := [vi (mI M 300 i100 v2.toNatClampNeg), vr (some (11, this))]) (M1 := M) (pc' := 545) (tb_Model hγ) [.iload_n 2, .iaload] (by decide +kernel) rfl rfl ⟨c101, trivial⟩ ?_
                                                                                          refine E_callV (κ' := k_Model_want) (As := [vi (mI M 300 i100 v2.toNatClampNeg)]) (st := []) mv_Model_want (Or.inl (tbk_mem (j := 15) (k := 225) rfl)) rfl (by decide +kernel) (Nat.le_of_ble_eq_true rfl) (Nat.le_of_ble_eq_true rfl) rfl (by decide) (lk_Model_want hγ this (mI M 300 i100 v2.toNatClampNeg) _ M h) (fun _ _ => Qv_r) (fun v M102 hp => Qv_k (R := fun st => E γ k_Model_listWants 1 548 [some (vr (some (11, this))), some (vi v1), some (vi v2), some (vi v3), some (vi v4)] st M102 (Qv Q)) hp (fun h => ?_))
                                                                                          refine E_blk (lv' := [some (vr (some (11, this))), some (vi v1), some (vi v2), some (vi v3), some (vi v4)]) (st' := [vr (mR M102 11 this 45), vi (16 : Int32), vr (some (11, this))]) (M1 := M102) (pc' := 555) (tb_Model hγ) [.aload_n 0, .bipush 16, .aload_n 0, .getfield 522] (by decide +kernel) rfl rfl trivial ?_
                                                                                          obtain ⟨i103, ei103, h⟩ := h
                                                                                          rw [ei103]
                                                                                          refine E_blk (lv' := [some (vr (some (11, this))), some (vi v1), some (vi v2), some (vi v3), some (vi v4)]) (st' := [vr (mR M102 12 i103 31), vi (16 : Int32), vr (some (11, this))]) (M1 := M102) (pc' := 558) (tb_Model hγ) [.getfield 677] (by decide +kernel) rfl rfl trivial ?_
                                                                                          obtain ⟨i104, ei104, h⟩ := h
                                                                                          rw [ei104]
                                                                                          obtain ⟨c105, h⟩ := h
                                                                                          refine E_blk (lv' := [some (vr (some (11, this))), some (vi v1), some (vi v2), some (vi v3), some (vi v4)]) (st' := [vi ((16 : Int32) + (mI M102 300 i104 v2.toNatClampNeg)), vr (some (11, this))]) (M1 := M102) (pc' := 561) (tb_Model hγ) [.iload_n 2, .iaload, .iadd] (by decide +kernel) rfl rfl ⟨c105, trivial⟩ ?_
                                                                                          refine E_callV (κ' := k_Model_want) (As := [vi ((16 : Int32) + (mI M102 300 i104 v2.toNatClampNeg))]) (st := []) mv_Model_want (Or.inl (tbk_mem (j := 15) (k := 225) rfl)) rfl (by decide +kernel) (Nat.le_of_ble_eq_true rfl) (Nat.le_of_ble_eq_true rfl) rfl (by decide) (lk_Model_want hγ this ((16 : Int32) + (mI M102 300 i104 v2.toNatClampNeg)) _ M102 h) (fun _ _ => Qv_r) (fun v M106 hp => Qv_k (R := fun st => E γ k_Model_listWants 1 564 [some (vr (some (11, this))), some (vi v1), some (vi v2), some (vi v3), some (vi v4)] st M106 (Qv Q)) hp (fun h => ?_))
                                                                                          refine E_goto (off := 136) (tgt := 700) (by decide +kernel) (by decide) ?_
                                                                                          exact E_vret rfl (by decide +kernel) h
                                                                                        · rw [if_neg b53] at h
                                                                                          by_cases b54 : v1 = (48 : Int32)
                                                                                          · rw [if_pos b54] at h
                                                                                            refine E.up (fun _ _ hJ => J_tswI (len := 240) (dflt := 520) (lo := 6) (hi := 61) (offs := #[240, 520, 520, 520, 520, 520, 520, 520, 520, 520, 520, 520, 520, 249, 249, 258, 258, 520, 520, 520, 520, 520, 520, 520, 520, 520, 520, 520, 520, 520, 288, 288, 273, 273, 520, 520, 520, 297, 310, 328, 336, 355, 520, 387, 403, 422, 520, 403, 288, 288, 465, 520, 520, 481, 288, 288]) (off := 520) (tgt := 700) (by decide +kernel) (by rw [b54]; decide) (by rw [b54]; decide) (by rw [b54]; rfl) (by decide) hJ) ?_
                                                                                            exact E_vret rfl (by decide +kernel) h
                                                                                          · rw [if_neg b54] at h
                                                                                            by_cases b55 : v1 = (49 : Int32)
                                                                                            · rw [if_pos b55] at h
                                                                                              refine E.up (fun _ _ hJ => J_tswI (len := 240) (dflt := 520) (lo := 6) (hi := 61) (offs := #[240, 520, 520, 520, 520, 520, 520, 520, 520, 520, 520, 520, 520, 249, 249, 258, 258, 520, 520, 520, 520, 520, 520, 520, 520, 520, 520, 520, 520, 520, 288, 288, 273, 273, 520, 520, 520, 297, 310, 328, 336, 355, 520, 387, 403, 422, 520, 403, 288, 288, 465, 520, 520, 481, 288, 288]) (off := 387) (tgt := 567) (by decide +kernel) (by rw [b55]; decide) (by rw [b55]; decide) (by rw [b55]; rfl) (by decide) hJ) ?_
                                                                                              refine E_blk (lv' := [some (vr (some (11, this))), some (vi v1), some (vi v2), some (vi v3), some (vi v4)]) (st' := [vr (mR M 11 this 45), vr (some (11, this))]) (M1 := M) (pc' := 572) (tb_Model hγ) [.aload_n 0, .aload_n 0, .getfield 522] (by decide +kernel) rfl rfl trivial ?_
                                                                                              obtain ⟨i95, ei95, h⟩ := h
                                                                                              rw [ei95]
                                                                                              refine E_blk (lv' := [some (vr (some (11, this))), some (vi v1), some (vi v2), some (vi v3), some (vi v4)]) (st' := [vr (mR M 12 i95 33), vr (some (11, this))]) (M1 := M) (pc' := 575) (tb_Model hγ) [.getfield 683] (by decide +kernel) rfl rfl trivial ?_
                                                                                              obtain ⟨i96, ei96, h⟩ := h
                                                                                              rw [ei96]
                                                                                              obtain ⟨c97, h⟩ := h
                                                                                              refine E_blk (lv' := [some (vr (some (11, this))), some (vi v1), some (vi v2), some (vi v3), some (vi v4)]) (st' := [vi (mI M 300 i96 v2.toNatClampNeg), vr (some (11, this))]) (M1 := M) (pc' := 577) (tb_Model hγ) [.iload_n 2, .iaload] (by decide +kernel) rfl rfl ⟨c97, trivial⟩ ?_
                                                                                              refine E_callV (κ' := k_Model_want) (As := [vi (mI M 300 i96 v2.toNatClampNeg)]) (st := []) mv_Model_want (Or.inl (tbk_mem (j := 15) (k := 225) rfl)) rfl (by decide +kernel) (Nat.le_of_ble_eq_true rfl) (Nat.le_of_ble_eq_true rfl) rfl (by decide) (lk_Model_want hγ this (mI M 300 i96 v2.toNatClampNeg) _ M h) (fun _ _ => Qv_r) (fun v M98 hp => Qv_k (R := fun st => E γ k_Model_listWants 1 580 [some (vr (some (11, this))), some (vi v1), some (vi v2), some (vi v3), some (vi v4)] st M98 (Qv Q)) hp (fun h => ?_))
                                                                                              refine E_goto (off := 120) (tgt := 700) (by decide +kernel) (by decide) ?_
                                                                                              exact E_vret rfl (by decide +kernel) h
                                                                                            · rw [if_neg b55] at h
                                                                                              by_cases b56 : v1 = (50 : Int32)
                                                                                              · rw [if_pos b56] at h
                                                                                                refine E.up (fun _ _ hJ => J_tswI (len := 240) (dflt := 520) (lo := 6) (hi := 61) (offs := #[240, 520, 520, 520, 520, 520, 520, 520, 520, 520, 520, 520, 520, 249, 249, 258, 258, 520, 520, 520, 520, 520, 520, 520, 520, 520, 520, 520, 520, 520, 288, 288, 273, 273, 520, 520, 520, 297, 310, 328, 336, 355, 520, 387, 403, 422, 520, 403, 288, 288, 465, 520, 520, 481, 288, 288]) (off := 403) (tgt := 583) (by decide +kernel) (by rw [b56]; decide) (by rw [b56]; decide) (by rw [b56]; rfl) (by decide) hJ) ?_
                                                                                                refine E_blk (lv' := [some (vr (some (11, this))), some (vi v1), some (vi v2), some (vi v3), some (vi v4)]) (st' := [vr (mR M 11 this 45), vi (16 : Int32), vr (some (11, this))]) (M1 := M) (pc' := 590) (tb_Model hγ) [.aload_n 0, .bipush 16, .aload_n 0, .getfield 522] (by decide +kernel) rfl rfl trivial ?_
                                                                                                obtain ⟨i91, ei91, h⟩ := h
                                                                                                rw [ei91]
                                                                                                refine E_blk (lv' := [some (vr (some (11, this))), some (vi v1), some (vi v2), some (vi v3), some (vi v4)]) (st' := [vr (mR M 12 i91 31), vi (16 : Int32), vr (some (11, this))]) (M1 := M) (pc' := 593) (tb_Model hγ) [.getfield 677] (by decide +kernel) rfl rfl trivial ?_
                                                                                                obtain ⟨i92, ei92, h⟩ := h
                                                                                                rw [ei92]
                                                                                                obtain ⟨c93, h⟩ := h
                                                                                                refine E_blk (lv' := [some (vr (some (11, this))), some (vi v1), some (vi v2), some (vi v3), some (vi v4)]) (st' := [vi ((16 : Int32) + (mI M 300 i92 v2.toNatClampNeg)), vr (some (11, this))]) (M1 := M) (pc' := 596) (tb_Model hγ) [.iload_n 2, .iaload, .iadd] (by decide +kernel) rfl rfl ⟨c93, trivial⟩ ?_
                                                                                                refine E_callV (κ' := k_Model_want) (As := [vi ((16 : Int32) + (mI M 300 i92 v2.toNatClampNeg))]) (st := []) mv_Model_want (Or.inl (tbk_mem (j := 15) (k := 225) rfl)) rfl (by decide +kernel) (Nat.le_of_ble_eq_true rfl) (Nat.le_of_ble_eq_true rfl) rfl (by decide) (lk_Model_want hγ this ((16 : Int32) + (mI M 300 i92 v2.toNatClampNeg)) _ M h) (fun _ _ => Qv_r) (fun v M94 hp => Qv_k (R := fun st => E γ k_Model_listWants 1 599 [some (vr (some (11, this))), some (vi v1), some (vi v2), some (vi v3), some (vi v4)] st M94 (Qv Q)) hp (fun h => ?_))
                                                                                                refine E_goto (off := 101) (tgt := 700) (by decide +kernel) (by decide) ?_
                                                                                                exact E_vret rfl (by decide +kernel) h
                                                                                              · rw [if_neg b56] at h
                                                                                                by_cases b57 : v1 = (51 : Int32)
                                                                                                · rw [if_pos b57] at h
                                                                                                  refine E.up (fun _ _ hJ => J_tswI (len := 240) (dflt := 520) (lo := 6) (hi := 61) (offs := #[240, 520, 520, 520, 520, 520, 520, 520, 520, 520, 520, 520, 520, 249, 249, 258, 258, 520, 520, 520, 520, 520, 520, 520, 520, 520, 520, 520, 520, 520, 288, 288, 273, 273, 520, 520, 520, 297, 310, 328, 336, 355, 520, 387, 403, 422, 520, 403, 288, 288, 465, 520, 520, 481, 288, 288]) (off := 422) (tgt := 602) (by decide +kernel) (by rw [b57]; decide) (by rw [b57]; decide) (by rw [b57]; rfl) (by decide) hJ) ?_
                                                                                                  refine E_blk (lv' := [some (vr (some (11, this))), some (vi v1), some (vi v2), some (vi v3), some (vi v4)]) (st' := [vr (mR M 11 this 45), vr (some (11, this))]) (M1 := M) (pc' := 607) (tb_Model hγ) [.aload_n 0, .aload_n 0, .getfield 522] (by decide +kernel) rfl rfl trivial ?_
                                                                                                  obtain ⟨i84, ei84, h⟩ := h
                                                                                                  rw [ei84]
                                                                                                  refine E_blk (lv' := [some (vr (some (11, this))), some (vi v1), some (vi v2), some (vi v3), some (vi v4)]) (st' := [vr (mR M 12 i84 32), vr (some (11, this))]) (M1 := M) (pc' := 610) (tb_Model hγ) [.getfield 680] (by decide +kernel) rfl rfl trivial ?_
                                                                                                  obtain ⟨i85, ei85, h⟩ := h
                                                                                                  rw [ei85]
                                                                                                  obtain ⟨c86, h⟩ := h
                                                                                                  refine E_blk (lv' := [some (vr (some (11, this))), some (vi v1), some (vi v2), some (vi v3), some (vi v4)]) (st' := [vi (mI M 11 this 6), vi (mI M 300 i85 v2.toNatClampNeg), vr (some (11, this))]) (M1 := M) (pc' := 616) (tb_Model hγ) [.iload_n 2, .iaload, .aload_n 0, .getfield 121] (by decide +kernel) rfl rfl ⟨c86, trivial⟩ ?_
                                                                                                  refine E_icmp_ne (off := 8) (tgt := 624) (by decide +kernel) (by decide) (fun b87 => ?_) (fun b87 => ?_)
                                                                                                  · rw [if_pos b87] at h
                                                                                                    refine E_blk (lv' := [some (vr (some (11, this))), some (vi v1), some (vi v2), some (vi v3), some (vi v4)]) (st' := [vi (8 : Int32), vr (some (11, this))]) (M1 := M) (pc' := 621) (tb_Model hγ) [.bipush 8] (by decide +kernel) rfl rfl trivial ?_
                                                                                                    refine E_goto (off := 18) (tgt := 639) (by decide +kernel) (by decide) ?_
                                                                                                    refine E_mask [false, false, false, false, false] rfl ?_
                                                                                                    exact lk_Model_listWants_j639 hγ this Q (8 : Int32) M h
                                                                                                  · rw [if_neg b87] at h
                                                                                                    refine E_blk (lv' := [some (vr (some (11, this))), some (vi v1), some (vi v2), some (vi v3), some (vi v4)]) (st' := [vr (mR M 11 this 45), vi (16 : Int32), vr (some (11, this))]) (M1 := M) (pc' := 630) (tb_Model hγ) [.bipush 16, .aload_n 0, .getfield 522] (by decide +kernel) rfl rfl trivial ?_
                                                                                                    obtain ⟨i89, ei89, h⟩ := h
                                                                                                    rw [ei89]
                                                                                                    obtain ⟨c90, h⟩ := h
                                                                                                    refine E_blk (lv' := [some (vr (some (11, this))), some (vi v1), some (vi v2), some (vi v3), some (vi v4)]) (st' := [vi ((16 : Int32) + (mI M 130 i89 (mI M 11 this 76).toNatClampNeg)), vr (some (11, this))]) (M1 := M) (pc' := 639) (tb_Model hγ) [.getfield 423, .aload_n 0, .getfield 789, .iaload, .iadd] (by decide +kernel) rfl rfl ⟨c90, trivial⟩ ?_
                                                                                                    refine E_mask [false, false, false, false, false] rfl ?_
                                                                                                    exact lk_Model_listWants_j639 hγ this Q ((16 : Int32) + (mI M 130 i89 (mI M 11 this 76).toNatClampNeg)) M h
                                                                                                · rw [if_neg b57] at h
                                                                                                  by_cases b58 : v1 = (52 : Int32)
                                                                                                  · rw [if_pos b58] at h
                                                                                                    refine E.up (fun _ _ hJ => J_tswI (len := 240) (dflt := 520) (lo := 6) (hi := 61) (offs := #[240, 520, 520, 520, 520, 520, 520, 520, 520, 520, 520, 520, 520, 249, 249, 258, 258, 520, 520, 520, 520, 520, 520, 520, 520, 520, 520, 520, 520, 520, 288, 288, 273, 273, 520, 520, 520, 297, 310, 328, 336, 355, 520, 387, 403, 422, 520, 403, 288, 288, 465, 520, 520, 481, 288, 288]) (off := 520) (tgt := 700) (by decide +kernel) (by rw [b58]; decide) (by rw [b58]; decide) (by rw [b58]; rfl) (by decide) hJ) ?_
                                                                                                    exact E_vret rfl (by decide +kernel) h
                                                                                                  · rw [if_neg b58] at h
                                                                                                    by_cases b59 : v1 = (53 : Int32)
                                                                                                    · rw [if_pos b59] at h
                                                                                                      refine E.up (fun _ _ hJ => J_tswI (len := 240) (dflt := 520) (lo := 6) (hi := 61) (offs := #[240, 520, 520, 520, 520, 520, 520, 520, 520, 520, 520, 520, 520, 249, 249, 258, 258, 520, 520, 520, 520, 520, 520, 520, 520, 520, 520, 520, 520, 520, 288, 288, 273, 273, 520, 520, 520, 297, 310, 328, 336, 355, 520, 387, 403, 422, 520, 403, 288, 288, 465, 520, 520, 481, 288, 288]) (off := 403) (tgt := 583) (by decide +kernel) (by rw [b59]; decide) (by rw [b59]; decide) (by rw [b59]; rfl) (by decide) hJ) ?_
                                                                                                      refine E_blk (lv' := [some (vr (some (11, this))), some (vi v1), some (vi v2), some (vi v3), some (vi v4)]) (st' := [vr (mR M 11 this 45), vi (16 : Int32), vr (some (11, this))]) (M1 := M) (pc' := 590) (tb_Model hγ) [.aload_n 0, .bipush 16, .aload_n 0, .getfield 522] (by decide +kernel) rfl rfl trivial ?_
                                                                                                      obtain ⟨i80, ei80, h⟩ := h
                                                                                                      rw [ei80]
                                                                                                      refine E_blk (lv' := [some (vr (some (11, this))), some (vi v1), some (vi v2), some (vi v3), some (vi v4)]) (st' := [vr (mR M 12 i80 31), vi (16 : Int32), vr (some (11, this))]) (M1 := M) (pc' := 593) (tb_Model hγ) [.getfield 677] (by decide +kernel) rfl rfl trivial ?_
                                                                                                      obtain ⟨i81, ei81, h⟩ := h
                                                                                                      rw [ei81]
                                                                                                      obtain ⟨c82, h⟩ := h
                                                                                                      refine E_blk (lv' := [some (vr (some (11, this))), some (vi v1), some (vi v2), some (vi v3), some (vi v4)]) (st' := [vi ((16 : Int32) + (mI M 300 i81 v2.toNatClampNeg)), vr (some (11, this))]) (M1 := M) (pc' := 596) (tb_Model hγ) [.iload_n 2, .iaload, .iadd] (by decide +kernel) rfl rfl ⟨c82, trivial⟩ ?_
                                                                                                      refine E_callV (κ' := k_Model_want) (As := [vi ((16 : Int32) + (mI M 300 i81 v2.toNatClampNeg))]) (st := []) mv_Model_want (Or.inl (tbk_mem (j := 15) (k := 225) rfl)) rfl (by decide +kernel) (Nat.le_of_ble_eq_true rfl) (Nat.le_of_ble_eq_true rfl) rfl (by decide) (lk_Model_want hγ this ((16 : Int32) + (mI M 300 i81 v2.toNatClampNeg)) _ M h) (fun _ _ => Qv_r) (fun v M83 hp => Qv_k (R := fun st => E γ k_Model_listWants 1 599 [some (vr (some (11, this))), some (vi v1), some (vi v2), some (vi v3), some (vi v4)] st M83 (Qv Q)) hp (fun h => ?_))
                                                                                                      refine E_goto (off := 101) (tgt := 700) (by decide +kernel) (by decide) ?_
                                                                                                      exact E_vret rfl (by decide +kernel) h
                                                                                                    · rw [if_neg b59] at h
                                                                                                      by_cases b60 : v1 = (54 : Int32)
                                                                                                      · rw [if_pos b60] at h
                                                                                                        refine E.up (fun _ _ hJ => J_tswI (len := 240) (dflt := 520) (lo := 6) (hi := 61) (offs := #[240, 520, 520, 520, 520, 520, 520, 520, 520, 520, 520, 520, 520, 249, 249, 258, 258, 520, 520, 520, 520, 520, 520, 520, 520, 520, 520, 520, 520, 520, 288, 288, 273, 273, 520, 520, 520, 297, 310, 328, 336, 355, 520, 387, 403, 422, 520, 403, 288, 288, 465, 520, 520, 481, 288, 288]) (off := 288) (tgt := 468) (by decide +kernel) (by rw [b60]; decide) (by rw [b60]; decide) (by rw [b60]; rfl) (by decide) hJ) ?_
                                                                                                        refine E_blk (lv' := [some (vr (some (11, this))), some (vi v1), some (vi v2), some (vi v3), some (vi v4)]) (st' := [vi (6 : Int32), vr (some (11, this))]) (M1 := M) (pc' := 471) (tb_Model hγ) [.aload_n 0, .bipush 6] (by decide +kernel) rfl rfl trivial ?_
                                                                                                        refine E_callV (κ' := k_Model_want) (As := [vi (6 : Int32)]) (st := []) mv_Model_want (Or.inl (tbk_mem (j := 15) (k := 225) rfl)) rfl (by decide +kernel) (Nat.le_of_ble_eq_true rfl) (Nat.le_of_ble_eq_true rfl) rfl (by decide) (lk_Model_want hγ this (6 : Int32) _ M h) (fun _ _ => Qv_r) (fun v M79 hp => Qv_k (R := fun st => E γ k_Model_listWants 1 474 [some (vr (some (11, this))), some (vi v1), some (vi v2), some (vi v3), some (vi v4)] st M79 (Qv Q)) hp (fun h => ?_))
                                                                                                        refine E_goto (off := 226) (tgt := 700) (by decide +kernel) (by decide) ?_
                                                                                                        exact E_vret rfl (by decide +kernel) h
                                                                                                      · rw [if_neg b60] at h
                                                                                                        by_cases b61 : v1 = (55 : Int32)
                                                                                                        · rw [if_pos b61] at h
                                                                                                          refine E.up (fun _ _ hJ => J_tswI (len := 240) (dflt := 520) (lo := 6) (hi := 61) (offs := #[240, 520, 520, 520, 520, 520, 520, 520, 520, 520, 520, 520, 520, 249, 249, 258, 258, 520, 520, 520, 520, 520, 520, 520, 520, 520, 520, 520, 520, 520, 288, 288, 273, 273, 520, 520, 520, 297, 310, 328, 336, 355, 520, 387, 403, 422, 520, 403, 288, 288, 465, 520, 520, 481, 288, 288]) (off := 288) (tgt := 468) (by decide +kernel) (by rw [b61]; decide) (by rw [b61]; decide) (by rw [b61]; rfl) (by decide) hJ) ?_
                                                                                                          refine E_blk (lv' := [some (vr (some (11, this))), some (vi v1), some (vi v2), some (vi v3), some (vi v4)]) (st' := [vi (6 : Int32), vr (some (11, this))]) (M1 := M) (pc' := 471) (tb_Model hγ) [.aload_n 0, .bipush 6] (by decide +kernel) rfl rfl trivial ?_
                                                                                                          refine E_callV (κ' := k_Model_want) (As := [vi (6 : Int32)]) (st := []) mv_Model_want (Or.inl (tbk_mem (j := 15) (k := 225) rfl)) rfl (by decide +kernel) (Nat.le_of_ble_eq_true rfl) (Nat.le_of_ble_eq_true rfl) rfl (by decide) (lk_Model_want hγ this (6 : Int32) _ M h) (fun _ _ => Qv_r) (fun v M78 hp => Qv_k (R := fun st => E γ k_Model_listWants 1 474 [some (vr (some (11, this))), some (vi v1), some (vi v2), some (vi v3), some (vi v4)] st M78 (Qv Q)) hp (fun h => ?_))
                                                                                                          refine E_goto (off := 226) (tgt := 700) (by decide +kernel) (by decide) ?_
                                                                                                          exact E_vret rfl (by decide +kernel) h
                                                                                                        · rw [if_neg b61] at h
                                                                                                          by_cases b62 : v1 = (56 : Int32)
                                                                                                          · rw [if_pos b62] at h
                                                                                                            refine E.up (fun _ _ hJ => J_tswI (len := 240) (dflt := 520) (lo := 6) (hi := 61) (offs := #[240, 520, 520, 520, 520, 520, 520, 520, 520, 520, 520, 520, 520, 249, 249, 258, 258, 520, 520, 520, 520, 520, 520, 520, 520, 520, 520, 520, 520, 520, 288, 288, 273, 273, 520, 520, 520, 297, 310, 328, 336, 355, 520, 387, 403, 422, 520, 403, 288, 288, 465, 520, 520, 481, 288, 288]) (off := 465) (tgt := 645) (by decide +kernel) (by rw [b62]; decide) (by rw [b62]; decide) (by rw [b62]; rfl) (by decide) hJ) ?_
                                                                                                            refine E_blk (lv' := [some (vr (some (11, this))), some (vi v1), some (vi v2), some (vi v3), some (vi v4)]) (st' := [vi (((16 : Int32) + (mI M 11 this 8)) + (1 : Int32)), vr (some (11, this))]) (M1 := M) (pc' := 655) (tb_Model hγ) [.aload_n 0, .bipush 16, .aload_n 0, .getfield 153, .iadd, .iconst 1, .iadd] (by decide +kernel) rfl rfl trivial ?_
                                                                                                            refine E_callV (κ' := k_Model_want) (As := [vi (((16 : Int32) + (mI M 11 this 8)) + (1 : Int32))]) (st := []) mv_Model_want (Or.inl (tbk_mem (j := 15) (k := 225) rfl)) rfl (by decide +kernel) (Nat.le_of_ble_eq_true rfl) (Nat.le_of_ble_eq_true rfl) rfl (by decide) (lk_Model_want hγ this (((16 : Int32) + (mI M 11 this 8)) + (1 : Int32)) _ M h) (fun _ _ => Qv_r) (fun v M77 hp => Qv_k (R := fun st => E γ k_Model_listWants 1 658 [some (vr (some (11, this))), some (vi v1), some (vi v2), some (vi v3), some (vi v4)] st M77 (Qv Q)) hp (fun h => ?_))
                                                                                                            refine E_goto (off := 42) (tgt := 700) (by decide +kernel) (by decide) ?_
                                                                                                            exact E_vret rfl (by decide +kernel) h
                                                                                                          · rw [if_neg b62] at h
                                                                                                            by_cases b63 : v1 = (57 : Int32)
                                                                                                            · rw [if_pos b63] at h
                                                                                                              refine E.up (fun _ _ hJ => J_tswI (len := 240) (dflt := 520) (lo := 6) (hi := 61) (offs := #[240, 520, 520, 520, 520, 520, 520, 520, 520, 520, 520, 520, 520, 249, 249, 258, 258, 520, 520, 520, 520, 520, 520, 520, 520, 520, 520, 520, 520, 520, 288, 288, 273, 273, 520, 520, 520, 297, 310, 328, 336, 355, 520, 387, 403, 422, 520, 403, 288, 288, 465, 520, 520, 481, 288, 288]) (off := 520) (tgt := 700) (by decide +kernel) (by rw [b63]; decide) (by rw [b63]; decide) (by rw [b63]; rfl) (by decide) hJ) ?_
                                                                                                              exact E_vret rfl (by decide +kernel) h
                                                                                                            · rw [if_neg b63] at h
                                                                                                              by_cases b64 : v1 = (58 : Int32)
                                                                                                              · rw [if_pos b64] at h
                                                                                                                refine E.up (fun _ _ hJ => J_tswI (len := 240) (dflt := 520) (lo := 6) (hi := 61) (offs := #[240, 520, 520, 520, 520, 520, 520, 520, 520, 520, 520, 520, 520, 249, 249, 258, 258, 520, 520, 520, 520, 520, 520, 520, 520, 520, 520, 520, 520, 520, 288, 288, 273, 273, 520, 520, 520, 297, 310, 328, 336, 355, 520, 387, 403, 422, 520, 403, 288, 288, 465, 520, 520, 481, 288, 288]) (off := 520) (tgt := 700) (by decide +kernel) (by rw [b64]; decide) (by rw [b64]; decide) (by rw [b64]; rfl) (by decide) hJ) ?_
                                                                                                                exact E_vret rfl (by decide +kernel) h
                                                                                                              · rw [if_neg b64] at h
                                                                                                                by_cases b65 : v1 = (59 : Int32)
                                                                                                                · rw [if_pos b65] at h
                                                                                                                  refine E.up (fun _ _ hJ => J_tswI (len := 240) (dflt := 520) (lo := 6) (hi := 61) (offs := #[240, 520, 520, 520, 520, 520, 520, 520, 520, 520, 520, 520, 520, 249, 249, 258, 258, 520, 520, 520, 520, 520, 520, 520, 520, 520, 520, 520, 520, 520, 288, 288, 273, 273, 520, 520, 520, 297, 310, 328, 336, 355, 520, 387, 403, 422, 520, 403, 288, 288, 465, 520, 520, 481, 288, 288]) (off := 481) (tgt := 661) (by decide +kernel) (by rw [b65]; decide) (by rw [b65]; decide) (by rw [b65]; rfl) (by decide) hJ) ?_
                                                                                                                  refine E_blk (lv' := [some (vr (some (11, this))), some (vi v1), some (vi v2), some (vi v3), some (vi v4)]) (st' := [vr (mR M 11 this 32)]) (M1 := M) (pc' := 665) (tb_Model hγ) [.aload_n 0, .getfield 83] (by decide +kernel) rfl rfl trivial ?_
                                                                                                                  obtain ⟨i70, ei70, h⟩ := h
                                                                                                                  rw [ei70]
                                                                                                                  refine E_blk (lv' := [some (vr (some (11, this))), some (vi v1), some (vi v2), some (vi v3), some (vi v4)]) (st' := [vr (mR M 11 this 45), vr (some (300, i70))]) (M1 := M) (pc' := 669) (tb_Model hγ) [.aload_n 0, .getfield 522] (by decide +kernel) rfl rfl trivial ?_
                                                                                                                  obtain ⟨i71, ei71, h⟩ := h
                                                                                                                  rw [ei71]
                                                                                                                  obtain ⟨c72, c73, h⟩ := h
                                                                                                                  refine E_blk (lv' := [some (vr (some (11, this))), some (vi v1), some (vi v2), some (vi v3), some (vi (mI M 300 i70 (mI M 145 i71 (mI M 11 this 75).toNatClampNeg).toNatClampNeg))]) (st' := []) (M1 := M) (pc' := 680) (tb_Model hγ) [.getfield 450, .aload_n 0, .getfield 768, .iaload, .iaload, .istore 4] (by decide +kernel) rfl rfl ⟨c72, c73, trivial⟩ ?_
                                                                                                                  obtain ⟨x74, ex74, h⟩ := h
                                                                                                                  rw [← ex74]
                                                                                                                  refine E_blk (lv' := [some (vr (some (11, this))), some (vi v1), some (vi v2), some (vi v3), some (vi x74)]) (st' := [vi (1 : Int32), vi x74, vr (some (11, this))]) (M1 := M) (pc' := 684) (tb_Model hγ) [.aload_n 0, .iload 4, .iconst 1] (by decide +kernel) rfl rfl trivial ?_
                                                                                                                  refine E_icmp_le (off := 8) (tgt := 692) (by decide +kernel) (by decide) (fun b75 => ?_) (fun b75 => ?_)
                                                                                                                  · rw [if_pos b75] at h
                                                                                                                    refine E_blk (lv' := [some (vr (some (11, this))), some (vi v1), some (vi v2), some (vi v3), some (vi x74)]) (st' := [vi (6 : Int32), vr (some (11, this))]) (M1 := M) (pc' := 694) (tb_Model hγ) [.bipush 6] (by decide +kernel) rfl rfl trivial ?_
                                                                                                                    refine E_mask [false, false, false, false, false] rfl ?_
                                                                                                                    exact lk_Model_listWants_j694 hγ this Q (6 : Int32) M h
                                                                                                                  · rw [if_neg b75] at h
                                                                                                                    refine E_blk (lv' := [some (vr (some (11, this))), some (vi v1), some (vi v2), some (vi v3), some (vi x74)]) (st' := [vi x74, vr (some (11, this))]) (M1 := M) (pc' := 689) (tb_Model hγ) [.iload 4] (by decide +kernel) rfl rfl trivial ?_
                                                                                                                    refine E_goto (off := 5) (tgt := 694) (by decide +kernel) (by decide) ?_
                                                                                                                    refine E_mask [false, false, false, false, false] rfl ?_
                                                                                                                    exact lk_Model_listWants_j694 hγ this Q x74 M h
                                                                                                                · rw [if_neg b65] at h
                                                                                                                  by_cases b66 : v1 = (60 : Int32)
                                                                                                                  · rw [if_pos b66] at h
                                                                                                                    refine E.up (fun _ _ hJ => J_tswI (len := 240) (dflt := 520) (lo := 6) (hi := 61) (offs := #[240, 520, 520, 520, 520, 520, 520, 520, 520, 520, 520, 520, 520, 249, 249, 258, 258, 520, 520, 520, 520, 520, 520, 520, 520, 520, 520, 520, 520, 520, 288, 288, 273, 273, 520, 520, 520, 297, 310, 328, 336, 355, 520, 387, 403, 422, 520, 403, 288, 288, 465, 520, 520, 481, 288, 288]) (off := 288) (tgt := 468) (by decide +kernel) (by rw [b66]; decide) (by rw [b66]; decide) (by rw [b66]; rfl) (by decide) hJ) ?_
                                                                                                                    refine E_blk (lv' := [some (vr (some (11, this))), some (vi v1), some (vi v2), some (vi v3), some (vi v4)]) (st' := [vi (6 : Int32), vr (some (11, this))]) (M1 := M) (pc' := 471) (tb_Model hγ) [.aload_n 0, .bipush 6] (by decide +kernel) rfl rfl trivial ?_
                                                                                                                    refine E_callV (κ' := k_Model_want) (As := [vi (6 : Int32)]) (st := []) mv_Model_want (Or.inl (tbk_mem (j := 15) (k := 225) rfl)) rfl (by decide +kernel) (Nat.le_of_ble_eq_true rfl) (Nat.le_of_ble_eq_true rfl) rfl (by decide) (lk_Model_want hγ this (6 : Int32) _ M h) (fun _ _ => Qv_r) (fun v M69 hp => Qv_k (R := fun st => E γ k_Model_listWants 1 474 [some (vr (some (11, this))), some (vi v1), some (vi v2), some (vi v3), some (vi v4)] st M69 (Qv Q)) hp (fun h => ?_))
                                                                                                                    refine E_goto (off := 226) (tgt := 700) (by decide +kernel) (by decide) ?_
                                                                                                                    exact E_vret rfl (by decide +kernel) h
                                                                                                                  · rw [if_neg b66] at h
                                                                                                                    by_cases b67 : v1 = (61 : Int32)
                                                                                                                    · rw [if_pos b67] at h
                                                                                                                      refine E.up (fun _ _ hJ => J_tswI (len := 240) (dflt := 520) (lo := 6) (hi := 61) (offs := #[240, 520, 520, 520, 520, 520, 520, 520, 520, 520, 520, 520, 520, 249, 249, 258, 258, 520, 520, 520, 520, 520, 520, 520, 520, 520, 520, 520, 520, 520, 288, 288, 273, 273, 520, 520, 520, 297, 310, 328, 336, 355, 520, 387, 403, 422, 520, 403, 288, 288, 465, 520, 520, 481, 288, 288]) (off := 288) (tgt := 468) (by decide +kernel) (by rw [b67]; decide) (by rw [b67]; decide) (by rw [b67]; rfl) (by decide) hJ) ?_
                                                                                                                      refine E_blk (lv' := [some (vr (some (11, this))), some (vi v1), some (vi v2), some (vi v3), some (vi v4)]) (st' := [vi (6 : Int32), vr (some (11, this))]) (M1 := M) (pc' := 471) (tb_Model hγ) [.aload_n 0, .bipush 6] (by decide +kernel) rfl rfl trivial ?_
                                                                                                                      refine E_callV (κ' := k_Model_want) (As := [vi (6 : Int32)]) (st := []) mv_Model_want (Or.inl (tbk_mem (j := 15) (k := 225) rfl)) rfl (by decide +kernel) (Nat.le_of_ble_eq_true rfl) (Nat.le_of_ble_eq_true rfl) rfl (by decide) (lk_Model_want hγ this (6 : Int32) _ M h) (fun _ _ => Qv_r) (fun v M68 hp => Qv_k (R := fun st => E γ k_Model_listWants 1 474 [some (vr (some (11, this))), some (vi v1), some (vi v2), some (vi v3), some (vi v4)] st M68 (Qv Q)) hp (fun h => ?_))
                                                                                                                      refine E_goto (off := 226) (tgt := 700) (by decide +kernel) (by decide) ?_
                                                                                                                      exact E_vret rfl (by decide +kernel) h
                                                                                                                    · rw [if_neg b67] at h
                                                                                                                      refine E.up (fun _ _ hJ => J_tswO (len := 240) (dflt := 520) (lo := 6) (hi := 61) (offs := #[240, 520, 520, 520, 520, 520, 520, 520, 520, 520, 520, 520, 520, 249, 249, 258, 258, 520, 520, 520, 520, 520, 520, 520, 520, 520, 520, 520, 520, 520, 288, 288, 273, 273, 520, 520, 520, 297, 310, 328, 336, 355, 520, 387, 403, 422, 520, 403, 288, 288, 465, 520, 520, 481, 288, 288]) (tgt := 700) (by decide +kernel) ?_ (by decide) hJ) ?_
                                                                                                                      · have q := sw0 (x := v1) 6
                                                                                                                        replace q : (v1).toInt < 6 ∨ 7 ≤ (v1).toInt := sw1 q b12 rfl rfl
                                                                                                                        replace q : (v1).toInt < 6 ∨ 8 ≤ (v1).toInt := sw1 q b13 rfl rfl
                                                                                                                        replace q : (v1).toInt < 6 ∨ 9 ≤ (v1).toInt := sw1 q b14 rfl rfl
                                                                                                                        replace q : (v1).toInt < 6 ∨ 10 ≤ (v1).toInt := sw1 q b15 rfl rfl
                                                                                                                        replace q : (v1).toInt < 6 ∨ 11 ≤ (v1).toInt := sw1 q b16 rfl rfl
                                                                                                                        replace q : (v1).toInt < 6 ∨ 12 ≤ (v1).toInt := sw1 q b17 rfl rfl
                                                                                                                        replace q : (v1).toInt < 6 ∨ 13 ≤ (v1).toInt := sw1 q b18 rfl rfl
                                                                                                                        replace q : (v1).toInt < 6 ∨ 14 ≤ (v1).toInt := sw1 q b19 rfl rfl
                                                                                                                        replace q : (v1).toInt < 6 ∨ 15 ≤ (v1).toInt := sw1 q b20 rfl rfl
                                                                                                                        replace q : (v1).toInt < 6 ∨ 16 ≤ (v1).toInt := sw1 q b21 rfl rfl
                                                                                                                        replace q : (v1).toInt < 6 ∨ 17 ≤ (v1).toInt := sw1 q b22 rfl rfl
                                                                                                                        replace q : (v1).toInt < 6 ∨ 18 ≤ (v1).toInt := sw1 q b23 rfl rfl
                                                                                                                        replace q : (v1).toInt < 6 ∨ 19 ≤ (v1).toInt := sw1 q b24 rfl rfl
                                                                                                                        replace q : (v1).toInt < 6 ∨ 20 ≤ (v1).toInt := sw1 q b25 rfl rfl
                                                                                                                        replace q : (v1).toInt < 6 ∨ 21 ≤ (v1).toInt := sw1 q b26 rfl rfl
                                                                                                                        replace q : (v1).toInt < 6 ∨ 22 ≤ (v1).toInt := sw1 q b27 rfl rfl
                                                                                                                        replace q : (v1).toInt < 6 ∨ 23 ≤ (v1).toInt := sw1 q b28 rfl rfl
                                                                                                                        replace q : (v1).toInt < 6 ∨ 24 ≤ (v1).toInt := sw1 q b29 rfl rfl
                                                                                                                        replace q : (v1).toInt < 6 ∨ 25 ≤ (v1).toInt := sw1 q b30 rfl rfl
                                                                                                                        replace q : (v1).toInt < 6 ∨ 26 ≤ (v1).toInt := sw1 q b31 rfl rfl
                                                                                                                        replace q : (v1).toInt < 6 ∨ 27 ≤ (v1).toInt := sw1 q b32 rfl rfl
                                                                                                                        replace q : (v1).toInt < 6 ∨ 28 ≤ (v1).toInt := sw1 q b33 rfl rfl
                                                                                                                        replace q : (v1).toInt < 6 ∨ 29 ≤ (v1).toInt := sw1 q b34 rfl rfl
                                                                                                                        replace q : (v1).toInt < 6 ∨ 30 ≤ (v1).toInt := sw1 q b35 rfl rfl
                                                                                                                        replace q : (v1).toInt < 6 ∨ 31 ≤ (v1).toInt := sw1 q b36 rfl rfl
                                                                                                                        replace q : (v1).toInt < 6 ∨ 32 ≤ (v1).toInt := sw1 q b37 rfl rfl
                                                                                                                        replace q : (v1).toInt < 6 ∨ 33 ≤ (v1).toInt := sw1 q b38 rfl rfl
                                                                                                                        replace q : (v1).toInt < 6 ∨ 34 ≤ (v1).toInt := sw1 q b39 rfl rfl
                                                                                                                        replace q : (v1).toInt < 6 ∨ 35 ≤ (v1).toInt := sw1 q b40 rfl rfl
                                                                                                                        replace q : (v1).toInt < 6 ∨ 36 ≤ (v1).toInt := sw1 q b41 rfl rfl
                                                                                                                        replace q : (v1).toInt < 6 ∨ 37 ≤ (v1).toInt := sw1 q b42 rfl rfl
                                                                                                                        replace q : (v1).toInt < 6 ∨ 38 ≤ (v1).toInt := sw1 q b43 rfl rfl
                                                                                                                        replace q : (v1).toInt < 6 ∨ 39 ≤ (v1).toInt := sw1 q b44 rfl rfl
                                                                                                                        replace q : (v1).toInt < 6 ∨ 40 ≤ (v1).toInt := sw1 q b45 rfl rfl
                                                                                                                        replace q : (v1).toInt < 6 ∨ 41 ≤ (v1).toInt := sw1 q b46 rfl rfl
                                                                                                                        replace q : (v1).toInt < 6 ∨ 42 ≤ (v1).toInt := sw1 q b47 rfl rfl
                                                                                                                        replace q : (v1).toInt < 6 ∨ 43 ≤ (v1).toInt := sw1 q b48 rfl rfl
                                                                                                                        replace q : (v1).toInt < 6 ∨ 44 ≤ (v1).toInt := sw1 q b49 rfl rfl
                                                                                                                        replace q : (v1).toInt < 6 ∨ 45 ≤ (v1).toInt := sw1 q b50 rfl rfl
                                                                                                                        replace q : (v1).toInt < 6 ∨ 46 ≤ (v1).toInt := sw1 q b51 rfl rfl
                                                                                                                        replace q : (v1).toInt < 6 ∨ 47 ≤ (v1).toInt := sw1 q b52 rfl rfl
                                                                                                                        replace q : (v1).toInt < 6 ∨ 48 ≤ (v1).toInt := sw1 q b53 rfl rfl
                                                                                                                        replace q : (v1).toInt < 6 ∨ 49 ≤ (v1).toInt := sw1 q b54 rfl rfl
                                                                                                                        replace q : (v1).toInt < 6 ∨ 50 ≤ (v1).toInt := sw1 q b55 rfl rfl
                                                                                                                        replace q : (v1).toInt < 6 ∨ 51 ≤ (v1).toInt := sw1 q b56 rfl rfl
                                                                                                                        replace q : (v1).toInt < 6 ∨ 52 ≤ (v1).toInt := sw1 q b57 rfl rfl
                                                                                                                        replace q : (v1).toInt < 6 ∨ 53 ≤ (v1).toInt := sw1 q b58 rfl rfl
                                                                                                                        replace q : (v1).toInt < 6 ∨ 54 ≤ (v1).toInt := sw1 q b59 rfl rfl
                                                                                                                        replace q : (v1).toInt < 6 ∨ 55 ≤ (v1).toInt := sw1 q b60 rfl rfl
                                                                                                                        replace q : (v1).toInt < 6 ∨ 56 ≤ (v1).toInt := sw1 q b61 rfl rfl
                                                                                                                        replace q : (v1).toInt < 6 ∨ 57 ≤ (v1).toInt := sw1 q b62 rfl rfl
                                                                                                                        replace q : (v1).toInt < 6 ∨ 58 ≤ (v1).toInt := sw1 q b63 rfl rfl
                                                                                                                        replace q : (v1).toInt < 6 ∨ 59 ≤ (v1).toInt := sw1 q b64 rfl rfl
                                                                                                                        replace q : (v1).toInt < 6 ∨ 60 ≤ (v1).toInt := sw1 q b65 rfl rfl
                                                                                                                        replace q : (v1).toInt < 6 ∨ 61 ≤ (v1).toInt := sw1 q b66 rfl rfl
                                                                                                                        replace q : (v1).toInt < 6 ∨ 62 ≤ (v1).toInt := sw1 q b67 rfl rfl
                                                                                                                        omega
                                                                                                                      · exact E_vret rfl (by decide +kernel) h
    · rw [if_neg b11] at h
      refine E_blk (lv' := [some (vr (some (11, this))), some (vi v1), some (vi v2), some (vi v3), some (vi v4)]) (st' := [vr (mR M 11 this 35), vr (some (11, this))]) (M1 := M) (pc' := 160) (tb_Model hγ) [.aload_n 0, .aload_n 0, .getfield 86] (by decide +kernel) rfl rfl trivial ?_
      obtain ⟨i130, ei130, h⟩ := h
      rw [ei130]
      refine E_blk (lv' := [some (vr (some (11, this))), some (vi v1), some (vi v2), some (vi v3), some (vi v4)]) (st' := [vr (mR M 11 this 30), vr (some (300, i130)), vr (some (11, this))]) (M1 := M) (pc' := 164) (tb_Model hγ) [.aload_n 0, .getfield 74] (by decide +kernel) rfl rfl trivial ?_
      obtain ⟨i131, ei131, h⟩ := h
      rw [ei131]
      obtain ⟨c132, c133, h⟩ := h
      refine E_blk (lv' := [some (vr (some (11, this))), some (vi v1), some (vi v2), some (vi v3), some (vi v4)]) (st' := [vi (mI M 300 i130 ((mI M 300 i131 v3.toNatClampNeg) + v4).toNatClampNeg), vr (some (11, this))]) (M1 := M) (pc' := 170) (tb_Model hγ) [.iload_n 3, .iaload, .iload 4, .iadd, .iaload] (by decide +kernel) rfl rfl ⟨c132, c133, trivial⟩ ?_
      refine E_callV (κ' := k_Model_want) (As := [vi (mI M 300 i130 ((mI M 300 i131 v3.toNatClampNeg) + v4).toNatClampNeg)]) (st := []) mv_Model_want (Or.inl (tbk_mem (j := 15) (k := 225) rfl)) rfl (by decide +kernel) (Nat.le_of_ble_eq_true rfl) (Nat.le_of_ble_eq_true rfl) rfl (by decide) (lk_Model_want hγ this (mI M 300 i130 ((mI M 300 i131 v3.toNatClampNeg) + v4).toNatClampNeg) _ M h) (fun _ _ => Qv_r) (fun v M134 hp => Qv_k (R := fun st => E γ k_Model_listWants 1 173 [some (vr (some (11, this))), some (vi v1), some (vi v2), some (vi v3), some (vi v4)] st M134 (Qv Q)) hp (fun h => ?_))
      refine E_blk (lv' := [some (vr (some (11, this))), some (vi v1), some (vi v2), some (vi v3), some (vi (v4 + (-1 : Int32)))]) (st' := []) (M1 := M134) (pc' := 176) (tb_Model hγ) [.iinc 4 (.negSucc 0)] (by decide +kernel) rfl rfl trivial ?_
      refine E_goto (off := -26) (tgt := 150) (by decide +kernel) (by decide) ?_
      refine E_mask [true, true, true, true, true] rfl ?_
      exact ih v1 v2 v3 (v4 + (-1 : Int32)) M134 h
set_option maxRecDepth 4096 in
theorem lk_Model_listWants_j148 {γ : Gm} (hγ : Gk γ) (this : Nat) (Q : Mem → Prop) (v1 : Int32) (v2 : Int32) (v3 : Int32) (s0 : Int32) (M : Mem) (h : w_Model_listWants_j148 this Q v1 v2 v3 s0 M) : E γ k_Model_listWants 1 148 [some (vr (some (11, this))), some (vi v1), some (vi v2), some (vi v3), none] [vi s0] M (Qv Q) := by
  unfold w_Model_listWants_j148 at h
  refine E_blk (lv' := [some (vr (some (11, this))), some (vi v1), some (vi v2), some (vi v3), some (vi s0)]) (st' := []) (M1 := M) (pc' := 150) (tb_Model hγ) [.istore 4] (by decide +kernel) rfl rfl trivial ?_
  obtain ⟨n135, h⟩ := h
  refine E_mask [true, true, true, true, true] rfl ?_
  exact lk_Model_listWants_L150 hγ this Q n135 v1 v2 v3 s0 M h
set_option maxRecDepth 4096 in
theorem lk_Model_listWants_j147 {γ : Gm} (hγ : Gk γ) (this : Nat) (Q : Mem → Prop) (v1 : Int32) (v2 : Int32) (v3 : Int32) (M : Mem) (h : w_Model_listWants_j147 this Q v1 v2 v3 M) : E γ k_Model_listWants 1 147 [some (vr (some (11, this))), some (vi v1), some (vi v2), some (vi v3), none] [] M (Qv Q) := by
  unfold w_Model_listWants_j147 at h
  refine E_blk (lv' := [some (vr (some (11, this))), some (vi v1), some (vi v2), some (vi v3), none]) (st' := [vi (-1 : Int32)]) (M1 := M) (pc' := 148) (tb_Model hγ) [.iconst (.negSucc 0)] (by decide +kernel) rfl rfl trivial ?_
  refine E_mask [true, true, true, true, false] rfl ?_
  exact lk_Model_listWants_j148 hγ this Q v1 v2 v3 (-1 : Int32) M h
set_option maxRecDepth 4096 in
theorem lk_Model_listWants_j123 {γ : Gm} (hγ : Gk γ) (this : Nat) (Q : Mem → Prop) (v1 : Int32) (v2 : Int32) (s0 : Int32) (M : Mem) (h : w_Model_listWants_j123 this Q v1 v2 s0 M) : E γ k_Model_listWants 1 123 [some (vr (some (11, this))), some (vi v1), some (vi v2), none, none] [vi s0] M (Qv Q) := by
  unfold w_Model_listWants_j123 at h
  refine E_blk (lv' := [some (vr (some (11, this))), some (vi v1), some (vi v2), some (vi s0), none]) (st' := [vi (50 : Int32), vi v1]) (M1 := M) (pc' := 127) (tb_Model hγ) [.istore_n 3, .iload_n 1, .bipush 50] (by decide +kernel) rfl rfl trivial ?_
  refine E_icmp_lt (off := 20) (tgt := 147) (by decide +kernel) (by decide) (fun b10 => ?_) (fun b10 => ?_)
  · rw [if_pos b10] at h
    refine E_mask [true, true, true, true, false] rfl ?_
    exact lk_Model_listWants_j147 hγ this Q v1 v2 s0 M h
  · rw [if_neg b10] at h
    refine E_blk (lv' := [some (vr (some (11, this))), some (vi v1), some (vi v2), some (vi s0), none]) (st' := [vi (53 : Int32), vi v1]) (M1 := M) (pc' := 133) (tb_Model hγ) [.iload_n 1, .bipush 53] (by decide +kernel) rfl rfl trivial ?_
    refine E_icmp_gt (off := 14) (tgt := 147) (by decide +kernel) (by decide) (fun b136 => ?_) (fun b136 => ?_)
    · rw [if_pos b136] at h
      refine E_mask [true, true, true, true, false] rfl ?_
      exact lk_Model_listWants_j147 hγ this Q v1 v2 s0 M h
    · rw [if_neg b136] at h
      refine E_blk (lv' := [some (vr (some (11, this))), some (vi v1), some (vi v2), some (vi s0), none]) (st' := [vr (mR M 11 this 31)]) (M1 := M) (pc' := 140) (tb_Model hγ) [.aload_n 0, .getfield 80] (by decide +kernel) rfl rfl trivial ?_
      obtain ⟨i137, ei137, h⟩ := h
      rw [ei137]
      obtain ⟨c138, h⟩ := h
      refine E_blk (lv' := [some (vr (some (11, this))), some (vi v1), some (vi v2), some (vi s0), none]) (st' := [vi ((mI M 300 i137 s0.toNatClampNeg) - (1 : Int32))]) (M1 := M) (pc' := 144) (tb_Model hγ) [.iload_n 3, .iaload, .iconst 1, .isub] (by decide +kernel) rfl rfl ⟨c138, trivial⟩ ?_
      refine E_goto (off := 4) (tgt := 148) (by decide +kernel) (by decide) ?_
      refine E_mask [true, true, true, true, false] rfl ?_
      exact lk_Model_listWants_j148 hγ this Q v1 v2 s0 ((mI M 300 i137 s0.toNatClampNeg) - (1 : Int32)) M h
set_option maxRecDepth 4096 in
theorem lk_Model_listWants_j122 {γ : Gm} (hγ : Gk γ) (this : Nat) (Q : Mem → Prop) (v1 : Int32) (v2 : Int32) (M : Mem) (h : w_Model_listWants_j122 this Q v1 v2 M) : E γ k_Model_listWants 1 122 [some (vr (some (11, this))), some (vi v1), some (vi v2), none, none] [] M (Qv Q) := by
  unfold w_Model_listWants_j122 at h
  refine E_blk (lv' := [some (vr (some (11, this))), some (vi v1), some (vi v2), none, none]) (st' := [vi (0 : Int32)]) (M1 := M) (pc' := 123) (tb_Model hγ) [.iconst 0] (by decide +kernel) rfl rfl trivial ?_
  refine E_mask [true, true, true, false, false] rfl ?_
  exact lk_Model_listWants_j123 hγ this Q v1 v2 (0 : Int32) M h
set_option maxRecDepth 4096 in
theorem lk_Model_listWants_j98 {γ : Gm} (hγ : Gk γ) (this : Nat) (Q : Mem → Prop) (v1 : Int32) (v2 : Int32) (M : Mem) (h : w_Model_listWants_j98 this Q v1 v2 M) : E γ k_Model_listWants 1 98 [some (vr (some (11, this))), some (vi v1), some (vi v2), none, none] [] M (Qv Q) := by
  unfold w_Model_listWants_j98 at h
  refine E_blk (lv' := [some (vr (some (11, this))), some (vi v1), some (vi v2), none, none]) (st' := [vi (50 : Int32), vi v1]) (M1 := M) (pc' := 101) (tb_Model hγ) [.iload_n 1, .bipush 50] (by decide +kernel) rfl rfl trivial ?_
  refine E_icmp_lt (off := 21) (tgt := 122) (by decide +kernel) (by decide) (fun b9 => ?_) (fun b9 => ?_)
  · rw [if_pos b9] at h
    refine E_mask [true, true, true, false, false] rfl ?_
    exact lk_Model_listWants_j122 hγ this Q v1 v2 M h
  · rw [if_neg b9] at h
    refine E_blk (lv' := [some (vr (some (11, this))), some (vi v1), some (vi v2), none, none]) (st' := [vi (53 : Int32), vi v1]) (M1 := M) (pc' := 107) (tb_Model hγ) [.iload_n 1, .bipush 53] (by decide +kernel) rfl rfl trivial ?_
    refine E_icmp_gt (off := 15) (tgt := 122) (by decide +kernel) (by decide) (fun b139 => ?_) (fun b139 => ?_)
    · rw [if_pos b139] at h
      refine E_mask [true, true, true, false, false] rfl ?_
      exact lk_Model_listWants_j122 hγ this Q v1 v2 M h
    · rw [if_neg b139] at h
      refine E_blk (lv' := [some (vr (some (11, this))), some (vi v1), some (vi v2), none, none]) (st' := [vr (mR M 11 this 45)]) (M1 := M) (pc' := 114) (tb_Model hγ) [.aload_n 0, .getfield 522] (by decide +kernel) rfl rfl trivial ?_
      obtain ⟨i140, ei140, h⟩ := h
      rw [ei140]
      refine E_blk (lv' := [some (vr (some (11, this))), some (vi v1), some (vi v2), none, none]) (st' := [vr (mR M 12 i140 33)]) (M1 := M) (pc' := 117) (tb_Model hγ) [.getfield 683] (by decide +kernel) rfl rfl trivial ?_
      obtain ⟨i141, ei141, h⟩ := h
      rw [ei141]
      obtain ⟨c142, h⟩ := h
      refine E_blk (lv' := [some (vr (some (11, this))), some (vi v1), some (vi v2), none, none]) (st' := [vi (mI M 300 i141 v2.toNatClampNeg)]) (M1 := M) (pc' := 119) (tb_Model hγ) [.iload_n 2, .iaload] (by decide +kernel) rfl rfl ⟨c142, trivial⟩ ?_
      refine E_goto (off := 4) (tgt := 123) (by decide +kernel) (by decide) ?_
      refine E_mask [true, true, true, false, false] rfl ?_
      exact lk_Model_listWants_j123 hγ this Q v1 v2 (mI M 300 i141 v2.toNatClampNeg) M h
set_option maxRecDepth 4096 in
theorem lk_Model_listWants_j46 {γ : Gm} (hγ : Gk γ) (this : Nat) (Q : Mem → Prop) (v1 : Int32) (v2 : Int32) (M : Mem) (h : w_Model_listWants_j46 this Q v1 v2 M) : E γ k_Model_listWants 1 46 [some (vr (some (11, this))), some (vi v1), some (vi v2), none, none] [] M (Qv Q) := by
  unfold w_Model_listWants_j46 at h
  refine E_blk (lv' := [some (vr (some (11, this))), some (vi v1), some (vi v2), none, none]) (st' := [vi (40 : Int32), vi v1]) (M1 := M) (pc' := 49) (tb_Model hγ) [.iload_n 1, .bipush 40] (by decide +kernel) rfl rfl trivial ?_
  refine E_icmp_eq (off := 20) (tgt := 69) (by decide +kernel) (by decide) (fun b3 => ?_) (fun b3 => ?_)
  · rw [if_pos b3] at h
    refine E_mask [true, false, false, false, false] rfl ?_
    exact lk_Model_listWants_j69 hγ this Q  M h
  · rw [if_neg b3] at h
    refine E_blk (lv' := [some (vr (some (11, this))), some (vi v1), some (vi v2), none, none]) (st' := [vi (5 : Int32), vi v1]) (M1 := M) (pc' := 54) (tb_Model hγ) [.iload_n 1, .iconst 5] (by decide +kernel) rfl rfl trivial ?_
    refine E_icmp_eq (off := 15) (tgt := 69) (by decide +kernel) (by decide) (fun b5 => ?_) (fun b5 => ?_)
    · rw [if_pos b5] at h
      refine E_mask [true, false, false, false, false] rfl ?_
      exact lk_Model_listWants_j69 hγ this Q  M h
    · rw [if_neg b5] at h
      refine E_blk (lv' := [some (vr (some (11, this))), some (vi v1), some (vi v2), none, none]) (st' := [vi (42 : Int32), vi v1]) (M1 := M) (pc' := 60) (tb_Model hγ) [.iload_n 1, .bipush 42] (by decide +kernel) rfl rfl trivial ?_
      refine E_icmp_eq (off := 9) (tgt := 69) (by decide +kernel) (by decide) (fun b6 => ?_) (fun b6 => ?_)
      · rw [if_pos b6] at h
        refine E_mask [true, false, false, false, false] rfl ?_
        exact lk_Model_listWants_j69 hγ this Q  M h
      · rw [if_neg b6] at h
        refine E_blk (lv' := [some (vr (some (11, this))), some (vi v1), some (vi v2), none, none]) (st' := [vi (58 : Int32), vi v1]) (M1 := M) (pc' := 66) (tb_Model hγ) [.iload_n 1, .bipush 58] (by decide +kernel) rfl rfl trivial ?_
        refine E_icmp_ne (off := 9) (tgt := 75) (by decide +kernel) (by decide) (fun b7 => ?_) (fun b7 => ?_)
        · rw [if_pos b7] at h
          refine E_mask [true, false, false, false, false] rfl ?_
          exact lk_Model_listWants_j69 hγ this Q  M h
        · rw [if_neg b7] at h
          refine E_blk (lv' := [some (vr (some (11, this))), some (vi v1), some (vi v2), none, none]) (st' := [vi (30 : Int32), vi v1]) (M1 := M) (pc' := 78) (tb_Model hγ) [.iload_n 1, .bipush 30] (by decide +kernel) rfl rfl trivial ?_
          refine E_icmp_lt (off := 20) (tgt := 98) (by decide +kernel) (by decide) (fun b8 => ?_) (fun b8 => ?_)
          · rw [if_pos b8] at h
            refine E_mask [true, true, true, false, false] rfl ?_
            exact lk_Model_listWants_j98 hγ this Q v1 v2 M h
          · rw [if_neg b8] at h
            refine E_blk (lv' := [some (vr (some (11, this))), some (vi v1), some (vi v2), none, none]) (st' := [vi (35 : Int32), vi v1]) (M1 := M) (pc' := 84) (tb_Model hγ) [.iload_n 1, .bipush 35] (by decide +kernel) rfl rfl trivial ?_
            refine E_icmp_gt (off := 14) (tgt := 98) (by decide +kernel) (by decide) (fun b143 => ?_) (fun b143 => ?_)
            · rw [if_pos b143] at h
              refine E_mask [true, true, true, false, false] rfl ?_
              exact lk_Model_listWants_j98 hγ this Q v1 v2 M h
            · rw [if_neg b143] at h
              refine E_blk (lv' := [some (vr (some (11, this))), some (vi v1), some (vi v2), none, none]) (st' := [vi (1 : Int32), vr (some (11, this))]) (M1 := M) (pc' := 89) (tb_Model hγ) [.aload_n 0, .iconst 1] (by decide +kernel) rfl rfl trivial ?_
              refine E_callV (κ' := k_Model_want) (As := [vi (1 : Int32)]) (st := []) mv_Model_want (Or.inl (tbk_mem (j := 15) (k := 225) rfl)) rfl (by decide +kernel) (Nat.le_of_ble_eq_true rfl) (Nat.le_of_ble_eq_true rfl) rfl (by decide) (lk_Model_want hγ this (1 : Int32) _ M h) (fun _ _ => Qv_r) (fun v M144 hp => Qv_k (R := fun st => E γ k_Model_listWants 1 92 [some (vr (some (11, this))), some (vi v1), some (vi v2), none, none] st M144 (Qv Q)) hp (fun h => ?_))
              refine E_blk (lv' := [some (vr (some (11, this))), some (vi v1), some (vi v2), none, none]) (st' := [vi (1 : Int32), vr (some (11, this))]) (M1 := M144) (pc' := 94) (tb_Model hγ) [.aload_n 0, .iconst 1] (by decide +kernel) rfl rfl trivial ?_
              refine E_callV (κ' := k_Model_want) (As := [vi (1 : Int32)]) (st := []) mv_Model_want (Or.inl (tbk_mem (j := 15) (k := 225) rfl)) rfl (by decide +kernel) (Nat.le_of_ble_eq_true rfl) (Nat.le_of_ble_eq_true rfl) rfl (by decide) (lk_Model_want hγ this (1 : Int32) _ M144 h) (fun _ _ => Qv_r) (fun v M145 hp => Qv_k (R := fun st => E γ k_Model_listWants 1 97 [some (vr (some (11, this))), some (vi v1), some (vi v2), none, none] st M145 (Qv Q)) hp (fun h => ?_))
              exact E_vret rfl (by decide +kernel) h
set_option maxRecDepth 4096 in
theorem lk_Model_listWants_j34 {γ : Gm} (hγ : Gk γ) (this : Nat) (Q : Mem → Prop) (v1 : Int32) (v2 : Int32) (M : Mem) (h : w_Model_listWants_j34 this Q v1 v2 M) : E γ k_Model_listWants 1 34 [some (vr (some (11, this))), some (vi v1), some (vi v2), none, none] [] M (Qv Q) := by
  unfold w_Model_listWants_j34 at h
  refine E_blk (lv' := [some (vr (some (11, this))), some (vi v1), some (vi v2), none, none]) (st' := [vi (24 : Int32), vi v1]) (M1 := M) (pc' := 37) (tb_Model hγ) [.iload_n 1, .bipush 24] (by decide +kernel) rfl rfl trivial ?_
  refine E_icmp_lt (off := 9) (tgt := 46) (by decide +kernel) (by decide) (fun b2 => ?_) (fun b2 => ?_)
  · rw [if_pos b2] at h
    refine E_mask [true, true, true, false, false] rfl ?_
    exact lk_Model_listWants_j46 hγ this Q v1 v2 M h
  · rw [if_neg b2] at h
    refine E_blk (lv' := [some (vr (some (11, this))), some (vi v1), some (vi v2), none, none]) (st' := [vi (29 : Int32), vi v1]) (M1 := M) (pc' := 43) (tb_Model hγ) [.iload_n 1, .bipush 29] (by decide +kernel) rfl rfl trivial ?_
    refine E_icmp_le (off := 26) (tgt := 69) (by decide +kernel) (by decide) (fun b146 => ?_) (fun b146 => ?_)
    · rw [if_pos b146] at h
      refine E_mask [true, false, false, false, false] rfl ?_
      exact lk_Model_listWants_j69 hγ this Q  M h
    · rw [if_neg b146] at h
      refine E_mask [true, true, true, false, false] rfl ?_
      exact lk_Model_listWants_j46 hγ this Q v1 v2 M h
set_option maxRecDepth 4096 in
theorem lk_Model_listWants {γ : Gm} (hγ : Gk γ) (this : Nat) (a1 : Int32) (a2 : Int32) (Q : Mem → Prop) (M : Mem) (h : w_Model_listWants this a1 a2 Q M) : E γ k_Model_listWants 1 0 [some (vr (some (11, this))), some (vi a1), some (vi a2), none, none] [] M (Qv Q) := by
  unfold w_Model_listWants at h
  refine E_blk (lv' := [some (vr (some (11, this))), some (vi a1), some (vi a2), none, none]) (st' := [vi (8 : Int32), vi a1]) (M1 := (sI M 11 this 79 (0 : Int32))) (pc' := 8) (tb_Model hγ) [.aload_n 0, .iconst 0, .putfield 823, .iload_n 1, .bipush 8] (by decide +kernel) rfl rfl trivial ?_
  refine E_icmp_lt (off := 26) (tgt := 34) (by decide +kernel) (by decide) (fun b1 => ?_) (fun b1 => ?_)
  · rw [if_pos b1] at h
    refine E_mask [true, true, true, false, false] rfl ?_
    exact lk_Model_listWants_j34 hγ this Q a1 a2 (sI M 11 this 79 (0 : Int32)) h
  · rw [if_neg b1] at h
    refine E_blk (lv' := [some (vr (some (11, this))), some (vi a1), some (vi a2), none, none]) (st' := [vi (18 : Int32), vi a1]) (M1 := (sI M 11 this 79 (0 : Int32))) (pc' := 14) (tb_Model hγ) [.iload_n 1, .bipush 18] (by decide +kernel) rfl rfl trivial ?_
    refine E_icmp_gt (off := 20) (tgt := 34) (by decide +kernel) (by decide) (fun b147 => ?_) (fun b147 => ?_)
    · rw [if_pos b147] at h
      refine E_mask [true, true, true, false, false] rfl ?_
      exact lk_Model_listWants_j34 hγ this Q a1 a2 (sI M 11 this 79 (0 : Int32)) h
    · rw [if_neg b147] at h
      refine E_blk (lv' := [some (vr (some (11, this))), some (vi a1), some (vi a2), none, none]) (st' := [vi (1 : Int32), vr (some (11, this))]) (M1 := (sI M 11 this 79 (0 : Int32))) (pc' := 19) (tb_Model hγ) [.aload_n 0, .iconst 1] (by decide +kernel) rfl rfl trivial ?_
      refine E_callV (κ' := k_Model_want) (As := [vi (1 : Int32)]) (st := []) mv_Model_want (Or.inl (tbk_mem (j := 15) (k := 225) rfl)) rfl (by decide +kernel) (Nat.le_of_ble_eq_true rfl) (Nat.le_of_ble_eq_true rfl) rfl (by decide) (lk_Model_want hγ this (1 : Int32) _ (sI M 11 this 79 (0 : Int32)) h) (fun _ _ => Qv_r) (fun v M148 hp => Qv_k (R := fun st => E γ k_Model_listWants 1 22 [some (vr (some (11, this))), some (vi a1), some (vi a2), none, none] st M148 (Qv Q)) hp (fun h => ?_))
      refine E_blk (lv' := [some (vr (some (11, this))), some (vi a1), some (vi a2), none, none]) (st' := [vi (13 : Int32), vi a1]) (M1 := M148) (pc' := 25) (tb_Model hγ) [.iload_n 1, .bipush 13] (by decide +kernel) rfl rfl trivial ?_
      refine E_icmp_eq (off := 8) (tgt := 33) (by decide +kernel) (by decide) (fun b149 => ?_) (fun b149 => ?_)
      · rw [if_pos b149] at h
        exact E_vret rfl (by decide +kernel) h
      · rw [if_neg b149] at h
        refine E_blk (lv' := [some (vr (some (11, this))), some (vi a1), some (vi a2), none, none]) (st' := [vi (1 : Int32), vr (some (11, this))]) (M1 := M148) (pc' := 30) (tb_Model hγ) [.aload_n 0, .iconst 1] (by decide +kernel) rfl rfl trivial ?_
        refine E_callV (κ' := k_Model_want) (As := [vi (1 : Int32)]) (st := []) mv_Model_want (Or.inl (tbk_mem (j := 15) (k := 225) rfl)) rfl (by decide +kernel) (Nat.le_of_ble_eq_true rfl) (Nat.le_of_ble_eq_true rfl) rfl (by decide) (lk_Model_want hγ this (1 : Int32) _ M148 h) (fun _ _ => Qv_r) (fun v M150 hp => Qv_k (R := fun st => E γ k_Model_listWants 1 33 [some (vr (some (11, this))), some (vi a1), some (vi a2), none, none] st M150 (Qv Q)) hp (fun h => ?_))
        exact E_vret rfl (by decide +kernel) h
def w_Model_isRef (a1 : Int32) (Q : Int32 → Mem → Prop) (M : Mem) : Prop :=
  if a1 = (3 : Int32) then (Q (1 : Int32) M) else (if a1 = (2 : Int32) then (Q (1 : Int32) M) else (if a1 < (16 : Int32) then (Q (0 : Int32) M) else (Q (1 : Int32) M)))
set_option maxRecDepth 4096 in
theorem lk_Model_isRef {γ : Gm} (hγ : Gk γ) (a1 : Int32) (Q : Int32 → Mem → Prop) (M : Mem) (h : w_Model_isRef a1 Q M) : E γ k_Model_isRef 0 0 [some (vi a1)] [] M (Qi Q) := by
  unfold w_Model_isRef at h
  refine E_blk (lv' := [some (vi a1)]) (st' := [vi (3 : Int32), vi a1]) (M1 := M) (pc' := 2) (tb_Model hγ) [.iload_n 0, .iconst 3] (by decide +kernel) rfl rfl trivial ?_
  refine E_icmp_eq (off := 14) (tgt := 16) (by decide +kernel) (by decide) (fun b1 => ?_) (fun b1 => ?_)
  · rw [if_pos b1] at h
    refine E_blk (lv' := [some (vi a1)]) (st' := [vi (1 : Int32)]) (M1 := M) (pc' := 17) (tb_Model hγ) [.iconst 1] (by decide +kernel) rfl rfl trivial ?_
    refine E_goto (off := 4) (tgt := 21) (by decide +kernel) (by decide) ?_
    exact E_zret rfl (Or.inr rfl) (by decide +kernel) h
  · rw [if_neg b1] at h
    refine E_blk (lv' := [some (vi a1)]) (st' := [vi (2 : Int32), vi a1]) (M1 := M) (pc' := 7) (tb_Model hγ) [.iload_n 0, .iconst 2] (by decide +kernel) rfl rfl trivial ?_
    refine E_icmp_eq (off := 9) (tgt := 16) (by decide +kernel) (by decide) (fun b2 => ?_) (fun b2 => ?_)
    · rw [if_pos b2] at h
      refine E_blk (lv' := [some (vi a1)]) (st' := [vi (1 : Int32)]) (M1 := M) (pc' := 17) (tb_Model hγ) [.iconst 1] (by decide +kernel) rfl rfl trivial ?_
      refine E_goto (off := 4) (tgt := 21) (by decide +kernel) (by decide) ?_
      exact E_zret rfl (Or.inr rfl) (by decide +kernel) h
    · rw [if_neg b2] at h
      refine E_blk (lv' := [some (vi a1)]) (st' := [vi (16 : Int32), vi a1]) (M1 := M) (pc' := 13) (tb_Model hγ) [.iload_n 0, .bipush 16] (by decide +kernel) rfl rfl trivial ?_
      refine E_icmp_lt (off := 7) (tgt := 20) (by decide +kernel) (by decide) (fun b3 => ?_) (fun b3 => ?_)
      · rw [if_pos b3] at h
        refine E_blk (lv' := [some (vi a1)]) (st' := [vi (0 : Int32)]) (M1 := M) (pc' := 21) (tb_Model hγ) [.iconst 0] (by decide +kernel) rfl rfl trivial ?_
        exact E_zret rfl (Or.inl rfl) (by decide +kernel) h
      · rw [if_neg b3] at h
        refine E_blk (lv' := [some (vi a1)]) (st' := [vi (1 : Int32)]) (M1 := M) (pc' := 17) (tb_Model hγ) [.iconst 1] (by decide +kernel) rfl rfl trivial ?_
        refine E_goto (off := 4) (tgt := 21) (by decide +kernel) (by decide) ?_
        exact E_zret rfl (Or.inr rfl) (by decide +kernel) h
def w_Model_isUnmade (a1 : Int32) (Q : Int32 → Mem → Prop) (M : Mem) : Prop :=
  if a1 = (5 : Int32) then (Q (1 : Int32) M) else (if 0 ≤ a1 then (Q (0 : Int32) M) else (Q (1 : Int32) M))
set_option maxRecDepth 4096 in
theorem lk_Model_isUnmade {γ : Gm} (hγ : Gk γ) (a1 : Int32) (Q : Int32 → Mem → Prop) (M : Mem) (h : w_Model_isUnmade a1 Q M) : E γ k_Model_isUnmade 0 0 [some (vi a1)] [] M (Qi Q) := by
  unfold w_Model_isUnmade at h
  refine E_blk (lv' := [some (vi a1)]) (st' := [vi (5 : Int32), vi a1]) (M1 := M) (pc' := 2) (tb_Model hγ) [.iload_n 0, .iconst 5] (by decide +kernel) rfl rfl trivial ?_
  refine E_icmp_eq (off := 7) (tgt := 9) (by decide +kernel) (by decide) (fun b1 => ?_) (fun b1 => ?_)
  · rw [if_pos b1] at h
    refine E_blk (lv' := [some (vi a1)]) (st' := [vi (1 : Int32)]) (M1 := M) (pc' := 10) (tb_Model hγ) [.iconst 1] (by decide +kernel) rfl rfl trivial ?_
    refine E_goto (off := 4) (tgt := 14) (by decide +kernel) (by decide) ?_
    exact E_zret rfl (Or.inr rfl) (by decide +kernel) h
  · rw [if_neg b1] at h
    refine E_blk (lv' := [some (vi a1)]) (st' := [vi a1]) (M1 := M) (pc' := 6) (tb_Model hγ) [.iload_n 0] (by decide +kernel) rfl rfl trivial ?_
    refine E_if_ge (off := 7) (tgt := 13) (by decide +kernel) (by decide) (fun b2 => ?_) (fun b2 => ?_)
    · rw [if_pos b2] at h
      refine E_blk (lv' := [some (vi a1)]) (st' := [vi (0 : Int32)]) (M1 := M) (pc' := 14) (tb_Model hγ) [.iconst 0] (by decide +kernel) rfl rfl trivial ?_
      exact E_zret rfl (Or.inl rfl) (by decide +kernel) h
    · rw [if_neg b2] at h
      refine E_blk (lv' := [some (vi a1)]) (st' := [vi (1 : Int32)]) (M1 := M) (pc' := 10) (tb_Model hγ) [.iconst 1] (by decide +kernel) rfl rfl trivial ?_
      refine E_goto (off := 4) (tgt := 14) (by decide +kernel) (by decide) ?_
      exact E_zret rfl (Or.inr rfl) (by decide +kernel) h
def w_Model_checkTaken_j330 (this : Nat) (Q : Int32 → Mem → Prop) (v5 : Int32) (M : Mem) : Prop :=
  if v5 = 0 then (Q (0 : Int32) M) else (Q (39 : Int32) M)
def w_Model_checkTaken_j296 (this : Nat) (Q : Int32 → Mem → Prop) (v1 : Int32) (v4 : Int32) (v5 : Int32) (M : Mem) : Prop :=
  if v1 = (4 : Int32) then (vp_in v4 (mL M 111 this) ∧ w_Model_isRef (mI M 111 this v4.toNatClampNeg) (fun r15 M14 => if r15 = 0 then (vp_in v4 (mL M14 111 this) ∧ w_Model_isUnmade (mI M14 111 this v4.toNatClampNeg) (fun r19 M18 => if r19 = 0 then (Q (34 : Int32) M18) else (w_Model_checkTaken_j330 this Q v5 M18)) M14) else (w_Model_checkTaken_j330 this Q v5 M14)) M) else (w_Model_checkTaken_j330 this Q v5 M)
def w_Model_checkTaken_j285 (this : Nat) (Q : Int32 → Mem → Prop) (v1 : Int32) (v4 : Int32) (v5 : Int32) (M : Mem) : Prop :=
  vp_in v4 (mL M 111 this) ∧ if (mI M 111 this v4.toNatClampNeg) = (1 : Int32) then (w_Model_checkTaken_j296 this Q v1 v4 v5 M) else (Q (34 : Int32) M)
def w_Model_checkTaken_j268 (this : Nat) (Q : Int32 → Mem → Prop) (k94 : Int32 → Int32 → Int32 → Int32 → Mem → Prop) (v1 : Int32) (v4 : Int32) (v5 : Int32) (v6 : Int32) (M : Mem) : Prop :=
  k94 v1 v4 v5 (v6 + (1 : Int32)) M
def w_Model_checkTaken_j248 (this : Nat) (Q : Int32 → Mem → Prop) (k94 : Int32 → Int32 → Int32 → Int32 → Mem → Prop) (v1 : Int32) (v4 : Int32) (v5 : Int32) (v6 : Int32) (v9 : Int32) (M : Mem) : Prop :=
  if v9 ≤ 0 then (w_Model_checkTaken_j268 this Q k94 v1 v4 v5 v6 M) else (if v9 = (43 : Int32) then (Q (43 : Int32) M) else (Q (32 : Int32) M))
def w_Model_checkTaken_j170 (this : Nat) (Q : Int32 → Mem → Prop) (k94 : Int32 → Int32 → Int32 → Int32 → Mem → Prop) (v1 : Int32) (v4 : Int32) (v5 : Int32) (v6 : Int32) (s0 : Int32) (M : Mem) : Prop :=
  w_Model_checkTaken_j248 this Q k94 v1 v4 v5 v6 s0 M
def w_Model_checkTaken_j164 (this : Nat) (Q : Int32 → Mem → Prop) (k94 : Int32 → Int32 → Int32 → Int32 → Mem → Prop) (v1 : Int32) (v4 : Int32) (v5 : Int32) (v6 : Int32) (M : Mem) : Prop :=
  w_Model_checkTaken_j170 this Q k94 v1 v4 v5 v6 (0 : Int32) M
def w_Model_checkTaken_j193 (this : Nat) (Q : Int32 → Mem → Prop) (k94 : Int32 → Int32 → Int32 → Int32 → Mem → Prop) (v1 : Int32) (v4 : Int32) (v5 : Int32) (v6 : Int32) (s0 : Int32) (M : Mem) : Prop :=
  w_Model_checkTaken_j248 this Q k94 v1 v4 v5 v6 s0 M
def w_Model_checkTaken_j233 (this : Nat) (Q : Int32 → Mem → Prop) (k94 : Int32 → Int32 → Int32 → Int32 → Mem → Prop) (v1 : Int32) (v4 : Int32) (v5 : Int32) (v6 : Int32) (s0 : Int32) (M : Mem) : Prop :=
  w_Model_checkTaken_j248 this Q k94 v1 v4 v5 v6 s0 M
def w_Model_checkTaken_L94 (this : Nat) (Q : Int32 → Mem → Prop) : Nat → Int32 → Int32 → Int32 → Int32 → Mem → Prop
  | 0, _, _, _, _, _ => False
  | n + 1, v1, v4, v5, v6, M => if (mI M 11 this 79) ≤ v6 then (if v1 = (3 : Int32) then (w_Model_checkTaken_j285 this Q v1 v4 v5 M) else (if v1 = (7 : Int32) then (w_Model_checkTaken_j285 this Q v1 v4 v5 M) else (w_Model_checkTaken_j296 this Q v1 v4 v5 M))) else (vp_in (((mI M 11 this 72) - (1 : Int32)) - v6) (mL M 212 0) ∧ ∃ x24 : Int32, x24 = (mI M 212 0 (((mI M 11 this 72) - (1 : Int32)) - v6).toNatClampNeg) ∧ vp_in v6 (mL M 112 this) ∧ if (mI M 112 this v6.toNatClampNeg) = (8 : Int32) then (w_Model_checkTaken_j268 this Q (w_Model_checkTaken_L94 this Q n) v1 v4 v5 v6 M) else (if (mI M 112 this v6.toNatClampNeg) = (7 : Int32) then (w_Model_isRef x24 (fun r29 M28 => if r29 = 0 then (w_Model_isUnmade x24 (fun r32 M31 => if r32 = 0 then (w_Model_checkTaken_j170 this Q (w_Model_checkTaken_L94 this Q n) v1 v4 v5 v6 (37 : Int32) M31) else (w_Model_checkTaken_j164 this Q (w_Model_checkTaken_L94 this Q n) v1 v4 v5 v6 M31)) M28) else (w_Model_checkTaken_j164 this Q (w_Model_checkTaken_L94 this Q n) v1 v4 v5 v6 M28)) M) else (if (mI M 112 this v6.toNatClampNeg) = (1 : Int32) then (if x24 = (1 : Int32) then (w_Model_checkTaken_j193 this Q (w_Model_checkTaken_L94 this Q n) v1 v4 v5 v6 (0 : Int32) M) else (w_Model_checkTaken_j193 this Q (w_Model_checkTaken_L94 this Q n) v1 v4 v5 v6 (37 : Int32) M)) else (w_Model_isUnmade x24 (fun r39 M38 => if r39 = 0 then (if (mI M 112 this v6.toNatClampNeg) = (6 : Int32) then (w_Model_isRef x24 (fun r43 M42 => if r43 = 0 then (w_Model_checkTaken_j233 this Q (w_Model_checkTaken_L94 this Q n) v1 v4 v5 v6 (37 : Int32) M42) else (w_Model_checkTaken_j233 this Q (w_Model_checkTaken_L94 this Q n) v1 v4 v5 v6 (0 : Int32) M42)) M38) else (w_Model_fit this x24 (mI M 112 this v6.toNatClampNeg) (fun r46 M45 => w_Model_checkTaken_j248 this Q (w_Model_checkTaken_L94 this Q n) v1 v4 v5 v6 r46 M45) M38)) else (w_Model_checkTaken_j248 this Q (w_Model_checkTaken_L94 this Q n) v1 v4 (1 : Int32) v6 (0 : Int32) M38)) M))))
def w_Model_checkTaken_j68 (this : Nat) (Q : Int32 → Mem → Prop) (v1 : Int32) (v2 : Int32) (v4 : Int32) (M : Mem) : Prop :=
  w_Model_listWants this v1 v2 (fun M6 => if (mI M6 11 this 79) ≤ (mI M6 11 this 72) then (∃ n47 : Nat, w_Model_checkTaken_L94 this Q n47 v1 v4 (0 : Int32) (0 : Int32) M6) else (Q (31 : Int32) M6)) M
def w_Model_checkTaken_j32 (this : Nat) (Q : Int32 → Mem → Prop) (v1 : Int32) (v2 : Int32) (s0 : Int32) (M : Mem) : Prop :=
  ∃ i2, (mR M 11 this 45) = some (12, i2) ∧ ∃ i3, (mR M 12 i2 31) = some (300, i3) ∧ vp_in v2 (mL M 300 i3) ∧ if s0 = 0 then (w_Model_checkTaken_j68 this Q v1 v2 (mI M 300 i3 v2.toNatClampNeg) M) else (∃ i48, (mR M 11 this 45) = some (12, i48) ∧ vp_in (mI M 11 this 75) (mL M 148 i48) ∧ if (mI M 300 i3 v2.toNatClampNeg) < (mI M 148 i48 (mI M 11 this 75).toNatClampNeg) then (w_Model_checkTaken_j68 this Q v1 v2 (mI M 300 i3 v2.toNatClampNeg) M) else (Q (33 : Int32) M))
def w_Model_checkTaken_j27 (this : Nat) (Q : Int32 → Mem → Prop) (v1 : Int32) (v2 : Int32) (M : Mem) : Prop :=
  w_Model_checkTaken_j32 this Q v1 v2 (1 : Int32) M
def w_Model_checkTaken (this : Nat) (a1 : Int32) (a2 : Int32) (Q : Int32 → Mem → Prop) (M : Mem) : Prop :=
  if a1 = (3 : Int32) then (w_Model_checkTaken_j27 this Q a1 a2 M) else (if a1 = (4 : Int32) then (w_Model_checkTaken_j27 this Q a1 a2 M) else (if a1 = (5 : Int32) then (w_Model_checkTaken_j27 this Q a1 a2 M) else (if a1 = (6 : Int32) then (w_Model_checkTaken_j27 this Q a1 a2 M) else (if a1 = (7 : Int32) then (w_Model_checkTaken_j27 this Q a1 a2 M) else (w_Model_checkTaken_j32 this Q a1 a2 (0 : Int32) M)))))
set_option maxRecDepth 4096 in
theorem lk_Model_checkTaken_j330 {γ : Gm} (hγ : Gk γ) (this : Nat) (Q : Int32 → Mem → Prop) (v5 : Int32) (M : Mem) (h : w_Model_checkTaken_j330 this Q v5 M) : E γ k_Model_checkTaken 3 330 [none, none, none, none, none, some (vi v5), none, none, none, none] [] M (Qi Q) := by
  unfold w_Model_checkTaken_j330 at h
  refine E_blk (lv' := [none, none, none, none, none, some (vi v5), none, none, none, none]) (st' := [vi v5]) (M1 := M) (pc' := 332) (tb_Model hγ) [.iload 5] (by decide +kernel) rfl rfl trivial ?_
  refine E_if_eq (off := 8) (tgt := 340) (by decide +kernel) (by decide) (fun b21 => ?_) (fun b21 => ?_)
  · rw [if_pos b21] at h
    refine E_blk (lv' := [none, none, none, none, none, some (vi v5), none, none, none, none]) (st' := [vi (0 : Int32)]) (M1 := M) (pc' := 341) (tb_Model hγ) [.iconst 0] (by decide +kernel) rfl rfl trivial ?_
    exact E_iret rfl (by decide +kernel) h
  · rw [if_neg b21] at h
    refine E_blk (lv' := [none, none, none, none, none, some (vi v5), none, none, none, none]) (st' := [vi (39 : Int32)]) (M1 := M) (pc' := 337) (tb_Model hγ) [.bipush 39] (by decide +kernel) rfl rfl trivial ?_
    refine E_goto (off := 4) (tgt := 341) (by decide +kernel) (by decide) ?_
    exact E_iret rfl (by decide +kernel) h
set_option maxRecDepth 4096 in
theorem lk_Model_checkTaken_j296 {γ : Gm} (hγ : Gk γ) (this : Nat) (Q : Int32 → Mem → Prop) (v1 : Int32) (v4 : Int32) (v5 : Int32) (M : Mem) (h : w_Model_checkTaken_j296 this Q v1 v4 v5 M) : E γ k_Model_checkTaken 3 296 [some (vr (some (11, this))), some (vi v1), none, none, some (vi v4), some (vi v5), none, none, none, none] [] M (Qi Q) := by
  unfold w_Model_checkTaken_j296 at h
  refine E_blk (lv' := [some (vr (some (11, this))), some (vi v1), none, none, some (vi v4), some (vi v5), none, none, none, none]) (st' := [vi (4 : Int32), vi v1]) (M1 := M) (pc' := 298) (tb_Model hγ) [.iload_n 1, .iconst 4] (by decide +kernel) rfl rfl trivial ?_
  refine E_icmp_ne (off := 32) (tgt := 330) (by decide +kernel) (by decide) (fun b12 => ?_) (fun b12 => ?_)
  · rw [if_pos b12] at h
    obtain ⟨c13, h⟩ := h
    refine E_blk (lv' := [some (vr (some (11, this))), some (vi v1), none, none, some (vi v4), some (vi v5), none, none, none, none]) (st' := [vi (mI M 111 this v4.toNatClampNeg)]) (M1 := M) (pc' := 308) (tb_Model hγ) [.aload_n 0, .getfield 305, .iload 4, .iaload] (by decide +kernel) rfl rfl ⟨c13, trivial⟩ ?_
    refine E_callS (κ' := k_Model_isRef) (As := [vi (mI M 111 this v4.toNatClampNeg)]) (st := []) ms_Model_isRef (Or.inl (tbk_mem (j := 15) (k := 229) rfl)) rfl (by decide +kernel) (Nat.le_of_ble_eq_true rfl) (Nat.le_of_ble_eq_true rfl) rfl (by decide) (lk_Model_isRef hγ (mI M 111 this v4.toNatClampNeg) _ M h) (fun _ _ => Qi_r) (fun v M14 hp => Qi_k (R := fun st => E γ k_Model_checkTaken 3 311 [some (vr (some (11, this))), some (vi v1), none, none, some (vi v4), some (vi v5), none, none, none, none] st M14 (Qi Q)) hp (fun r15 h => ?_))
    refine E_if_ne (off := 19) (tgt := 330) (by decide +kernel) (by decide) (fun b16 => ?_) (fun b16 => ?_)
    · rw [if_pos b16] at h
      obtain ⟨c17, h⟩ := h
      refine E_blk (lv' := [some (vr (some (11, this))), some (vi v1), none, none, some (vi v4), some (vi v5), none, none, none, none]) (st' := [vi (mI M14 111 this v4.toNatClampNeg)]) (M1 := M14) (pc' := 321) (tb_Model hγ) [.aload_n 0, .getfield 305, .iload 4, .iaload] (by decide +kernel) rfl rfl ⟨c17, trivial⟩ ?_
      refine E_callS (κ' := k_Model_isUnmade) (As := [vi (mI M14 111 this v4.toNatClampNeg)]) (st := []) ms_Model_isUnmade (Or.inl (tbk_mem (j := 15) (k := 232) rfl)) rfl (by decide +kernel) (Nat.le_of_ble_eq_true rfl) (Nat.le_of_ble_eq_true rfl) rfl (by decide) (lk_Model_isUnmade hγ (mI M14 111 this v4.toNatClampNeg) _ M14 h) (fun _ _ => Qi_r) (fun v M18 hp => Qi_k (R := fun st => E γ k_Model_checkTaken 3 324 [some (vr (some (11, this))), some (vi v1), none, none, some (vi v4), some (vi v5), none, none, none, none] st M18 (Qi Q)) hp (fun r19 h => ?_))
      refine E_if_ne (off := 6) (tgt := 330) (by decide +kernel) (by decide) (fun b20 => ?_) (fun b20 => ?_)
      · rw [if_pos b20] at h
        refine E_blk (lv' := [some (vr (some (11, this))), some (vi v1), none, none, some (vi v4), some (vi v5), none, none, none, none]) (st' := [vi (34 : Int32)]) (M1 := M18) (pc' := 329) (tb_Model hγ) [.bipush 34] (by decide +kernel) rfl rfl trivial ?_
        exact E_iret rfl (by decide +kernel) h
      · rw [if_neg b20] at h
        refine E_mask [false, false, false, false, false, true, false, false, false, false] rfl ?_
        exact lk_Model_checkTaken_j330 hγ this Q v5 M18 h
    · rw [if_neg b16] at h
      refine E_mask [false, false, false, false, false, true, false, false, false, false] rfl ?_
      exact lk_Model_checkTaken_j330 hγ this Q v5 M14 h
  · rw [if_neg b12] at h
    refine E_mask [false, false, false, false, false, true, false, false, false, false] rfl ?_
    exact lk_Model_checkTaken_j330 hγ this Q v5 M h
set_option maxRecDepth 4096 in
theorem lk_Model_checkTaken_j285 {γ : Gm} (hγ : Gk γ) (this : Nat) (Q : Int32 → Mem → Prop) (v1 : Int32) (v4 : Int32) (v5 : Int32) (M : Mem) (h : w_Model_checkTaken_j285 this Q v1 v4 v5 M) : E γ k_Model_checkTaken 3 285 [some (vr (some (11, this))), some (vi v1), none, none, some (vi v4), some (vi v5), none, none, none, none] [] M (Qi Q) := by
  unfold w_Model_checkTaken_j285 at h
  obtain ⟨c10, h⟩ := h
  refine E_blk (lv' := [some (vr (some (11, this))), some (vi v1), none, none, some (vi v4), some (vi v5), none, none, none, none]) (st' := [vi (1 : Int32), vi (mI M 111 this v4.toNatClampNeg)]) (M1 := M) (pc' := 293) (tb_Model hγ) [.aload_n 0, .getfield 305, .iload 4, .iaload, .iconst 1] (by decide +kernel) rfl rfl ⟨c10, trivial⟩ ?_
  refine E_icmp_ne (off := 34) (tgt := 327) (by decide +kernel) (by decide) (fun b11 => ?_) (fun b11 => ?_)
  · rw [if_pos b11] at h
    refine E_mask [true, true, false, false, true, true, false, false, false, false] rfl ?_
    exact lk_Model_checkTaken_j296 hγ this Q v1 v4 v5 M h
  · rw [if_neg b11] at h
    refine E_blk (lv' := [some (vr (some (11, this))), some (vi v1), none, none, some (vi v4), some (vi v5), none, none, none, none]) (st' := [vi (34 : Int32)]) (M1 := M) (pc' := 329) (tb_Model hγ) [.bipush 34] (by decide +kernel) rfl rfl trivial ?_
    exact E_iret rfl (by decide +kernel) h
set_option maxRecDepth 4096 in
theorem lk_Model_checkTaken_j268 {γ : Gm} (hγ : Gk γ) (this : Nat) (Q : Int32 → Mem → Prop) (k94 : Int32 → Int32 → Int32 → Int32 → Mem → Prop) (hk94 : ∀ (v1 : Int32) (v4 : Int32) (v5 : Int32) (v6 : Int32) (M : Mem), k94 v1 v4 v5 v6 M → E γ k_Model_checkTaken 3 94 [some (vr (some (11, this))), some (vi v1), none, none, some (vi v4), some (vi v5), some (vi v6), none, none, none] [] M (Qi Q)) (v1 : Int32) (v4 : Int32) (v5 : Int32) (v6 : Int32) (M : Mem) (h : w_Model_checkTaken_j268 this Q k94 v1 v4 v5 v6 M) : E γ k_Model_checkTaken 3 268 [some (vr (some (11, this))), some (vi v1), none, none, some (vi v4), some (vi v5), some (vi v6), none, none, none] [] M (Qi Q) := by
  unfold w_Model_checkTaken_j268 at h
  refine E_blk (lv' := [some (vr (some (11, this))), some (vi v1), none, none, some (vi v4), some (vi v5), some (vi (v6 + (1 : Int32))), none, none, none]) (st' := []) (M1 := M) (pc' := 271) (tb_Model hγ) [.iinc 6 1] (by decide +kernel) rfl rfl trivial ?_
  refine E_goto (off := -177) (tgt := 94) (by decide +kernel) (by decide) ?_
  refine E_mask [true, true, false, false, true, true, true, false, false, false] rfl ?_
  exact hk94 v1 v4 v5 (v6 + (1 : Int32)) M h
set_option maxRecDepth 4096 in
theorem lk_Model_checkTaken_j248 {γ : Gm} (hγ : Gk γ) (this : Nat) (Q : Int32 → Mem → Prop) (k94 : Int32 → Int32 → Int32 → Int32 → Mem → Prop) (hk94 : ∀ (v1 : Int32) (v4 : Int32) (v5 : Int32) (v6 : Int32) (M : Mem), k94 v1 v4 v5 v6 M → E γ k_Model_checkTaken 3 94 [some (vr (some (11, this))), some (vi v1), none, none, some (vi v4), some (vi v5), some (vi v6), none, none, none] [] M (Qi Q)) (v1 : Int32) (v4 : Int32) (v5 : Int32) (v6 : Int32) (v9 : Int32) (M : Mem) (h : w_Model_checkTaken_j248 this Q k94 v1 v4 v5 v6 v9 M) : E γ k_Model_checkTaken 3 248 [some (vr (some (11, this))), some (vi v1), none, none, some (vi v4), some (vi v5), some (vi v6), none, none, some (vi v9)] [] M (Qi Q) := by
  unfold w_Model_checkTaken_j248 at h
  refine E_blk (lv' := [some (vr (some (11, this))), some (vi v1), none, none, some (vi v4), some (vi v5), some (vi v6), none, none, some (vi v9)]) (st' := [vi v9]) (M1 := M) (pc' := 250) (tb_Model hγ) [.iload 9] (by decide +kernel) rfl rfl trivial ?_
  refine E_if_le (off := 18) (tgt := 268) (by decide +kernel) (by decide) (fun b34 => ?_) (fun b34 => ?_)
  · rw [if_pos b34] at h
    refine E_mask [true, true, false, false, true, true, true, false, false, false] rfl ?_
    exact lk_Model_checkTaken_j268 hγ this Q k94 hk94 v1 v4 v5 v6 M h
  · rw [if_neg b34] at h
    refine E_blk (lv' := [some (vr (some (11, this))), some (vi v1), none, none, some (vi v4), some (vi v5), some (vi v6), none, none, some (vi v9)]) (st' := [vi (43 : Int32), vi v9]) (M1 := M) (pc' := 257) (tb_Model hγ) [.iload 9, .bipush 43] (by decide +kernel) rfl rfl trivial ?_
    refine E_icmp_ne (off := 8) (tgt := 265) (by decide +kernel) (by decide) (fun b35 => ?_) (fun b35 => ?_)
    · rw [if_pos b35] at h
      refine E_blk (lv' := [some (vr (some (11, this))), some (vi v1), none, none, some (vi v4), some (vi v5), some (vi v6), none, none, some (vi v9)]) (st' := [vi (43 : Int32)]) (M1 := M) (pc' := 262) (tb_Model hγ) [.bipush 43] (by decide +kernel) rfl rfl trivial ?_
      refine E_goto (off := 5) (tgt := 267) (by decide +kernel) (by decide) ?_
      exact E_iret rfl (by decide +kernel) h
    · rw [if_neg b35] at h
      refine E_blk (lv' := [some (vr (some (11, this))), some (vi v1), none, none, some (vi v4), some (vi v5), some (vi v6), none, none, some (vi v9)]) (st' := [vi (32 : Int32)]) (M1 := M) (pc' := 267) (tb_Model hγ) [.bipush 32] (by decide +kernel) rfl rfl trivial ?_
      exact E_iret rfl (by decide +kernel) h
set_option maxRecDepth 4096 in
theorem lk_Model_checkTaken_j170 {γ : Gm} (hγ : Gk γ) (this : Nat) (Q : Int32 → Mem → Prop) (k94 : Int32 → Int32 → Int32 → Int32 → Mem → Prop) (hk94 : ∀ (v1 : Int32) (v4 : Int32) (v5 : Int32) (v6 : Int32) (M : Mem), k94 v1 v4 v5 v6 M → E γ k_Model_checkTaken 3 94 [some (vr (some (11, this))), some (vi v1), none, none, some (vi v4), some (vi v5), some (vi v6), none, none, none] [] M (Qi Q)) (v1 : Int32) (v4 : Int32) (v5 : Int32) (v6 : Int32) (s0 : Int32) (M : Mem) (h : w_Model_checkTaken_j170 this Q k94 v1 v4 v5 v6 s0 M) : E γ k_Model_checkTaken 3 170 [some (vr (some (11, this))), some (vi v1), none, none, some (vi v4), some (vi v5), some (vi v6), none, none, none] [vi s0] M (Qi Q) := by
  unfold w_Model_checkTaken_j170 at h
  refine E_blk (lv' := [some (vr (some (11, this))), some (vi v1), none, none, some (vi v4), some (vi v5), some (vi v6), none, none, some (vi s0)]) (st' := []) (M1 := M) (pc' := 172) (tb_Model hγ) [.istore 9] (by decide +kernel) rfl rfl trivial ?_
  refine E_goto (off := 76) (tgt := 248) (by decide +kernel) (by decide) ?_
  refine E_mask [true, true, false, false, true, true, true, false, false, true] rfl ?_
  exact lk_Model_checkTaken_j248 hγ this Q k94 hk94 v1 v4 v5 v6 s0 M h
set_option maxRecDepth 4096 in
theorem lk_Model_checkTaken_j164 {γ : Gm} (hγ : Gk γ) (this : Nat) (Q : Int32 → Mem → Prop) (k94 : Int32 → Int32 → Int32 → Int32 → Mem → Prop) (hk94 : ∀ (v1 : Int32) (v4 : Int32) (v5 : Int32) (v6 : Int32) (M : Mem), k94 v1 v4 v5 v6 M → E γ k_Model_checkTaken 3 94 [some (vr (some (11, this))), some (vi v1), none, none, some (vi v4), some (vi v5), some (vi v6), none, none, none] [] M (Qi Q)) (v1 : Int32) (v4 : Int32) (v5 : Int32) (v6 : Int32) (M : Mem) (h : w_Model_checkTaken_j164 this Q k94 v1 v4 v5 v6 M) : E γ k_Model_checkTaken 3 164 [some (vr (some (11, this))), some (vi v1), none, none, some (vi v4), some (vi v5), some (vi v6), none, none, none] [] M (Qi Q) := by
  unfold w_Model_checkTaken_j164 at h
  refine E_blk (lv' := [some (vr (some (11, this))), some (vi v1), none, none, some (vi v4), some (vi v5), some (vi v6), none, none, none]) (st' := [vi (0 : Int32)]) (M1 := M) (pc' := 165) (tb_Model hγ) [.iconst 0] (by decide +kernel) rfl rfl trivial ?_
  refine E_goto (off := 5) (tgt := 170) (by decide +kernel) (by decide) ?_
  refine E_mask [true, true, false, false, true, true, true, false, false, false] rfl ?_
  exact lk_Model_checkTaken_j170 hγ this Q k94 hk94 v1 v4 v5 v6 (0 : Int32) M h
set_option maxRecDepth 4096 in
theorem lk_Model_checkTaken_j193 {γ : Gm} (hγ : Gk γ) (this : Nat) (Q : Int32 → Mem → Prop) (k94 : Int32 → Int32 → Int32 → Int32 → Mem → Prop) (hk94 : ∀ (v1 : Int32) (v4 : Int32) (v5 : Int32) (v6 : Int32) (M : Mem), k94 v1 v4 v5 v6 M → E γ k_Model_checkTaken 3 94 [some (vr (some (11, this))), some (vi v1), none, none, some (vi v4), some (vi v5), some (vi v6), none, none, none] [] M (Qi Q)) (v1 : Int32) (v4 : Int32) (v5 : Int32) (v6 : Int32) (s0 : Int32) (M : Mem) (h : w_Model_checkTaken_j193 this Q k94 v1 v4 v5 v6 s0 M) : E γ k_Model_checkTaken 3 193 [some (vr (some (11, this))), some (vi v1), none, none, some (vi v4), some (vi v5), some (vi v6), none, none, none] [vi s0] M (Qi Q) := by
  unfold w_Model_checkTaken_j193 at h
  refine E_blk (lv' := [some (vr (some (11, this))), some (vi v1), none, none, some (vi v4), some (vi v5), some (vi v6), none, none, some (vi s0)]) (st' := []) (M1 := M) (pc' := 195) (tb_Model hγ) [.istore 9] (by decide +kernel) rfl rfl trivial ?_
  refine E_goto (off := 53) (tgt := 248) (by decide +kernel) (by decide) ?_
  refine E_mask [true, true, false, false, true, true, true, false, false, true] rfl ?_
  exact lk_Model_checkTaken_j248 hγ this Q k94 hk94 v1 v4 v5 v6 s0 M h
set_option maxRecDepth 4096 in
theorem lk_Model_checkTaken_j233 {γ : Gm} (hγ : Gk γ) (this : Nat) (Q : Int32 → Mem → Prop) (k94 : Int32 → Int32 → Int32 → Int32 → Mem → Prop) (hk94 : ∀ (v1 : Int32) (v4 : Int32) (v5 : Int32) (v6 : Int32) (M : Mem), k94 v1 v4 v5 v6 M → E γ k_Model_checkTaken 3 94 [some (vr (some (11, this))), some (vi v1), none, none, some (vi v4), some (vi v5), some (vi v6), none, none, none] [] M (Qi Q)) (v1 : Int32) (v4 : Int32) (v5 : Int32) (v6 : Int32) (s0 : Int32) (M : Mem) (h : w_Model_checkTaken_j233 this Q k94 v1 v4 v5 v6 s0 M) : E γ k_Model_checkTaken 3 233 [some (vr (some (11, this))), some (vi v1), none, none, some (vi v4), some (vi v5), some (vi v6), none, none, none] [vi s0] M (Qi Q) := by
  unfold w_Model_checkTaken_j233 at h
  refine E_blk (lv' := [some (vr (some (11, this))), some (vi v1), none, none, some (vi v4), some (vi v5), some (vi v6), none, none, some (vi s0)]) (st' := []) (M1 := M) (pc' := 235) (tb_Model hγ) [.istore 9] (by decide +kernel) rfl rfl trivial ?_
  refine E_goto (off := 13) (tgt := 248) (by decide +kernel) (by decide) ?_
  refine E_mask [true, true, false, false, true, true, true, false, false, true] rfl ?_
  exact lk_Model_checkTaken_j248 hγ this Q k94 hk94 v1 v4 v5 v6 s0 M h
set_option maxRecDepth 4096 in
theorem lk_Model_checkTaken_L94 {γ : Gm} (hγ : Gk γ) (this : Nat) (Q : Int32 → Mem → Prop) : ∀ (n : Nat) (v1 : Int32) (v4 : Int32) (v5 : Int32) (v6 : Int32) (M : Mem), w_Model_checkTaken_L94 this Q n v1 v4 v5 v6 M → E γ k_Model_checkTaken 3 94 [some (vr (some (11, this))), some (vi v1), none, none, some (vi v4), some (vi v5), some (vi v6), none, none, none] [] M (Qi Q) := by
  intro n
  induction n with
  | zero => intro v1 v4 v5 v6 M h; exact h.elim
  | succ n ih =>
    intro v1 v4 v5 v6 M h
    unfold w_Model_checkTaken_L94 at h
    refine E_blk (lv' := [some (vr (some (11, this))), some (vi v1), none, none, some (vi v4), some (vi v5), some (vi v6), none, none, none]) (st' := [vi (mI M 11 this 79), vi v6]) (M1 := M) (pc' := 100) (tb_Model hγ) [.iload 6, .aload_n 0, .getfield 823] (by decide +kernel) rfl rfl trivial ?_
    refine E_icmp_ge (off := 174) (tgt := 274) (by decide +kernel) (by decide) (fun b8 => ?_) (fun b8 => ?_)
    · rw [if_pos b8] at h
      refine E_blk (lv' := [some (vr (some (11, this))), some (vi v1), none, none, some (vi v4), some (vi v5), some (vi v6), none, none, none]) (st' := [vi (3 : Int32), vi v1]) (M1 := M) (pc' := 276) (tb_Model hγ) [.iload_n 1, .iconst 3] (by decide +kernel) rfl rfl trivial ?_
      refine E_icmp_eq (off := 9) (tgt := 285) (by decide +kernel) (by decide) (fun b9 => ?_) (fun b9 => ?_)
      · rw [if_pos b9] at h
        refine E_mask [true, true, false, false, true, true, false, false, false, false] rfl ?_
        exact lk_Model_checkTaken_j285 hγ this Q v1 v4 v5 M h
      · rw [if_neg b9] at h
        refine E_blk (lv' := [some (vr (some (11, this))), some (vi v1), none, none, some (vi v4), some (vi v5), some (vi v6), none, none, none]) (st' := [vi (7 : Int32), vi v1]) (M1 := M) (pc' := 282) (tb_Model hγ) [.iload_n 1, .bipush 7] (by decide +kernel) rfl rfl trivial ?_
        refine E_icmp_ne (off := 14) (tgt := 296) (by decide +kernel) (by decide) (fun b22 => ?_) (fun b22 => ?_)
        · rw [if_pos b22] at h
          refine E_mask [true, true, false, false, true, true, false, false, false, false] rfl ?_
          exact lk_Model_checkTaken_j285 hγ this Q v1 v4 v5 M h
        · rw [if_neg b22] at h
          refine E_mask [true, true, false, false, true, true, false, false, false, false] rfl ?_
          exact lk_Model_checkTaken_j296 hγ this Q v1 v4 v5 M h
    · rw [if_neg b8] at h
      obtain ⟨c23, h⟩ := h
      refine E_blk (lv' := [some (vr (some (11, this))), some (vi v1), none, none, some (vi v4), some (vi v5), some (vi v6), some (vi (mI M 212 0 (((mI M 11 this 72) - (1 : Int32)) - v6).toNatClampNeg)), none, none]) (st' := []) (M1 := M) (pc' := 119) (tb_Model hγ) [.aload_n 0, .getfield 308, .aload_n 0, .getfield 780, .iconst 1, .isub, .iload 6, .isub, .iaload, .istore 7] (by decide +kernel) rfl rfl ⟨c23, trivial⟩ ?_
      obtain ⟨x24, ex24, h⟩ := h
      rw [← ex24]
      obtain ⟨c25, h⟩ := h
      refine E_blk (lv' := [some (vr (some (11, this))), some (vi v1), none, none, some (vi v4), some (vi v5), some (vi v6), some (vi x24), some (vi (mI M 112 this v6.toNatClampNeg)), some (vi (0 : Int32))]) (st' := [vi (8 : Int32), vi (mI M 112 this v6.toNatClampNeg)]) (M1 := M) (pc' := 135) (tb_Model hγ) [.aload_n 0, .getfield 311, .iload 6, .iaload, .istore 8, .iconst 0, .istore 9, .iload 8, .bipush 8] (by decide +kernel) rfl rfl ⟨c25, trivial⟩ ?_
      refine E_icmp_ne (off := 6) (tgt := 141) (by decide +kernel) (by decide) (fun b26 => ?_) (fun b26 => ?_)
      · rw [if_pos b26] at h
        refine E_goto (off := 130) (tgt := 268) (by decide +kernel) (by decide) ?_
        refine E_mask [true, true, false, false, true, true, true, false, false, false] rfl ?_
        exact lk_Model_checkTaken_j268 hγ this Q (w_Model_checkTaken_L94 this Q n) ih v1 v4 v5 v6 M h
      · rw [if_neg b26] at h
        refine E_blk (lv' := [some (vr (some (11, this))), some (vi v1), none, none, some (vi v4), some (vi v5), some (vi v6), some (vi x24), some (vi (mI M 112 this v6.toNatClampNeg)), some (vi (0 : Int32))]) (st' := [vi (7 : Int32), vi (mI M 112 this v6.toNatClampNeg)]) (M1 := M) (pc' := 145) (tb_Model hγ) [.iload 8, .bipush 7] (by decide +kernel) rfl rfl trivial ?_
        refine E_icmp_ne (off := 30) (tgt := 175) (by decide +kernel) (by decide) (fun b27 => ?_) (fun b27 => ?_)
        · rw [if_pos b27] at h
          refine E_blk (lv' := [some (vr (some (11, this))), some (vi v1), none, none, some (vi v4), some (vi v5), some (vi v6), some (vi x24), some (vi (mI M 112 this v6.toNatClampNeg)), some (vi (0 : Int32))]) (st' := [vi x24]) (M1 := M) (pc' := 150) (tb_Model hγ) [.iload 7] (by decide +kernel) rfl rfl trivial ?_
          refine E_callS (κ' := k_Model_isRef) (As := [vi x24]) (st := []) ms_Model_isRef (Or.inl (tbk_mem (j := 15) (k := 229) rfl)) rfl (by decide +kernel) (Nat.le_of_ble_eq_true rfl) (Nat.le_of_ble_eq_true rfl) rfl (by decide) (lk_Model_isRef hγ x24 _ M h) (fun _ _ => Qi_r) (fun v M28 hp => Qi_k (R := fun st => E γ k_Model_checkTaken 3 153 [some (vr (some (11, this))), some (vi v1), none, none, some (vi v4), some (vi v5), some (vi v6), some (vi x24), some (vi (mI M 112 this v6.toNatClampNeg)), some (vi (0 : Int32))] st M28 (Qi Q)) hp (fun r29 h => ?_))
          refine E_if_ne (off := 11) (tgt := 164) (by decide +kernel) (by decide) (fun b30 => ?_) (fun b30 => ?_)
          · rw [if_pos b30] at h
            refine E_blk (lv' := [some (vr (some (11, this))), some (vi v1), none, none, some (vi v4), some (vi v5), some (vi v6), some (vi x24), some (vi (mI M 112 this v6.toNatClampNeg)), some (vi (0 : Int32))]) (st' := [vi x24]) (M1 := M28) (pc' := 158) (tb_Model hγ) [.iload 7] (by decide +kernel) rfl rfl trivial ?_
            refine E_callS (κ' := k_Model_isUnmade) (As := [vi x24]) (st := []) ms_Model_isUnmade (Or.inl (tbk_mem (j := 15) (k := 232) rfl)) rfl (by decide +kernel) (Nat.le_of_ble_eq_true rfl) (Nat.le_of_ble_eq_true rfl) rfl (by decide) (lk_Model_isUnmade hγ x24 _ M28 h) (fun _ _ => Qi_r) (fun v M31 hp => Qi_k (R := fun st => E γ k_Model_checkTaken 3 161 [some (vr (some (11, this))), some (vi v1), none, none, some (vi v4), some (vi v5), some (vi v6), some (vi x24), some (vi (mI M 112 this v6.toNatClampNeg)), some (vi (0 : Int32))] st M31 (Qi Q)) hp (fun r32 h => ?_))
            refine E_if_eq (off := 7) (tgt := 168) (by decide +kernel) (by decide) (fun b33 => ?_) (fun b33 => ?_)
            · rw [if_pos b33] at h
              refine E_blk (lv' := [some (vr (some (11, this))), some (vi v1), none, none, some (vi v4), some (vi v5), some (vi v6), some (vi x24), some (vi (mI M 112 this v6.toNatClampNeg)), some (vi (0 : Int32))]) (st' := [vi (37 : Int32)]) (M1 := M31) (pc' := 170) (tb_Model hγ) [.bipush 37] (by decide +kernel) rfl rfl trivial ?_
              refine E_mask [true, true, false, false, true, true, true, false, false, false] rfl ?_
              exact lk_Model_checkTaken_j170 hγ this Q (w_Model_checkTaken_L94 this Q n) ih v1 v4 v5 v6 (37 : Int32) M31 h
            · rw [if_neg b33] at h
              refine E_mask [true, true, false, false, true, true, true, false, false, false] rfl ?_
              exact lk_Model_checkTaken_j164 hγ this Q (w_Model_checkTaken_L94 this Q n) ih v1 v4 v5 v6 M31 h
          · rw [if_neg b30] at h
            refine E_mask [true, true, false, false, true, true, true, false, false, false] rfl ?_
            exact lk_Model_checkTaken_j164 hγ this Q (w_Model_checkTaken_L94 this Q n) ih v1 v4 v5 v6 M28 h
        · rw [if_neg b27] at h
          refine E_blk (lv' := [some (vr (some (11, this))), some (vi v1), none, none, some (vi v4), some (vi v5), some (vi v6), some (vi x24), some (vi (mI M 112 this v6.toNatClampNeg)), some (vi (0 : Int32))]) (st' := [vi (1 : Int32), vi (mI M 112 this v6.toNatClampNeg)]) (M1 := M) (pc' := 178) (tb_Model hγ) [.iload 8, .iconst 1] (by decide +kernel) rfl rfl trivial ?_
          refine E_icmp_ne (off := 20) (tgt := 198) (by decide +kernel) (by decide) (fun b36 => ?_) (fun b36 => ?_)
          · rw [if_pos b36] at h
            refine E_blk (lv' := [some (vr (some (11, this))), some (vi v1), none, none, some (vi v4), some (vi v5), some (vi v6), some (vi x24), some (vi (mI M 112 this v6.toNatClampNeg)), some (vi (0 : Int32))]) (st' := [vi (1 : Int32), vi x24]) (M1 := M) (pc' := 184) (tb_Model hγ) [.iload 7, .iconst 1] (by decide +kernel) rfl rfl trivial ?_
            refine E_icmp_ne (off := 7) (tgt := 191) (by decide +kernel) (by decide) (fun b37 => ?_) (fun b37 => ?_)
            · rw [if_pos b37] at h
              refine E_blk (lv' := [some (vr (some (11, this))), some (vi v1), none, none, some (vi v4), some (vi v5), some (vi v6), some (vi x24), some (vi (mI M 112 this v6.toNatClampNeg)), some (vi (0 : Int32))]) (st' := [vi (0 : Int32)]) (M1 := M) (pc' := 188) (tb_Model hγ) [.iconst 0] (by decide +kernel) rfl rfl trivial ?_
              refine E_goto (off := 5) (tgt := 193) (by decide +kernel) (by decide) ?_
              refine E_mask [true, true, false, false, true, true, true, false, false, false] rfl ?_
              exact lk_Model_checkTaken_j193 hγ this Q (w_Model_checkTaken_L94 this Q n) ih v1 v4 v5 v6 (0 : Int32) M h
            · rw [if_neg b37] at h
              refine E_blk (lv' := [some (vr (some (11, this))), some (vi v1), none, none, some (vi v4), some (vi v5), some (vi v6), some (vi x24), some (vi (mI M 112 this v6.toNatClampNeg)), some (vi (0 : Int32))]) (st' := [vi (37 : Int32)]) (M1 := M) (pc' := 193) (tb_Model hγ) [.bipush 37] (by decide +kernel) rfl rfl trivial ?_
              refine E_mask [true, true, false, false, true, true, true, false, false, false] rfl ?_
              exact lk_Model_checkTaken_j193 hγ this Q (w_Model_checkTaken_L94 this Q n) ih v1 v4 v5 v6 (37 : Int32) M h
          · rw [if_neg b36] at h
            refine E_blk (lv' := [some (vr (some (11, this))), some (vi v1), none, none, some (vi v4), some (vi v5), some (vi v6), some (vi x24), some (vi (mI M 112 this v6.toNatClampNeg)), some (vi (0 : Int32))]) (st' := [vi x24]) (M1 := M) (pc' := 200) (tb_Model hγ) [.iload 7] (by decide +kernel) rfl rfl trivial ?_
            refine E_callS (κ' := k_Model_isUnmade) (As := [vi x24]) (st := []) ms_Model_isUnmade (Or.inl (tbk_mem (j := 15) (k := 232) rfl)) rfl (by decide +kernel) (Nat.le_of_ble_eq_true rfl) (Nat.le_of_ble_eq_true rfl) rfl (by decide) (lk_Model_isUnmade hγ x24 _ M h) (fun _ _ => Qi_r) (fun v M38 hp => Qi_k (R := fun st => E γ k_Model_checkTaken 3 203 [some (vr (some (11, this))), some (vi v1), none, none, some (vi v4), some (vi v5), some (vi v6), some (vi x24), some (vi (mI M 112 this v6.toNatClampNeg)), some (vi (0 : Int32))] st M38 (Qi Q)) hp (fun r39 h => ?_))
            refine E_if_eq (off := 9) (tgt := 212) (by decide +kernel) (by decide) (fun b40 => ?_) (fun b40 => ?_)
            · rw [if_pos b40] at h
              refine E_blk (lv' := [some (vr (some (11, this))), some (vi v1), none, none, some (vi v4), some (vi v5), some (vi v6), some (vi x24), some (vi (mI M 112 this v6.toNatClampNeg)), some (vi (0 : Int32))]) (st' := [vi (6 : Int32), vi (mI M 112 this v6.toNatClampNeg)]) (M1 := M38) (pc' := 216) (tb_Model hγ) [.iload 8, .bipush 6] (by decide +kernel) rfl rfl trivial ?_
              refine E_icmp_ne (off := 22) (tgt := 238) (by decide +kernel) (by decide) (fun b41 => ?_) (fun b41 => ?_)
              · rw [if_pos b41] at h
                refine E_blk (lv' := [some (vr (some (11, this))), some (vi v1), none, none, some (vi v4), some (vi v5), some (vi v6), some (vi x24), some (vi (mI M 112 this v6.toNatClampNeg)), some (vi (0 : Int32))]) (st' := [vi x24]) (M1 := M38) (pc' := 221) (tb_Model hγ) [.iload 7] (by decide +kernel) rfl rfl trivial ?_
                refine E_callS (κ' := k_Model_isRef) (As := [vi x24]) (st := []) ms_Model_isRef (Or.inl (tbk_mem (j := 15) (k := 229) rfl)) rfl (by decide +kernel) (Nat.le_of_ble_eq_true rfl) (Nat.le_of_ble_eq_true rfl) rfl (by decide) (lk_Model_isRef hγ x24 _ M38 h) (fun _ _ => Qi_r) (fun v M42 hp => Qi_k (R := fun st => E γ k_Model_checkTaken 3 224 [some (vr (some (11, this))), some (vi v1), none, none, some (vi v4), some (vi v5), some (vi v6), some (vi x24), some (vi (mI M 112 this v6.toNatClampNeg)), some (vi (0 : Int32))] st M42 (Qi Q)) hp (fun r43 h => ?_))
                refine E_if_eq (off := 7) (tgt := 231) (by decide +kernel) (by decide) (fun b44 => ?_) (fun b44 => ?_)
                · rw [if_pos b44] at h
                  refine E_blk (lv' := [some (vr (some (11, this))), some (vi v1), none, none, some (vi v4), some (vi v5), some (vi v6), some (vi x24), some (vi (mI M 112 this v6.toNatClampNeg)), some (vi (0 : Int32))]) (st' := [vi (37 : Int32)]) (M1 := M42) (pc' := 233) (tb_Model hγ) [.bipush 37] (by decide +kernel) rfl rfl trivial ?_
                  refine E_mask [true, true, false, false, true, true, true, false, false, false] rfl ?_
                  exact lk_Model_checkTaken_j233 hγ this Q (w_Model_checkTaken_L94 this Q n) ih v1 v4 v5 v6 (37 : Int32) M42 h
                · rw [if_neg b44] at h
                  refine E_blk (lv' := [some (vr (some (11, this))), some (vi v1), none, none, some (vi v4), some (vi v5), some (vi v6), some (vi x24), some (vi (mI M 112 this v6.toNatClampNeg)), some (vi (0 : Int32))]) (st' := [vi (0 : Int32)]) (M1 := M42) (pc' := 228) (tb_Model hγ) [.iconst 0] (by decide +kernel) rfl rfl trivial ?_
                  refine E_goto (off := 5) (tgt := 233) (by decide +kernel) (by decide) ?_
                  refine E_mask [true, true, false, false, true, true, true, false, false, false] rfl ?_
                  exact lk_Model_checkTaken_j233 hγ this Q (w_Model_checkTaken_L94 this Q n) ih v1 v4 v5 v6 (0 : Int32) M42 h
              · rw [if_neg b41] at h
                refine E_blk (lv' := [some (vr (some (11, this))), some (vi v1), none, none, some (vi v4), some (vi v5), some (vi v6), some (vi x24), some (vi (mI M 112 this v6.toNatClampNeg)), some (vi (0 : Int32))]) (st' := [vi (mI M 112 this v6.toNatClampNeg), vi x24, vr (some (11, this))]) (M1 := M38) (pc' := 243) (tb_Model hγ) [.aload_n 0, .iload 7, .iload 8] (by decide +kernel) rfl rfl trivial ?_
                refine E_callV (κ' := k_Model_fit) (As := [vi x24, vi (mI M 112 this v6.toNatClampNeg)]) (st := []) mv_Model_fit (Or.inl (tbk_mem (j := 15) (k := 197) rfl)) rfl (by decide +kernel) (Nat.le_of_ble_eq_true rfl) (Nat.le_of_ble_eq_true rfl) rfl (by decide) (lk_Model_fit hγ this x24 (mI M 112 this v6.toNatClampNeg) _ M38 h) (fun _ _ => Qi_r) (fun v M45 hp => Qi_k (R := fun st => E γ k_Model_checkTaken 3 246 [some (vr (some (11, this))), some (vi v1), none, none, some (vi v4), some (vi v5), some (vi v6), some (vi x24), some (vi (mI M 112 this v6.toNatClampNeg)), some (vi (0 : Int32))] st M45 (Qi Q)) hp (fun r46 h => ?_))
                refine E_blk (lv' := [some (vr (some (11, this))), some (vi v1), none, none, some (vi v4), some (vi v5), some (vi v6), some (vi x24), some (vi (mI M 112 this v6.toNatClampNeg)), some (vi r46)]) (st' := []) (M1 := M45) (pc' := 248) (tb_Model hγ) [.istore 9] (by decide +kernel) rfl rfl trivial ?_
                refine E_mask [true, true, false, false, true, true, true, false, false, true] rfl ?_
                exact lk_Model_checkTaken_j248 hγ this Q (w_Model_checkTaken_L94 this Q n) ih v1 v4 v5 v6 r46 M45 h
            · rw [if_neg b40] at h
              refine E_blk (lv' := [some (vr (some (11, this))), some (vi v1), none, none, some (vi v4), some (vi (1 : Int32)), some (vi v6), some (vi x24), some (vi (mI M 112 this v6.toNatClampNeg)), some (vi (0 : Int32))]) (st' := []) (M1 := M38) (pc' := 209) (tb_Model hγ) [.iconst 1, .istore 5] (by decide +kernel) rfl rfl trivial ?_
              refine E_goto (off := 39) (tgt := 248) (by decide +kernel) (by decide) ?_
              refine E_mask [true, true, false, false, true, true, true, false, false, true] rfl ?_
              exact lk_Model_checkTaken_j248 hγ this Q (w_Model_checkTaken_L94 this Q n) ih v1 v4 (1 : Int32) v6 (0 : Int32) M38 h
set_option maxRecDepth 4096 in
theorem lk_Model_checkTaken_j68 {γ : Gm} (hγ : Gk γ) (this : Nat) (Q : Int32 → Mem → Prop) (v1 : Int32) (v2 : Int32) (v4 : Int32) (M : Mem) (h : w_Model_checkTaken_j68 this Q v1 v2 v4 M) : E γ k_Model_checkTaken 3 68 [some (vr (some (11, this))), some (vi v1), some (vi v2), none, some (vi v4), none, none, none, none, none] [] M (Qi Q) := by
  unfold w_Model_checkTaken_j68 at h
  refine E_blk (lv' := [some (vr (some (11, this))), some (vi v1), some (vi v2), none, some (vi v4), none, none, none, none, none]) (st' := [vi v2, vi v1, vr (some (11, this))]) (M1 := M) (pc' := 71) (tb_Model hγ) [.aload_n 0, .iload_n 1, .iload_n 2] (by decide +kernel) rfl rfl trivial ?_
  refine E_callV (κ' := k_Model_listWants) (As := [vi v1, vi v2]) (st := []) mv_Model_listWants (Or.inl (tbk_mem (j := 15) (k := 221) rfl)) rfl (by decide +kernel) (Nat.le_of_ble_eq_true rfl) (Nat.le_of_ble_eq_true rfl) rfl (by decide) (lk_Model_listWants hγ this v1 v2 _ M h) (fun _ _ => Qv_r) (fun v M6 hp => Qv_k (R := fun st => E γ k_Model_checkTaken 3 74 [some (vr (some (11, this))), some (vi v1), some (vi v2), none, some (vi v4), none, none, none, none, none] st M6 (Qi Q)) hp (fun h => ?_))
  refine E_blk (lv' := [some (vr (some (11, this))), some (vi v1), some (vi v2), none, some (vi v4), none, none, none, none, none]) (st' := [vi (mI M6 11 this 79), vi (mI M6 11 this 72)]) (M1 := M6) (pc' := 82) (tb_Model hγ) [.aload_n 0, .getfield 780, .aload_n 0, .getfield 823] (by decide +kernel) rfl rfl trivial ?_
  refine E_icmp_ge (off := 6) (tgt := 88) (by decide +kernel) (by decide) (fun b7 => ?_) (fun b7 => ?_)
  · rw [if_pos b7] at h
    refine E_blk (lv' := [some (vr (some (11, this))), some (vi v1), some (vi v2), none, some (vi v4), some (vi (0 : Int32)), some (vi (0 : Int32)), none, none, none]) (st' := []) (M1 := M6) (pc' := 94) (tb_Model hγ) [.iconst 0, .istore 5, .iconst 0, .istore 6] (by decide +kernel) rfl rfl trivial ?_
    obtain ⟨n47, h⟩ := h
    refine E_mask [true, true, false, false, true, true, true, false, false, false] rfl ?_
    exact lk_Model_checkTaken_L94 hγ this Q n47 v1 v4 (0 : Int32) (0 : Int32) M6 h
  · rw [if_neg b7] at h
    refine E_blk (lv' := [some (vr (some (11, this))), some (vi v1), some (vi v2), none, some (vi v4), none, none, none, none, none]) (st' := [vi (31 : Int32)]) (M1 := M6) (pc' := 87) (tb_Model hγ) [.bipush 31] (by decide +kernel) rfl rfl trivial ?_
    exact E_iret rfl (by decide +kernel) h
set_option maxRecDepth 4096 in
theorem lk_Model_checkTaken_j32 {γ : Gm} (hγ : Gk γ) (this : Nat) (Q : Int32 → Mem → Prop) (v1 : Int32) (v2 : Int32) (s0 : Int32) (M : Mem) (h : w_Model_checkTaken_j32 this Q v1 v2 s0 M) : E γ k_Model_checkTaken 3 32 [some (vr (some (11, this))), some (vi v1), some (vi v2), none, none, none, none, none, none, none] [vi s0] M (Qi Q) := by
  unfold w_Model_checkTaken_j32 at h
  refine E_blk (lv' := [some (vr (some (11, this))), some (vi v1), some (vi v2), some (vi s0), none, none, none, none, none, none]) (st' := [vr (mR M 11 this 45)]) (M1 := M) (pc' := 37) (tb_Model hγ) [.istore_n 3, .aload_n 0, .getfield 522] (by decide +kernel) rfl rfl trivial ?_
  obtain ⟨i2, ei2, h⟩ := h
  rw [ei2]
  refine E_blk (lv' := [some (vr (some (11, this))), some (vi v1), some (vi v2), some (vi s0), none, none, none, none, none, none]) (st' := [vr (mR M 12 i2 31)]) (M1 := M) (pc' := 40) (tb_Model hγ) [.getfield 677] (by decide +kernel) rfl rfl trivial ?_
  obtain ⟨i3, ei3, h⟩ := h
  rw [ei3]
  obtain ⟨c4, h⟩ := h
  refine E_blk (lv' := [some (vr (some (11, this))), some (vi v1), some (vi v2), some (vi s0), some (vi (mI M 300 i3 v2.toNatClampNeg)), none, none, none, none, none]) (st' := [vi s0]) (M1 := M) (pc' := 45) (tb_Model hγ) [.iload_n 2, .iaload, .istore 4, .iload_n 3] (by decide +kernel) rfl rfl ⟨c4, trivial⟩ ?_
  refine E_if_eq (off := 23) (tgt := 68) (by decide +kernel) (by decide) (fun b5 => ?_) (fun b5 => ?_)
  · rw [if_pos b5] at h
    refine E_mask [true, true, true, false, true, false, false, false, false, false] rfl ?_
    exact lk_Model_checkTaken_j68 hγ this Q v1 v2 (mI M 300 i3 v2.toNatClampNeg) M h
  · rw [if_neg b5] at h
    refine E_blk (lv' := [some (vr (some (11, this))), some (vi v1), some (vi v2), some (vi s0), some (vi (mI M 300 i3 v2.toNatClampNeg)), none, none, none, none, none]) (st' := [vr (mR M 11 this 45), vi (mI M 300 i3 v2.toNatClampNeg)]) (M1 := M) (pc' := 54) (tb_Model hγ) [.iload 4, .aload_n 0, .getfield 522] (by decide +kernel) rfl rfl trivial ?_
    obtain ⟨i48, ei48, h⟩ := h
    rw [ei48]
    obtain ⟨c49, h⟩ := h
    refine E_blk (lv' := [some (vr (some (11, this))), some (vi v1), some (vi v2), some (vi s0), some (vi (mI M 300 i3 v2.toNatClampNeg)), none, none, none, none, none]) (st' := [vi (mI M 148 i48 (mI M 11 this 75).toNatClampNeg), vi (mI M 300 i3 v2.toNatClampNeg)]) (M1 := M) (pc' := 62) (tb_Model hγ) [.getfield 459, .aload_n 0, .getfield 768, .iaload] (by decide +kernel) rfl rfl ⟨c49, trivial⟩ ?_
    refine E_icmp_lt (off := 6) (tgt := 68) (by decide +kernel) (by decide) (fun b50 => ?_) (fun b50 => ?_)
    · rw [if_pos b50] at h
      refine E_mask [true, true, true, false, true, false, false, false, false, false] rfl ?_
      exact lk_Model_checkTaken_j68 hγ this Q v1 v2 (mI M 300 i3 v2.toNatClampNeg) M h
    · rw [if_neg b50] at h
      refine E_blk (lv' := [some (vr (some (11, this))), some (vi v1), some (vi v2), some (vi s0), some (vi (mI M 300 i3 v2.toNatClampNeg)), none, none, none, none, none]) (st' := [vi (33 : Int32)]) (M1 := M) (pc' := 67) (tb_Model hγ) [.bipush 33] (by decide +kernel) rfl rfl trivial ?_
      exact E_iret rfl (by decide +kernel) h
set_option maxRecDepth 4096 in
theorem lk_Model_checkTaken_j27 {γ : Gm} (hγ : Gk γ) (this : Nat) (Q : Int32 → Mem → Prop) (v1 : Int32) (v2 : Int32) (M : Mem) (h : w_Model_checkTaken_j27 this Q v1 v2 M) : E γ k_Model_checkTaken 3 27 [some (vr (some (11, this))), some (vi v1), some (vi v2), none, none, none, none, none, none, none] [] M (Qi Q) := by
  unfold w_Model_checkTaken_j27 at h
  refine E_blk (lv' := [some (vr (some (11, this))), some (vi v1), some (vi v2), none, none, none, none, none, none, none]) (st' := [vi (1 : Int32)]) (M1 := M) (pc' := 28) (tb_Model hγ) [.iconst 1] (by decide +kernel) rfl rfl trivial ?_
  refine E_goto (off := 4) (tgt := 32) (by decide +kernel) (by decide) ?_
  refine E_mask [true, true, true, false, false, false, false, false, false, false] rfl ?_
  exact lk_Model_checkTaken_j32 hγ this Q v1 v2 (1 : Int32) M h
set_option maxRecDepth 4096 in
theorem lk_Model_checkTaken {γ : Gm} (hγ : Gk γ) (this : Nat) (a1 : Int32) (a2 : Int32) (Q : Int32 → Mem → Prop) (M : Mem) (h : w_Model_checkTaken this a1 a2 Q M) : E γ k_Model_checkTaken 3 0 [some (vr (some (11, this))), some (vi a1), some (vi a2), none, none, none, none, none, none, none] [] M (Qi Q) := by
  unfold w_Model_checkTaken at h
  refine E_blk (lv' := [some (vr (some (11, this))), some (vi a1), some (vi a2), none, none, none, none, none, none, none]) (st' := [vi (3 : Int32), vi a1]) (M1 := M) (pc' := 2) (tb_Model hγ) [.iload_n 1, .iconst 3] (by decide +kernel) rfl rfl trivial ?_
  refine E_icmp_eq (off := 25) (tgt := 27) (by decide +kernel) (by decide) (fun b1 => ?_) (fun b1 => ?_)
  · rw [if_pos b1] at h
    refine E_mask [true, true, true, false, false, false, false, false, false, false] rfl ?_
    exact lk_Model_checkTaken_j27 hγ this Q a1 a2 M h
  · rw [if_neg b1] at h
    refine E_blk (lv' := [some (vr (some (11, this))), some (vi a1), some (vi a2), none, none, none, none, none, none, none]) (st' := [vi (4 : Int32), vi a1]) (M1 := M) (pc' := 7) (tb_Model hγ) [.iload_n 1, .iconst 4] (by decide +kernel) rfl rfl trivial ?_
    refine E_icmp_eq (off := 20) (tgt := 27) (by decide +kernel) (by decide) (fun b51 => ?_) (fun b51 => ?_)
    · rw [if_pos b51] at h
      refine E_mask [true, true, true, false, false, false, false, false, false, false] rfl ?_
      exact lk_Model_checkTaken_j27 hγ this Q a1 a2 M h
    · rw [if_neg b51] at h
      refine E_blk (lv' := [some (vr (some (11, this))), some (vi a1), some (vi a2), none, none, none, none, none, none, none]) (st' := [vi (5 : Int32), vi a1]) (M1 := M) (pc' := 12) (tb_Model hγ) [.iload_n 1, .iconst 5] (by decide +kernel) rfl rfl trivial ?_
      refine E_icmp_eq (off := 15) (tgt := 27) (by decide +kernel) (by decide) (fun b52 => ?_) (fun b52 => ?_)
      · rw [if_pos b52] at h
        refine E_mask [true, true, true, false, false, false, false, false, false, false] rfl ?_
        exact lk_Model_checkTaken_j27 hγ this Q a1 a2 M h
      · rw [if_neg b52] at h
        refine E_blk (lv' := [some (vr (some (11, this))), some (vi a1), some (vi a2), none, none, none, none, none, none, none]) (st' := [vi (6 : Int32), vi a1]) (M1 := M) (pc' := 18) (tb_Model hγ) [.iload_n 1, .bipush 6] (by decide +kernel) rfl rfl trivial ?_
        refine E_icmp_eq (off := 9) (tgt := 27) (by decide +kernel) (by decide) (fun b53 => ?_) (fun b53 => ?_)
        · rw [if_pos b53] at h
          refine E_mask [true, true, true, false, false, false, false, false, false, false] rfl ?_
          exact lk_Model_checkTaken_j27 hγ this Q a1 a2 M h
        · rw [if_neg b53] at h
          refine E_blk (lv' := [some (vr (some (11, this))), some (vi a1), some (vi a2), none, none, none, none, none, none, none]) (st' := [vi (7 : Int32), vi a1]) (M1 := M) (pc' := 24) (tb_Model hγ) [.iload_n 1, .bipush 7] (by decide +kernel) rfl rfl trivial ?_
          refine E_icmp_ne (off := 7) (tgt := 31) (by decide +kernel) (by decide) (fun b54 => ?_) (fun b54 => ?_)
          · rw [if_pos b54] at h
            refine E_mask [true, true, true, false, false, false, false, false, false, false] rfl ?_
            exact lk_Model_checkTaken_j27 hγ this Q a1 a2 M h
          · rw [if_neg b54] at h
            refine E_blk (lv' := [some (vr (some (11, this))), some (vi a1), some (vi a2), none, none, none, none, none, none, none]) (st' := [vi (0 : Int32)]) (M1 := M) (pc' := 32) (tb_Model hγ) [.iconst 0] (by decide +kernel) rfl rfl trivial ?_
            refine E_mask [true, true, true, false, false, false, false, false, false, false] rfl ?_
            exact lk_Model_checkTaken_j32 hγ this Q a1 a2 (0 : Int32) M h
def w_Model_isNear_j81 (this : Nat) (Q : Int32 → Mem → Prop) (k36 : Int32 → Int32 → Int32 → Mem → Prop) (v1 : Int32) (v3 : Int32) (s0 : Int32) (M : Mem) : Prop :=
  k36 v1 s0 (v3 + (1 : Int32)) M
def w_Model_isNear_L36 (this : Nat) (Q : Int32 → Mem → Prop) : Nat → Int32 → Int32 → Int32 → Mem → Prop
  | 0, _, _, _, _ => False
  | n + 1, v1, v2, v3, M => ∃ i4, (mR M 11 this 45) = some (12, i4) ∧ vp_in (mI M 11 this 76) (mL M 134 i4) ∧ if (mI M 134 i4 (mI M 11 this 76).toNatClampNeg) ≤ v3 then ((v2 = 0 ∨ v2 = 1) ∧ Q v2 M) else (if v2 = 0 then (∃ i8, (mR M 11 this 45) = some (12, i8) ∧ vp_in (((4 : Int32) * (mI M 11 this 76)) + v3) (mL M 133 i8) ∧ if (mI M 133 i8 (((4 : Int32) * (mI M 11 this 76)) + v3).toNatClampNeg) = v1 then (w_Model_isNear_j81 this Q (w_Model_isNear_L36 this Q n) v1 v3 (1 : Int32) M) else (w_Model_isNear_j81 this Q (w_Model_isNear_L36 this Q n) v1 v3 (0 : Int32) M)) else ((v2 = 0 ∨ v2 = 1) ∧ Q v2 M))
def w_Model_isNear_j33 (this : Nat) (Q : Int32 → Mem → Prop) (v1 : Int32) (s0 : Int32) (M : Mem) : Prop :=
  ∃ n11 : Nat, w_Model_isNear_L36 this Q n11 v1 s0 (0 : Int32) M
def w_Model_isNear_j28 (this : Nat) (Q : Int32 → Mem → Prop) (v1 : Int32) (M : Mem) : Prop :=
  w_Model_isNear_j33 this Q v1 (1 : Int32) M
def w_Model_isNear (this : Nat) (a1 : Int32) (Q : Int32 → Mem → Prop) (M : Mem) : Prop :=
  ∃ i1, (mR M 11 this 45) = some (12, i1) ∧ vp_in (mI M 11 this 76) (mL M 130 i1) ∧ if a1 = (mI M 130 i1 (mI M 11 this 76).toNatClampNeg) then (w_Model_isNear_j28 this Q a1 M) else (w_Model_parentName this (mI M 11 this 76) (fun r13 M12 => if a1 = r13 then (w_Model_isNear_j28 this Q a1 M12) else (w_Model_isNear_j33 this Q a1 (0 : Int32) M12)) M)
set_option maxRecDepth 4096 in
theorem lk_Model_isNear_j81 {γ : Gm} (hγ : Gk γ) (this : Nat) (Q : Int32 → Mem → Prop) (k36 : Int32 → Int32 → Int32 → Mem → Prop) (hk36 : ∀ (v1 : Int32) (v2 : Int32) (v3 : Int32) (M : Mem), k36 v1 v2 v3 M → E γ k_Model_isNear 1 36 [some (vr (some (11, this))), some (vi v1), some (vi v2), some (vi v3)] [] M (Qi Q)) (v1 : Int32) (v3 : Int32) (s0 : Int32) (M : Mem) (h : w_Model_isNear_j81 this Q k36 v1 v3 s0 M) : E γ k_Model_isNear 1 81 [some (vr (some (11, this))), some (vi v1), none, some (vi v3)] [vi s0] M (Qi Q) := by
  unfold w_Model_isNear_j81 at h
  refine E_blk (lv' := [some (vr (some (11, this))), some (vi v1), some (vi s0), some (vi (v3 + (1 : Int32)))]) (st' := []) (M1 := M) (pc' := 85) (tb_Model hγ) [.istore_n 2, .iinc 3 1] (by decide +kernel) rfl rfl trivial ?_
  refine E_goto (off := -49) (tgt := 36) (by decide +kernel) (by decide) ?_
  refine E_mask [true, true, true, true] rfl ?_
  exact hk36 v1 s0 (v3 + (1 : Int32)) M h
set_option maxRecDepth 4096 in
theorem lk_Model_isNear_L36 {γ : Gm} (hγ : Gk γ) (this : Nat) (Q : Int32 → Mem → Prop) : ∀ (n : Nat) (v1 : Int32) (v2 : Int32) (v3 : Int32) (M : Mem), w_Model_isNear_L36 this Q n v1 v2 v3 M → E γ k_Model_isNear 1 36 [some (vr (some (11, this))), some (vi v1), some (vi v2), some (vi v3)] [] M (Qi Q) := by
  intro n
  induction n with
  | zero => intro v1 v2 v3 M h; exact h.elim
  | succ n ih =>
    intro v1 v2 v3 M h
    unfold w_Model_isNear_L36 at h
    refine E_blk (lv' := [some (vr (some (11, this))), some (vi v1), some (vi v2), some (vi v3)]) (st' := [vr (mR M 11 this 45), vi v3]) (M1 := M) (pc' := 41) (tb_Model hγ) [.iload_n 3, .aload_n 0, .getfield 522] (by decide +kernel) rfl rfl trivial ?_
    obtain ⟨i4, ei4, h⟩ := h
    rw [ei4]
    obtain ⟨c5, h⟩ := h
    refine E_blk (lv' := [some (vr (some (11, this))), some (vi v1), some (vi v2), some (vi v3)]) (st' := [vi (mI M 134 i4 (mI M 11 this 76).toNatClampNeg), vi v3]) (M1 := M) (pc' := 49) (tb_Model hγ) [.getfield 432, .aload_n 0, .getfield 789, .iaload] (by decide +kernel) rfl rfl ⟨c5, trivial⟩ ?_
    refine E_icmp_ge (off := 39) (tgt := 88) (by decide +kernel) (by decide) (fun b6 => ?_) (fun b6 => ?_)
    · rw [if_pos b6] at h
      refine E_blk (lv' := [some (vr (some (11, this))), some (vi v1), some (vi v2), some (vi v3)]) (st' := [vi v2]) (M1 := M) (pc' := 89) (tb_Model hγ) [.iload_n 2] (by decide +kernel) rfl rfl trivial ?_
      exact E_zret rfl h.1 (by decide +kernel) h.2
    · rw [if_neg b6] at h
      refine E_blk (lv' := [some (vr (some (11, this))), some (vi v1), some (vi v2), some (vi v3)]) (st' := [vi v2]) (M1 := M) (pc' := 53) (tb_Model hγ) [.iload_n 2] (by decide +kernel) rfl rfl trivial ?_
      refine E_if_ne (off := 35) (tgt := 88) (by decide +kernel) (by decide) (fun b7 => ?_) (fun b7 => ?_)
      · rw [if_pos b7] at h
        refine E_blk (lv' := [some (vr (some (11, this))), some (vi v1), some (vi v2), some (vi v3)]) (st' := [vr (mR M 11 this 45)]) (M1 := M) (pc' := 60) (tb_Model hγ) [.aload_n 0, .getfield 522] (by decide +kernel) rfl rfl trivial ?_
        obtain ⟨i8, ei8, h⟩ := h
        rw [ei8]
        obtain ⟨c9, h⟩ := h
        refine E_blk (lv' := [some (vr (some (11, this))), some (vi v1), some (vi v2), some (vi v3)]) (st' := [vi v1, vi (mI M 133 i8 (((4 : Int32) * (mI M 11 this 76)) + v3).toNatClampNeg)]) (M1 := M) (pc' := 73) (tb_Model hγ) [.getfield 612, .iconst 4, .aload_n 0, .getfield 789, .imul, .iload_n 3, .iadd, .iaload, .iload_n 1] (by decide +kernel) rfl rfl ⟨c9, trivial⟩ ?_
        refine E_icmp_ne (off := 7) (tgt := 80) (by decide +kernel) (by decide) (fun b10 => ?_) (fun b10 => ?_)
        · rw [if_pos b10] at h
          refine E_blk (lv' := [some (vr (some (11, this))), some (vi v1), some (vi v2), some (vi v3)]) (st' := [vi (1 : Int32)]) (M1 := M) (pc' := 77) (tb_Model hγ) [.iconst 1] (by decide +kernel) rfl rfl trivial ?_
          refine E_goto (off := 4) (tgt := 81) (by decide +kernel) (by decide) ?_
          refine E_mask [true, true, false, true] rfl ?_
          exact lk_Model_isNear_j81 hγ this Q (w_Model_isNear_L36 this Q n) ih v1 v3 (1 : Int32) M h
        · rw [if_neg b10] at h
          refine E_blk (lv' := [some (vr (some (11, this))), some (vi v1), some (vi v2), some (vi v3)]) (st' := [vi (0 : Int32)]) (M1 := M) (pc' := 81) (tb_Model hγ) [.iconst 0] (by decide +kernel) rfl rfl trivial ?_
          refine E_mask [true, true, false, true] rfl ?_
          exact lk_Model_isNear_j81 hγ this Q (w_Model_isNear_L36 this Q n) ih v1 v3 (0 : Int32) M h
      · rw [if_neg b7] at h
        refine E_blk (lv' := [some (vr (some (11, this))), some (vi v1), some (vi v2), some (vi v3)]) (st' := [vi v2]) (M1 := M) (pc' := 89) (tb_Model hγ) [.iload_n 2] (by decide +kernel) rfl rfl trivial ?_
        exact E_zret rfl h.1 (by decide +kernel) h.2
set_option maxRecDepth 4096 in
theorem lk_Model_isNear_j33 {γ : Gm} (hγ : Gk γ) (this : Nat) (Q : Int32 → Mem → Prop) (v1 : Int32) (s0 : Int32) (M : Mem) (h : w_Model_isNear_j33 this Q v1 s0 M) : E γ k_Model_isNear 1 33 [some (vr (some (11, this))), some (vi v1), none, none] [vi s0] M (Qi Q) := by
  unfold w_Model_isNear_j33 at h
  refine E_blk (lv' := [some (vr (some (11, this))), some (vi v1), some (vi s0), some (vi (0 : Int32))]) (st' := []) (M1 := M) (pc' := 36) (tb_Model hγ) [.istore_n 2, .iconst 0, .istore_n 3] (by decide +kernel) rfl rfl trivial ?_
  obtain ⟨n11, h⟩ := h
  refine E_mask [true, true, true, true] rfl ?_
  exact lk_Model_isNear_L36 hγ this Q n11 v1 s0 (0 : Int32) M h
set_option maxRecDepth 4096 in
theorem lk_Model_isNear_j28 {γ : Gm} (hγ : Gk γ) (this : Nat) (Q : Int32 → Mem → Prop) (v1 : Int32) (M : Mem) (h : w_Model_isNear_j28 this Q v1 M) : E γ k_Model_isNear 1 28 [some (vr (some (11, this))), some (vi v1), none, none] [] M (Qi Q) := by
  unfold w_Model_isNear_j28 at h
  refine E_blk (lv' := [some (vr (some (11, this))), some (vi v1), none, none]) (st' := [vi (1 : Int32)]) (M1 := M) (pc' := 29) (tb_Model hγ) [.iconst 1] (by decide +kernel) rfl rfl trivial ?_
  refine E_goto (off := 4) (tgt := 33) (by decide +kernel) (by decide) ?_
  refine E_mask [true, true, false, false] rfl ?_
  exact lk_Model_isNear_j33 hγ this Q v1 (1 : Int32) M h
set_option maxRecDepth 4096 in
theorem lk_Model_isNear {γ : Gm} (hγ : Gk γ) (this : Nat) (a1 : Int32) (Q : Int32 → Mem → Prop) (M : Mem) (h : w_Model_isNear this a1 Q M) : E γ k_Model_isNear 1 0 [some (vr (some (11, this))), some (vi a1), none, none] [] M (Qi Q) := by
  unfold w_Model_isNear at h
  refine E_blk (lv' := [some (vr (some (11, this))), some (vi a1), none, none]) (st' := [vr (mR M 11 this 45), vi a1]) (M1 := M) (pc' := 5) (tb_Model hγ) [.iload_n 1, .aload_n 0, .getfield 522] (by decide +kernel) rfl rfl trivial ?_
  obtain ⟨i1, ei1, h⟩ := h
  rw [ei1]
  obtain ⟨c2, h⟩ := h
  refine E_blk (lv' := [some (vr (some (11, this))), some (vi a1), none, none]) (st' := [vi (mI M 130 i1 (mI M 11 this 76).toNatClampNeg), vi a1]) (M1 := M) (pc' := 13) (tb_Model hγ) [.getfield 423, .aload_n 0, .getfield 789, .iaload] (by decide +kernel) rfl rfl ⟨c2, trivial⟩ ?_
  refine E_icmp_eq (off := 15) (tgt := 28) (by decide +kernel) (by decide) (fun b3 => ?_) (fun b3 => ?_)
  · rw [if_pos b3] at h
    refine E_mask [true, true, false, false] rfl ?_
    exact lk_Model_isNear_j28 hγ this Q a1 M h
  · rw [if_neg b3] at h
    refine E_blk (lv' := [some (vr (some (11, this))), some (vi a1), none, none]) (st' := [vi (mI M 11 this 76), vr (some (11, this)), vi a1]) (M1 := M) (pc' := 22) (tb_Model hγ) [.iload_n 1, .aload_n 0, .aload_n 0, .getfield 789] (by decide +kernel) rfl rfl trivial ?_
    refine E_callV (κ' := k_Model_parentName) (As := [vi (mI M 11 this 76)]) (st := [vi a1]) mv_Model_parentName (Or.inl (tbk_mem (j := 15) (k := 205) rfl)) rfl (by decide +kernel) (Nat.le_of_ble_eq_true rfl) (Nat.le_of_ble_eq_true rfl) rfl (by decide) (lk_Model_parentName hγ this (mI M 11 this 76) _ M h) (fun _ _ => Qi_r) (fun v M12 hp => Qi_k (R := fun st => E γ k_Model_isNear 1 25 [some (vr (some (11, this))), some (vi a1), none, none] st M12 (Qi Q)) hp (fun r13 h => ?_))
    refine E_icmp_ne (off := 7) (tgt := 32) (by decide +kernel) (by decide) (fun b14 => ?_) (fun b14 => ?_)
    · rw [if_pos b14] at h
      refine E_mask [true, true, false, false] rfl ?_
      exact lk_Model_isNear_j28 hγ this Q a1 M12 h
    · rw [if_neg b14] at h
      refine E_blk (lv' := [some (vr (some (11, this))), some (vi a1), none, none]) (st' := [vi (0 : Int32)]) (M1 := M12) (pc' := 33) (tb_Model hγ) [.iconst 0] (by decide +kernel) rfl rfl trivial ?_
      refine E_mask [true, true, false, false] rfl ?_
      exact lk_Model_isNear_j33 hγ this Q a1 (0 : Int32) M12 h
def w_Model_checkOwn_j190 (this : Nat) (Q : Int32 → Mem → Prop) (v3 : Int32) (M : Mem) : Prop :=
  if v3 = 0 then (Q (0 : Int32) M) else (Q (41 : Int32) M)
def w_Model_checkOwn_j152 (this : Nat) (Q : Int32 → Mem → Prop) (k125 : Int32 → Int32 → Int32 → Mem → Prop) (v3 : Int32) (v5 : Int32) (s0 : Int32) (s1 : Int32) (M : Mem) : Prop :=
  k125 v3 (s1 ||| s0) (v5 + (1 : Int32)) M
def w_Model_checkOwn_L125 (this : Nat) (Q : Int32 → Mem → Prop) : Nat → Int32 → Int32 → Int32 → Mem → Prop
  | 0, _, _, _, _ => False
  | n + 1, v3, v4, v5, M => if (mI M 11 this 72) ≤ v5 then (if v4 = 0 then (w_Model_checkOwn_j190 this Q v3 M) else (∃ i24, (mR M 11 this 45) = some (12, i24) ∧ vp_in (mI M 11 this 75) (mL M 144 i24) ∧ if (mI M 144 i24 (mI M 11 this 75).toNatClampNeg) = (mI M 11 this 6) then (Q (40 : Int32) M) else (w_Model_checkOwn_j190 this Q v3 M))) else (vp_in v5 (mL M 212 0) ∧ if (mI M 212 0 v5.toNatClampNeg) = (5 : Int32) then (w_Model_checkOwn_j152 this Q (w_Model_checkOwn_L125 this Q n) v3 v5 (1 : Int32) v4 M) else (w_Model_checkOwn_j152 this Q (w_Model_checkOwn_L125 this Q n) v3 v5 (0 : Int32) v4 M))
def w_Model_checkOwn_j113 (this : Nat) (Q : Int32 → Mem → Prop) (k78 : Int32 → Int32 → Int32 → Mem → Prop) (v3 : Int32) (v5 : Int32) (s0 : Int32) (s1 : Int32) (M : Mem) : Prop :=
  k78 v3 (s1 ||| s0) (v5 + (1 : Int32)) M
def w_Model_checkOwn_L78 (this : Nat) (Q : Int32 → Mem → Prop) : Nat → Int32 → Int32 → Int32 → Mem → Prop
  | 0, _, _, _, _ => False
  | n + 1, v3, v4, v5, M => ∃ i18, (mR M 11 this 45) = some (12, i18) ∧ vp_in (mI M 11 this 75) (mL M 148 i18) ∧ if (mI M 148 i18 (mI M 11 this 75).toNatClampNeg) ≤ v5 then (∃ n29 : Nat, w_Model_checkOwn_L125 this Q n29 v3 v4 (0 : Int32) M) else (vp_in v5 (mL M 111 this) ∧ if (mI M 111 this v5.toNatClampNeg) = (5 : Int32) then (w_Model_checkOwn_j113 this Q (w_Model_checkOwn_L78 this Q n) v3 v5 (1 : Int32) v4 M) else (w_Model_checkOwn_j113 this Q (w_Model_checkOwn_L78 this Q n) v3 v5 (0 : Int32) v4 M))
def w_Model_checkOwn_j409 (this : Nat) (Q : Int32 → Mem → Prop) (s0 : Int32) (s1 : Int32) (M : Mem) : Prop :=
  if (s1 ||| s0) = 0 then (Q (42 : Int32) M) else (Q (0 : Int32) M)
def w_Model_checkOwn_j404 (this : Nat) (Q : Int32 → Mem → Prop) (s0 : Int32) (M : Mem) : Prop :=
  w_Model_checkOwn_j409 this Q (1 : Int32) s0 M
def w_Model_checkOwn_j408 (this : Nat) (Q : Int32 → Mem → Prop) (s0 : Int32) (M : Mem) : Prop :=
  w_Model_checkOwn_j409 this Q (0 : Int32) s0 M
def w_Model_checkOwn_j350 (this : Nat) (Q : Int32 → Mem → Prop) (v2 : Int32) (v4 : Int32) (s0 : Int32) (M : Mem) : Prop :=
  if v4 = (5 : Int32) then (∃ i49, (mR M 11 this 45) = some (12, i49) ∧ ∃ i50, (mR M 12 i49 31) = some (300, i50) ∧ vp_in v2 (mL M 300 i50) ∧ ∃ i52, (mR M 11 this 45) = some (12, i52) ∧ vp_in (mI M 11 this 76) (mL M 130 i52) ∧ if (mI M 300 i50 v2.toNatClampNeg) = (mI M 130 i52 (mI M 11 this 76).toNatClampNeg) then (w_Model_checkOwn_j404 this Q s0 M) else (∃ i56, (mR M 11 this 45) = some (12, i56) ∧ ∃ i57, (mR M 12 i56 31) = some (300, i57) ∧ vp_in v2 (mL M 300 i57) ∧ w_Model_parentName this (mI M 11 this 76) (fun r60 M59 => if (mI M 300 i57 v2.toNatClampNeg) = r60 then (w_Model_checkOwn_j404 this Q s0 M59) else (w_Model_checkOwn_j408 this Q s0 M59)) M)) else (w_Model_checkOwn_j408 this Q s0 M)
def w_Model_checkOwn_j349 (this : Nat) (Q : Int32 → Mem → Prop) (v2 : Int32) (v4 : Int32) (M : Mem) : Prop :=
  w_Model_checkOwn_j350 this Q v2 v4 (0 : Int32) M
def w_Model_checkOwn (this : Nat) (a1 : Int32) (a2 : Int32) (Q : Int32 → Mem → Prop) (M : Mem) : Prop :=
  ∃ i1, (mR M 11 this 32) = some (300, i1) ∧ ∃ i2, (mR M 11 this 45) = some (12, i2) ∧ vp_in (mI M 11 this 75) (mL M 145 i2) ∧ vp_in (mI M 145 i2 (mI M 11 this 75).toNatClampNeg) (mL M 300 i1) ∧ ∃ x5 : Int32, x5 = (mI M 300 i1 (mI M 145 i2 (mI M 11 this 75).toNatClampNeg).toNatClampNeg) ∧ if a1 = (50 : Int32) then (∃ i77, (mR M 11 this 45) = some (12, i77) ∧ ∃ i78, (mR M 12 i77 32) = some (300, i78) ∧ vp_in a2 (mL M 300 i78) ∧ if (mI M 300 i78 a2.toNatClampNeg) = (mI M 11 this 6) then (Q (42 : Int32) M) else (Q (0 : Int32) M)) else (if a1 = (51 : Int32) then (∃ i41, (mR M 11 this 45) = some (12, i41) ∧ ∃ i42, (mR M 12 i41 32) = some (300, i42) ∧ vp_in a2 (mL M 300 i42) ∧ if (mI M 300 i42 a2.toNatClampNeg) = (mI M 11 this 6) then (vp_in ((mI M 11 this 72) - (mI M 11 this 79)) (mL M 212 0) ∧ ∃ x46 : Int32, x46 = (mI M 212 0 ((mI M 11 this 72) - (mI M 11 this 79)).toNatClampNeg) ∧ if 0 ≤ x46 then (w_Model_checkOwn_j349 this Q a2 x46 M) else (∃ i62, (mR M 11 this 45) = some (12, i62) ∧ ∃ i63, (mR M 12 i62 31) = some (300, i63) ∧ ∃ i64, (mR M 11 this 45) = some (12, i64) ∧ vp_in (mI M 11 this 75) (mL M 149 i64) ∧ vp_in (((mI M 149 i64 (mI M 11 this 75).toNatClampNeg) - (1 : Int32)) - x46) (mL M 300 i63) ∧ ∃ i67, (mR M 11 this 45) = some (12, i67) ∧ ∃ i68, (mR M 12 i67 31) = some (300, i68) ∧ vp_in a2 (mL M 300 i68) ∧ if (mI M 300 i63 (((mI M 149 i64 (mI M 11 this 75).toNatClampNeg) - (1 : Int32)) - x46).toNatClampNeg) = (mI M 300 i68 a2.toNatClampNeg) then (w_Model_checkOwn_j350 this Q a2 x46 (1 : Int32) M) else (w_Model_checkOwn_j349 this Q a2 x46 M))) else (∃ i71, (mR M 11 this 45) = some (12, i71) ∧ ∃ i72, (mR M 12 i71 31) = some (300, i72) ∧ vp_in a2 (mL M 300 i72) ∧ w_Model_isNear this (mI M 300 i72 a2.toNatClampNeg) (fun r75 M74 => if r75 = 0 then (Q (42 : Int32) M74) else (Q (0 : Int32) M74)) M)) else (if a1 = (52 : Int32) then (∃ i37, (mR M 11 this 45) = some (12, i37) ∧ ∃ i38, (mR M 12 i37 32) = some (300, i38) ∧ vp_in a2 (mL M 300 i38) ∧ if (mI M 300 i38 a2.toNatClampNeg) = (mI M 11 this 6) then (Q (42 : Int32) M) else (Q (0 : Int32) M)) else (if a1 = (53 : Int32) then (∃ i33, (mR M 11 this 45) = some (12, i33) ∧ ∃ i34, (mR M 12 i33 32) = some (300, i34) ∧ vp_in a2 (mL M 300 i34) ∧ if (mI M 300 i34 a2.toNatClampNeg) = (mI M 11 this 6) then (Q (42 : Int32) M) else (Q (0 : Int32) M)) else (if a1 = (54 : Int32) then (Q (0 : Int32) M) else (if a1 = (55 : Int32) then (Q (0 : Int32) M) else (if a1 = (56 : Int32) then (Q (0 : Int32) M) else (if a1 = (57 : Int32) then (∃ n32 : Nat, w_Model_checkOwn_L78 this Q n32 x5 (0 : Int32) (0 : Int32) M) else (if a1 = (58 : Int32) then (if x5 = (1 : Int32) then (Q (0 : Int32) M) else (Q (41 : Int32) M)) else (if a1 = (59 : Int32) then (if (1 : Int32) < x5 then (Q (0 : Int32) M) else (Q (41 : Int32) M)) else (Q (0 : Int32) M))))))))))
set_option maxRecDepth 4096 in
theorem lk_Model_checkOwn_j190 {γ : Gm} (hγ : Gk γ) (this : Nat) (Q : Int32 → Mem → Prop) (v3 : Int32) (M : Mem) (h : w_Model_checkOwn_j190 this Q v3 M) : E γ k_Model_checkOwn 2 190 [none, none, none, some (vi v3), none, none] [] M (Qi Q) := by
  unfold w_Model_checkOwn_j190 at h
  refine E_blk (lv' := [none, none, none, some (vi v3), none, none]) (st' := [vi v3]) (M1 := M) (pc' := 191) (tb_Model hγ) [.iload_n 3] (by decide +kernel) rfl rfl trivial ?_
  refine E_if_eq (off := 8) (tgt := 199) (by decide +kernel) (by decide) (fun b23 => ?_) (fun b23 => ?_)
  · rw [if_pos b23] at h
    refine E_blk (lv' := [none, none, none, some (vi v3), none, none]) (st' := [vi (0 : Int32)]) (M1 := M) (pc' := 200) (tb_Model hγ) [.iconst 0] (by decide +kernel) rfl rfl trivial ?_
    exact E_iret rfl (by decide +kernel) h
  · rw [if_neg b23] at h
    refine E_blk (lv' := [none, none, none, some (vi v3), none, none]) (st' := [vi (41 : Int32)]) (M1 := M) (pc' := 196) (tb_Model hγ) [.bipush 41] (by decide +kernel) rfl rfl trivial ?_
    refine E_goto (off := 4) (tgt := 200) (by decide +kernel) (by decide) ?_
    exact E_iret rfl (by decide +kernel) h
set_option maxRecDepth 4096 in
theorem lk_Model_checkOwn_j152 {γ : Gm} (hγ : Gk γ) (this : Nat) (Q : Int32 → Mem → Prop) (k125 : Int32 → Int32 → Int32 → Mem → Prop) (hk125 : ∀ (v3 : Int32) (v4 : Int32) (v5 : Int32) (M : Mem), k125 v3 v4 v5 M → E γ k_Model_checkOwn 2 125 [some (vr (some (11, this))), none, none, some (vi v3), some (vi v4), some (vi v5)] [] M (Qi Q)) (v3 : Int32) (v5 : Int32) (s0 : Int32) (s1 : Int32) (M : Mem) (h : w_Model_checkOwn_j152 this Q k125 v3 v5 s0 s1 M) : E γ k_Model_checkOwn 2 152 [some (vr (some (11, this))), none, none, some (vi v3), none, some (vi v5)] [vi s0, vi s1] M (Qi Q) := by
  unfold w_Model_checkOwn_j152 at h
  refine E_blk (lv' := [some (vr (some (11, this))), none, none, some (vi v3), some (vi (s1 ||| s0)), some (vi (v5 + (1 : Int32)))]) (st' := []) (M1 := M) (pc' := 158) (tb_Model hγ) [.ior, .istore 4, .iinc 5 1] (by decide +kernel) rfl rfl trivial ?_
  refine E_goto (off := -33) (tgt := 125) (by decide +kernel) (by decide) ?_
  refine E_mask [true, false, false, true, true, true] rfl ?_
  exact hk125 v3 (s1 ||| s0) (v5 + (1 : Int32)) M h
set_option maxRecDepth 4096 in
theorem lk_Model_checkOwn_L125 {γ : Gm} (hγ : Gk γ) (this : Nat) (Q : Int32 → Mem → Prop) : ∀ (n : Nat) (v3 : Int32) (v4 : Int32) (v5 : Int32) (M : Mem), w_Model_checkOwn_L125 this Q n v3 v4 v5 M → E γ k_Model_checkOwn 2 125 [some (vr (some (11, this))), none, none, some (vi v3), some (vi v4), some (vi v5)] [] M (Qi Q) := by
  intro n
  induction n with
  | zero => intro v3 v4 v5 M h; exact h.elim
  | succ n ih =>
    intro v3 v4 v5 M h
    unfold w_Model_checkOwn_L125 at h
    refine E_blk (lv' := [some (vr (some (11, this))), none, none, some (vi v3), some (vi v4), some (vi v5)]) (st' := [vi (mI M 11 this 72), vi v5]) (M1 := M) (pc' := 131) (tb_Model hγ) [.iload 5, .aload_n 0, .getfield 780] (by decide +kernel) rfl rfl trivial ?_
    refine E_icmp_ge (off := 30) (tgt := 161) (by decide +kernel) (by decide) (fun b21 => ?_) (fun b21 => ?_)
    · rw [if_pos b21] at h
      refine E_blk (lv' := [some (vr (some (11, this))), none, none, some (vi v3), some (vi v4), some (vi v5)]) (st' := [vi v4]) (M1 := M) (pc' := 163) (tb_Model hγ) [.iload 4] (by decide +kernel) rfl rfl trivial ?_
      refine E_if_eq (off := 27) (tgt := 190) (by decide +kernel) (by decide) (fun b22 => ?_) (fun b22 => ?_)
      · rw [if_pos b22] at h
        refine E_mask [false, false, false, true, false, false] rfl ?_
        exact lk_Model_checkOwn_j190 hγ this Q v3 M h
      · rw [if_neg b22] at h
        refine E_blk (lv' := [some (vr (some (11, this))), none, none, some (vi v3), some (vi v4), some (vi v5)]) (st' := [vr (mR M 11 this 45)]) (M1 := M) (pc' := 170) (tb_Model hγ) [.aload_n 0, .getfield 522] (by decide +kernel) rfl rfl trivial ?_
        obtain ⟨i24, ei24, h⟩ := h
        rw [ei24]
        obtain ⟨c25, h⟩ := h
        refine E_blk (lv' := [some (vr (some (11, this))), none, none, some (vi v3), some (vi v4), some (vi v5)]) (st' := [vi (mI M 11 this 6), vi (mI M 144 i24 (mI M 11 this 75).toNatClampNeg)]) (M1 := M) (pc' := 182) (tb_Model hγ) [.getfield 447, .aload_n 0, .getfield 768, .iaload, .aload_n 0, .getfield 121] (by decide +kernel) rfl rfl ⟨c25, trivial⟩ ?_
        refine E_icmp_ne (off := 8) (tgt := 190) (by decide +kernel) (by decide) (fun b26 => ?_) (fun b26 => ?_)
        · rw [if_pos b26] at h
          refine E_blk (lv' := [some (vr (some (11, this))), none, none, some (vi v3), some (vi v4), some (vi v5)]) (st' := [vi (40 : Int32)]) (M1 := M) (pc' := 187) (tb_Model hγ) [.bipush 40] (by decide +kernel) rfl rfl trivial ?_
          refine E_goto (off := 13) (tgt := 200) (by decide +kernel) (by decide) ?_
          exact E_iret rfl (by decide +kernel) h
        · rw [if_neg b26] at h
          refine E_mask [false, false, false, true, false, false] rfl ?_
          exact lk_Model_checkOwn_j190 hγ this Q v3 M h
    · rw [if_neg b21] at h
      obtain ⟨c27, h⟩ := h
      refine E_blk (lv' := [some (vr (some (11, this))), none, none, some (vi v3), some (vi v4), some (vi v5)]) (st' := [vi (5 : Int32), vi (mI M 212 0 v5.toNatClampNeg), vi v4]) (M1 := M) (pc' := 144) (tb_Model hγ) [.iload 4, .aload_n 0, .getfield 308, .iload 5, .iaload, .iconst 5] (by decide +kernel) rfl rfl ⟨c27, trivial⟩ ?_
      refine E_icmp_ne (off := 7) (tgt := 151) (by decide +kernel) (by decide) (fun b28 => ?_) (fun b28 => ?_)
      · rw [if_pos b28] at h
        refine E_blk (lv' := [some (vr (some (11, this))), none, none, some (vi v3), some (vi v4), some (vi v5)]) (st' := [vi (1 : Int32), vi v4]) (M1 := M) (pc' := 148) (tb_Model hγ) [.iconst 1] (by decide +kernel) rfl rfl trivial ?_
        refine E_goto (off := 4) (tgt := 152) (by decide +kernel) (by decide) ?_
        refine E_mask [true, false, false, true, false, true] rfl ?_
        exact lk_Model_checkOwn_j152 hγ this Q (w_Model_checkOwn_L125 this Q n) ih v3 v5 (1 : Int32) v4 M h
      · rw [if_neg b28] at h
        refine E_blk (lv' := [some (vr (some (11, this))), none, none, some (vi v3), some (vi v4), some (vi v5)]) (st' := [vi (0 : Int32), vi v4]) (M1 := M) (pc' := 152) (tb_Model hγ) [.iconst 0] (by decide +kernel) rfl rfl trivial ?_
        refine E_mask [true, false, false, true, false, true] rfl ?_
        exact lk_Model_checkOwn_j152 hγ this Q (w_Model_checkOwn_L125 this Q n) ih v3 v5 (0 : Int32) v4 M h
set_option maxRecDepth 4096 in
theorem lk_Model_checkOwn_j113 {γ : Gm} (hγ : Gk γ) (this : Nat) (Q : Int32 → Mem → Prop) (k78 : Int32 → Int32 → Int32 → Mem → Prop) (hk78 : ∀ (v3 : Int32) (v4 : Int32) (v5 : Int32) (M : Mem), k78 v3 v4 v5 M → E γ k_Model_checkOwn 2 78 [some (vr (some (11, this))), none, none, some (vi v3), some (vi v4), some (vi v5)] [] M (Qi Q)) (v3 : Int32) (v5 : Int32) (s0 : Int32) (s1 : Int32) (M : Mem) (h : w_Model_checkOwn_j113 this Q k78 v3 v5 s0 s1 M) : E γ k_Model_checkOwn 2 113 [some (vr (some (11, this))), none, none, some (vi v3), none, some (vi v5)] [vi s0, vi s1] M (Qi Q) := by
  unfold w_Model_checkOwn_j113 at h
  refine E_blk (lv' := [some (vr (some (11, this))), none, none, some (vi v3), some (vi (s1 ||| s0)), some (vi (v5 + (1 : Int32)))]) (st' := []) (M1 := M) (pc' := 119) (tb_Model hγ) [.ior, .istore 4, .iinc 5 1] (by decide +kernel) rfl rfl trivial ?_
  refine E_goto (off := -41) (tgt := 78) (by decide +kernel) (by decide) ?_
  refine E_mask [true, false, false, true, true, true] rfl ?_
  exact hk78 v3 (s1 ||| s0) (v5 + (1 : Int32)) M h
set_option maxRecDepth 4096 in
theorem lk_Model_checkOwn_L78 {γ : Gm} (hγ : Gk γ) (this : Nat) (Q : Int32 → Mem → Prop) : ∀ (n : Nat) (v3 : Int32) (v4 : Int32) (v5 : Int32) (M : Mem), w_Model_checkOwn_L78 this Q n v3 v4 v5 M → E γ k_Model_checkOwn 2 78 [some (vr (some (11, this))), none, none, some (vi v3), some (vi v4), some (vi v5)] [] M (Qi Q) := by
  intro n
  induction n with
  | zero => intro v3 v4 v5 M h; exact h.elim
  | succ n ih =>
    intro v3 v4 v5 M h
    unfold w_Model_checkOwn_L78 at h
    refine E_blk (lv' := [some (vr (some (11, this))), none, none, some (vi v3), some (vi v4), some (vi v5)]) (st' := [vr (mR M 11 this 45), vi v5]) (M1 := M) (pc' := 84) (tb_Model hγ) [.iload 5, .aload_n 0, .getfield 522] (by decide +kernel) rfl rfl trivial ?_
    obtain ⟨i18, ei18, h⟩ := h
    rw [ei18]
    obtain ⟨c19, h⟩ := h
    refine E_blk (lv' := [some (vr (some (11, this))), none, none, some (vi v3), some (vi v4), some (vi v5)]) (st' := [vi (mI M 148 i18 (mI M 11 this 75).toNatClampNeg), vi v5]) (M1 := M) (pc' := 92) (tb_Model hγ) [.getfield 459, .aload_n 0, .getfield 768, .iaload] (by decide +kernel) rfl rfl ⟨c19, trivial⟩ ?_
    refine E_icmp_ge (off := 30) (tgt := 122) (by decide +kernel) (by decide) (fun b20 => ?_) (fun b20 => ?_)
    · rw [if_pos b20] at h
      refine E_blk (lv' := [some (vr (some (11, this))), none, none, some (vi v3), some (vi v4), some (vi (0 : Int32))]) (st' := []) (M1 := M) (pc' := 125) (tb_Model hγ) [.iconst 0, .istore 5] (by decide +kernel) rfl rfl trivial ?_
      obtain ⟨n29, h⟩ := h
      refine E_mask [true, false, false, true, true, true] rfl ?_
      exact lk_Model_checkOwn_L125 hγ this Q n29 v3 v4 (0 : Int32) M h
    · rw [if_neg b20] at h
      obtain ⟨c30, h⟩ := h
      refine E_blk (lv' := [some (vr (some (11, this))), none, none, some (vi v3), some (vi v4), some (vi v5)]) (st' := [vi (5 : Int32), vi (mI M 111 this v5.toNatClampNeg), vi v4]) (M1 := M) (pc' := 105) (tb_Model hγ) [.iload 4, .aload_n 0, .getfield 305, .iload 5, .iaload, .iconst 5] (by decide +kernel) rfl rfl ⟨c30, trivial⟩ ?_
      refine E_icmp_ne (off := 7) (tgt := 112) (by decide +kernel) (by decide) (fun b31 => ?_) (fun b31 => ?_)
      · rw [if_pos b31] at h
        refine E_blk (lv' := [some (vr (some (11, this))), none, none, some (vi v3), some (vi v4), some (vi v5)]) (st' := [vi (1 : Int32), vi v4]) (M1 := M) (pc' := 109) (tb_Model hγ) [.iconst 1] (by decide +kernel) rfl rfl trivial ?_
        refine E_goto (off := 4) (tgt := 113) (by decide +kernel) (by decide) ?_
        refine E_mask [true, false, false, true, false, true] rfl ?_
        exact lk_Model_checkOwn_j113 hγ this Q (w_Model_checkOwn_L78 this Q n) ih v3 v5 (1 : Int32) v4 M h
      · rw [if_neg b31] at h
        refine E_blk (lv' := [some (vr (some (11, this))), none, none, some (vi v3), some (vi v4), some (vi v5)]) (st' := [vi (0 : Int32), vi v4]) (M1 := M) (pc' := 113) (tb_Model hγ) [.iconst 0] (by decide +kernel) rfl rfl trivial ?_
        refine E_mask [true, false, false, true, false, true] rfl ?_
        exact lk_Model_checkOwn_j113 hγ this Q (w_Model_checkOwn_L78 this Q n) ih v3 v5 (0 : Int32) v4 M h
set_option maxRecDepth 4096 in
theorem lk_Model_checkOwn_j409 {γ : Gm} (hγ : Gk γ) (this : Nat) (Q : Int32 → Mem → Prop) (s0 : Int32) (s1 : Int32) (M : Mem) (h : w_Model_checkOwn_j409 this Q s0 s1 M) : E γ k_Model_checkOwn 2 409 [none, none, none, none, none, none] [vi s0, vi s1] M (Qi Q) := by
  unfold w_Model_checkOwn_j409 at h
  refine E_blk (lv' := [none, none, none, none, none, some (vi (s1 ||| s0))]) (st' := [vi (s1 ||| s0)]) (M1 := M) (pc' := 414) (tb_Model hγ) [.ior, .istore 5, .iload 5] (by decide +kernel) rfl rfl trivial ?_
  refine E_if_eq (off := 7) (tgt := 421) (by decide +kernel) (by decide) (fun b55 => ?_) (fun b55 => ?_)
  · rw [if_pos b55] at h
    refine E_blk (lv' := [none, none, none, none, none, some (vi (s1 ||| s0))]) (st' := [vi (42 : Int32)]) (M1 := M) (pc' := 423) (tb_Model hγ) [.bipush 42] (by decide +kernel) rfl rfl trivial ?_
    exact E_iret rfl (by decide +kernel) h
  · rw [if_neg b55] at h
    refine E_blk (lv' := [none, none, none, none, none, some (vi (s1 ||| s0))]) (st' := [vi (0 : Int32)]) (M1 := M) (pc' := 418) (tb_Model hγ) [.iconst 0] (by decide +kernel) rfl rfl trivial ?_
    refine E_goto (off := 5) (tgt := 423) (by decide +kernel) (by decide) ?_
    exact E_iret rfl (by decide +kernel) h
set_option maxRecDepth 4096 in
theorem lk_Model_checkOwn_j404 {γ : Gm} (hγ : Gk γ) (this : Nat) (Q : Int32 → Mem → Prop) (s0 : Int32) (M : Mem) (h : w_Model_checkOwn_j404 this Q s0 M) : E γ k_Model_checkOwn 2 404 [none, none, none, none, none, none] [vi s0] M (Qi Q) := by
  unfold w_Model_checkOwn_j404 at h
  refine E_blk (lv' := [none, none, none, none, none, none]) (st' := [vi (1 : Int32), vi s0]) (M1 := M) (pc' := 405) (tb_Model hγ) [.iconst 1] (by decide +kernel) rfl rfl trivial ?_
  refine E_goto (off := 4) (tgt := 409) (by decide +kernel) (by decide) ?_
  refine E_mask [false, false, false, false, false, false] rfl ?_
  exact lk_Model_checkOwn_j409 hγ this Q (1 : Int32) s0 M h
set_option maxRecDepth 4096 in
theorem lk_Model_checkOwn_j408 {γ : Gm} (hγ : Gk γ) (this : Nat) (Q : Int32 → Mem → Prop) (s0 : Int32) (M : Mem) (h : w_Model_checkOwn_j408 this Q s0 M) : E γ k_Model_checkOwn 2 408 [none, none, none, none, none, none] [vi s0] M (Qi Q) := by
  unfold w_Model_checkOwn_j408 at h
  refine E_blk (lv' := [none, none, none, none, none, none]) (st' := [vi (0 : Int32), vi s0]) (M1 := M) (pc' := 409) (tb_Model hγ) [.iconst 0] (by decide +kernel) rfl rfl trivial ?_
  refine E_mask [false, false, false, false, false, false] rfl ?_
  exact lk_Model_checkOwn_j409 hγ this Q (0 : Int32) s0 M h
set_option maxRecDepth 4096 in
theorem lk_Model_checkOwn_j350 {γ : Gm} (hγ : Gk γ) (this : Nat) (Q : Int32 → Mem → Prop) (v2 : Int32) (v4 : Int32) (s0 : Int32) (M : Mem) (h : w_Model_checkOwn_j350 this Q v2 v4 s0 M) : E γ k_Model_checkOwn 2 350 [some (vr (some (11, this))), none, some (vi v2), none, some (vi v4), none] [vi s0] M (Qi Q) := by
  unfold w_Model_checkOwn_j350 at h
  refine E_blk (lv' := [some (vr (some (11, this))), none, some (vi v2), none, some (vi v4), some (vi s0)]) (st' := [vi (5 : Int32), vi v4, vi s0]) (M1 := M) (pc' := 357) (tb_Model hγ) [.istore 5, .iload 5, .iload 4, .iconst 5] (by decide +kernel) rfl rfl trivial ?_
  refine E_icmp_ne (off := 51) (tgt := 408) (by decide +kernel) (by decide) (fun b48 => ?_) (fun b48 => ?_)
  · rw [if_pos b48] at h
    refine E_blk (lv' := [some (vr (some (11, this))), none, some (vi v2), none, some (vi v4), some (vi s0)]) (st' := [vr (mR M 11 this 45), vi s0]) (M1 := M) (pc' := 364) (tb_Model hγ) [.aload_n 0, .getfield 522] (by decide +kernel) rfl rfl trivial ?_
    obtain ⟨i49, ei49, h⟩ := h
    rw [ei49]
    refine E_blk (lv' := [some (vr (some (11, this))), none, some (vi v2), none, some (vi v4), some (vi s0)]) (st' := [vr (mR M 12 i49 31), vi s0]) (M1 := M) (pc' := 367) (tb_Model hγ) [.getfield 677] (by decide +kernel) rfl rfl trivial ?_
    obtain ⟨i50, ei50, h⟩ := h
    rw [ei50]
    obtain ⟨c51, h⟩ := h
    refine E_blk (lv' := [some (vr (some (11, this))), none, some (vi v2), none, some (vi v4), some (vi s0)]) (st' := [vr (mR M 11 this 45), vi (mI M 300 i50 v2.toNatClampNeg), vi s0]) (M1 := M) (pc' := 373) (tb_Model hγ) [.iload_n 2, .iaload, .aload_n 0, .getfield 522] (by decide +kernel) rfl rfl ⟨c51, trivial⟩ ?_
    obtain ⟨i52, ei52, h⟩ := h
    rw [ei52]
    obtain ⟨c53, h⟩ := h
    refine E_blk (lv' := [some (vr (some (11, this))), none, some (vi v2), none, some (vi v4), some (vi s0)]) (st' := [vi (mI M 130 i52 (mI M 11 this 76).toNatClampNeg), vi (mI M 300 i50 v2.toNatClampNeg), vi s0]) (M1 := M) (pc' := 381) (tb_Model hγ) [.getfield 423, .aload_n 0, .getfield 789, .iaload] (by decide +kernel) rfl rfl ⟨c53, trivial⟩ ?_
    refine E_icmp_eq (off := 23) (tgt := 404) (by decide +kernel) (by decide) (fun b54 => ?_) (fun b54 => ?_)
    · rw [if_pos b54] at h
      refine E_mask [false, false, false, false, false, false] rfl ?_
      exact lk_Model_checkOwn_j404 hγ this Q s0 M h
    · rw [if_neg b54] at h
      refine E_blk (lv' := [some (vr (some (11, this))), none, some (vi v2), none, some (vi v4), some (vi s0)]) (st' := [vr (mR M 11 this 45), vi s0]) (M1 := M) (pc' := 388) (tb_Model hγ) [.aload_n 0, .getfield 522] (by decide +kernel) rfl rfl trivial ?_
      obtain ⟨i56, ei56, h⟩ := h
      rw [ei56]
      refine E_blk (lv' := [some (vr (some (11, this))), none, some (vi v2), none, some (vi v4), some (vi s0)]) (st' := [vr (mR M 12 i56 31), vi s0]) (M1 := M) (pc' := 391) (tb_Model hγ) [.getfield 677] (by decide +kernel) rfl rfl trivial ?_
      obtain ⟨i57, ei57, h⟩ := h
      rw [ei57]
      obtain ⟨c58, h⟩ := h
      refine E_blk (lv' := [some (vr (some (11, this))), none, some (vi v2), none, some (vi v4), some (vi s0)]) (st' := [vi (mI M 11 this 76), vr (some (11, this)), vi (mI M 300 i57 v2.toNatClampNeg), vi s0]) (M1 := M) (pc' := 398) (tb_Model hγ) [.iload_n 2, .iaload, .aload_n 0, .aload_n 0, .getfield 789] (by decide +kernel) rfl rfl ⟨c58, trivial⟩ ?_
      refine E_callV (κ' := k_Model_parentName) (As := [vi (mI M 11 this 76)]) (st := [vi (mI M 300 i57 v2.toNatClampNeg), vi s0]) mv_Model_parentName (Or.inl (tbk_mem (j := 15) (k := 205) rfl)) rfl (by decide +kernel) (Nat.le_of_ble_eq_true rfl) (Nat.le_of_ble_eq_true rfl) rfl (by decide) (lk_Model_parentName hγ this (mI M 11 this 76) _ M h) (fun _ _ => Qi_r) (fun v M59 hp => Qi_k (R := fun st => E γ k_Model_checkOwn 2 401 [some (vr (some (11, this))), none, some (vi v2), none, some (vi v4), some (vi s0)] st M59 (Qi Q)) hp (fun r60 h => ?_))
      refine E_icmp_ne (off := 7) (tgt := 408) (by decide +kernel) (by decide) (fun b61 => ?_) (fun b61 => ?_)
      · rw [if_pos b61] at h
        refine E_mask [false, false, false, false, false, false] rfl ?_
        exact lk_Model_checkOwn_j404 hγ this Q s0 M59 h
      · rw [if_neg b61] at h
        refine E_mask [false, false, false, false, false, false] rfl ?_
        exact lk_Model_checkOwn_j408 hγ this Q s0 M59 h
  · rw [if_neg b48] at h
    refine E_mask [false, false, false, false, false, false] rfl ?_
    exact lk_Model_checkOwn_j408 hγ this Q s0 M h
set_option maxRecDepth 4096 in
theorem lk_Model_checkOwn_j349 {γ : Gm} (hγ : Gk γ) (this : Nat) (Q : Int32 → Mem → Prop) (v2 : Int32) (v4 : Int32) (M : Mem) (h : w_Model_checkOwn_j349 this Q v2 v4 M) : E γ k_Model_checkOwn 2 349 [some (vr (some (11, this))), none, some (vi v2), none, some (vi v4), none] [] M (Qi Q) := by
  unfold w_Model_checkOwn_j349 at h
  refine E_blk (lv' := [some (vr (some (11, this))), none, some (vi v2), none, some (vi v4), none]) (st' := [vi (0 : Int32)]) (M1 := M) (pc' := 350) (tb_Model hγ) [.iconst 0] (by decide +kernel) rfl rfl trivial ?_
  refine E_mask [true, false, true, false, true, false] rfl ?_
  exact lk_Model_checkOwn_j350 hγ this Q v2 v4 (0 : Int32) M h
set_option maxRecDepth 4096 in
theorem lk_Model_checkOwn {γ : Gm} (hγ : Gk γ) (this : Nat) (a1 : Int32) (a2 : Int32) (Q : Int32 → Mem → Prop) (M : Mem) (h : w_Model_checkOwn this a1 a2 Q M) : E γ k_Model_checkOwn 2 0 [some (vr (some (11, this))), some (vi a1), some (vi a2), none, none, none] [] M (Qi Q) := by
  unfold w_Model_checkOwn at h
  refine E_blk (lv' := [some (vr (some (11, this))), some (vi a1), some (vi a2), none, none, none]) (st' := [vr (mR M 11 this 32)]) (M1 := M) (pc' := 4) (tb_Model hγ) [.aload_n 0, .getfield 83] (by decide +kernel) rfl rfl trivial ?_
  obtain ⟨i1, ei1, h⟩ := h
  rw [ei1]
  refine E_blk (lv' := [some (vr (some (11, this))), some (vi a1), some (vi a2), none, none, none]) (st' := [vr (mR M 11 this 45), vr (some (300, i1))]) (M1 := M) (pc' := 8) (tb_Model hγ) [.aload_n 0, .getfield 522] (by decide +kernel) rfl rfl trivial ?_
  obtain ⟨i2, ei2, h⟩ := h
  rw [ei2]
  obtain ⟨c3, c4, h⟩ := h
  refine E_blk (lv' := [some (vr (some (11, this))), some (vi a1), some (vi a2), some (vi (mI M 300 i1 (mI M 145 i2 (mI M 11 this 75).toNatClampNeg).toNatClampNeg)), none, none]) (st' := []) (M1 := M) (pc' := 18) (tb_Model hγ) [.getfield 450, .aload_n 0, .getfield 768, .iaload, .iaload, .istore_n 3] (by decide +kernel) rfl rfl ⟨c3, c4, trivial⟩ ?_
  obtain ⟨x5, ex5, h⟩ := h
  rw [← ex5]
  refine E_blk (lv' := [some (vr (some (11, this))), some (vi a1), some (vi a2), some (vi x5), none, none]) (st' := [vi a1]) (M1 := M) (pc' := 19) (tb_Model hγ) [.iload_n 1] (by decide +kernel) rfl rfl trivial ?_
  by_cases b6 : a1 = (50 : Int32)
  · rw [if_pos b6] at h
    refine E.up (fun _ _ hJ => J_tswI (len := 53) (dflt := 405) (lo := 50) (hi := 59) (offs := #[206, 229, 206, 206, 405, 405, 405, 53, 182, 194]) (off := 206) (tgt := 225) (by decide +kernel) (by rw [b6]; decide) (by rw [b6]; decide) (by rw [b6]; rfl) (by decide) hJ) ?_
    refine E_blk (lv' := [some (vr (some (11, this))), some (vi a1), some (vi a2), some (vi x5), none, none]) (st' := [vr (mR M 11 this 45)]) (M1 := M) (pc' := 229) (tb_Model hγ) [.aload_n 0, .getfield 522] (by decide +kernel) rfl rfl trivial ?_
    obtain ⟨i77, ei77, h⟩ := h
    rw [ei77]
    refine E_blk (lv' := [some (vr (some (11, this))), some (vi a1), some (vi a2), some (vi x5), none, none]) (st' := [vr (mR M 12 i77 32)]) (M1 := M) (pc' := 232) (tb_Model hγ) [.getfield 680] (by decide +kernel) rfl rfl trivial ?_
    obtain ⟨i78, ei78, h⟩ := h
    rw [ei78]
    obtain ⟨c79, h⟩ := h
    refine E_blk (lv' := [some (vr (some (11, this))), some (vi a1), some (vi a2), some (vi x5), none, none]) (st' := [vi (mI M 11 this 6), vi (mI M 300 i78 a2.toNatClampNeg)]) (M1 := M) (pc' := 238) (tb_Model hγ) [.iload_n 2, .iaload, .aload_n 0, .getfield 121] (by decide +kernel) rfl rfl ⟨c79, trivial⟩ ?_
    refine E_icmp_ne (off := 8) (tgt := 246) (by decide +kernel) (by decide) (fun b80 => ?_) (fun b80 => ?_)
    · rw [if_pos b80] at h
      refine E_blk (lv' := [some (vr (some (11, this))), some (vi a1), some (vi a2), some (vi x5), none, none]) (st' := [vi (42 : Int32)]) (M1 := M) (pc' := 243) (tb_Model hγ) [.bipush 42] (by decide +kernel) rfl rfl trivial ?_
      refine E_goto (off := 4) (tgt := 247) (by decide +kernel) (by decide) ?_
      exact E_iret rfl (by decide +kernel) h
    · rw [if_neg b80] at h
      refine E_blk (lv' := [some (vr (some (11, this))), some (vi a1), some (vi a2), some (vi x5), none, none]) (st' := [vi (0 : Int32)]) (M1 := M) (pc' := 247) (tb_Model hγ) [.iconst 0] (by decide +kernel) rfl rfl trivial ?_
      exact E_iret rfl (by decide +kernel) h
  · rw [if_neg b6] at h
    by_cases b7 : a1 = (51 : Int32)
    · rw [if_pos b7] at h
      refine E.up (fun _ _ hJ => J_tswI (len := 53) (dflt := 405) (lo := 50) (hi := 59) (offs := #[206, 229, 206, 206, 405, 405, 405, 53, 182, 194]) (off := 229) (tgt := 248) (by decide +kernel) (by rw [b7]; decide) (by rw [b7]; decide) (by rw [b7]; rfl) (by decide) hJ) ?_
      refine E_blk (lv' := [some (vr (some (11, this))), some (vi a1), some (vi a2), some (vi x5), none, none]) (st' := [vr (mR M 11 this 45)]) (M1 := M) (pc' := 252) (tb_Model hγ) [.aload_n 0, .getfield 522] (by decide +kernel) rfl rfl trivial ?_
      obtain ⟨i41, ei41, h⟩ := h
      rw [ei41]
      refine E_blk (lv' := [some (vr (some (11, this))), some (vi a1), some (vi a2), some (vi x5), none, none]) (st' := [vr (mR M 12 i41 32)]) (M1 := M) (pc' := 255) (tb_Model hγ) [.getfield 680] (by decide +kernel) rfl rfl trivial ?_
      obtain ⟨i42, ei42, h⟩ := h
      rw [ei42]
      obtain ⟨c43, h⟩ := h
      refine E_blk (lv' := [some (vr (some (11, this))), some (vi a1), some (vi a2), some (vi x5), none, none]) (st' := [vi (mI M 11 this 6), vi (mI M 300 i42 a2.toNatClampNeg)]) (M1 := M) (pc' := 261) (tb_Model hγ) [.iload_n 2, .iaload, .aload_n 0, .getfield 121] (by decide +kernel) rfl rfl ⟨c43, trivial⟩ ?_
      refine E_icmp_eq (off := 26) (tgt := 287) (by decide +kernel) (by decide) (fun b44 => ?_) (fun b44 => ?_)
      · rw [if_pos b44] at h
        obtain ⟨c45, h⟩ := h
        refine E_blk (lv' := [some (vr (some (11, this))), some (vi a1), some (vi a2), some (vi x5), some (vi (mI M 212 0 ((mI M 11 this 72) - (mI M 11 this 79)).toNatClampNeg)), none]) (st' := []) (M1 := M) (pc' := 303) (tb_Model hγ) [.aload_n 0, .getfield 308, .aload_n 0, .getfield 780, .aload_n 0, .getfield 823, .isub, .iaload, .istore 4] (by decide +kernel) rfl rfl ⟨c45, trivial⟩ ?_
        obtain ⟨x46, ex46, h⟩ := h
        rw [← ex46]
        refine E_blk (lv' := [some (vr (some (11, this))), some (vi a1), some (vi a2), some (vi x5), some (vi x46), none]) (st' := [vi x46]) (M1 := M) (pc' := 305) (tb_Model hγ) [.iload 4] (by decide +kernel) rfl rfl trivial ?_
        refine E_if_ge (off := 44) (tgt := 349) (by decide +kernel) (by decide) (fun b47 => ?_) (fun b47 => ?_)
        · rw [if_pos b47] at h
          refine E_mask [true, false, true, false, true, false] rfl ?_
          exact lk_Model_checkOwn_j349 hγ this Q a2 x46 M h
        · rw [if_neg b47] at h
          refine E_blk (lv' := [some (vr (some (11, this))), some (vi a1), some (vi a2), some (vi x5), some (vi x46), none]) (st' := [vr (mR M 11 this 45)]) (M1 := M) (pc' := 312) (tb_Model hγ) [.aload_n 0, .getfield 522] (by decide +kernel) rfl rfl trivial ?_
          obtain ⟨i62, ei62, h⟩ := h
          rw [ei62]
          refine E_blk (lv' := [some (vr (some (11, this))), some (vi a1), some (vi a2), some (vi x5), some (vi x46), none]) (st' := [vr (mR M 12 i62 31)]) (M1 := M) (pc' := 315) (tb_Model hγ) [.getfield 677] (by decide +kernel) rfl rfl trivial ?_
          obtain ⟨i63, ei63, h⟩ := h
          rw [ei63]
          refine E_blk (lv' := [some (vr (some (11, this))), some (vi a1), some (vi a2), some (vi x5), some (vi x46), none]) (st' := [vr (mR M 11 this 45), vr (some (300, i63))]) (M1 := M) (pc' := 319) (tb_Model hγ) [.aload_n 0, .getfield 522] (by decide +kernel) rfl rfl trivial ?_
          obtain ⟨i64, ei64, h⟩ := h
          rw [ei64]
          obtain ⟨c65, c66, h⟩ := h
          refine E_blk (lv' := [some (vr (some (11, this))), some (vi a1), some (vi a2), some (vi x5), some (vi x46), none]) (st' := [vr (mR M 11 this 45), vi (mI M 300 i63 (((mI M 149 i64 (mI M 11 this 75).toNatClampNeg) - (1 : Int32)) - x46).toNatClampNeg)]) (M1 := M) (pc' := 337) (tb_Model hγ) [.getfield 462, .aload_n 0, .getfield 768, .iaload, .iconst 1, .isub, .iload 4, .isub, .iaload, .aload_n 0, .getfield 522] (by decide +kernel) rfl rfl ⟨c65, c66, trivial⟩ ?_
          obtain ⟨i67, ei67, h⟩ := h
          rw [ei67]
          refine E_blk (lv' := [some (vr (some (11, this))), some (vi a1), some (vi a2), some (vi x5), some (vi x46), none]) (st' := [vr (mR M 12 i67 31), vi (mI M 300 i63 (((mI M 149 i64 (mI M 11 this 75).toNatClampNeg) - (1 : Int32)) - x46).toNatClampNeg)]) (M1 := M) (pc' := 340) (tb_Model hγ) [.getfield 677] (by decide +kernel) rfl rfl trivial ?_
          obtain ⟨i68, ei68, h⟩ := h
          rw [ei68]
          obtain ⟨c69, h⟩ := h
          refine E_blk (lv' := [some (vr (some (11, this))), some (vi a1), some (vi a2), some (vi x5), some (vi x46), none]) (st' := [vi (mI M 300 i68 a2.toNatClampNeg), vi (mI M 300 i63 (((mI M 149 i64 (mI M 11 this 75).toNatClampNeg) - (1 : Int32)) - x46).toNatClampNeg)]) (M1 := M) (pc' := 342) (tb_Model hγ) [.iload_n 2, .iaload] (by decide +kernel) rfl rfl ⟨c69, trivial⟩ ?_
          refine E_icmp_ne (off := 7) (tgt := 349) (by decide +kernel) (by decide) (fun b70 => ?_) (fun b70 => ?_)
          · rw [if_pos b70] at h
            refine E_blk (lv' := [some (vr (some (11, this))), some (vi a1), some (vi a2), some (vi x5), some (vi x46), none]) (st' := [vi (1 : Int32)]) (M1 := M) (pc' := 346) (tb_Model hγ) [.iconst 1] (by decide +kernel) rfl rfl trivial ?_
            refine E_goto (off := 4) (tgt := 350) (by decide +kernel) (by decide) ?_
            refine E_mask [true, false, true, false, true, false] rfl ?_
            exact lk_Model_checkOwn_j350 hγ this Q a2 x46 (1 : Int32) M h
          · rw [if_neg b70] at h
            refine E_mask [true, false, true, false, true, false] rfl ?_
            exact lk_Model_checkOwn_j349 hγ this Q a2 x46 M h
      · rw [if_neg b44] at h
        refine E_blk (lv' := [some (vr (some (11, this))), some (vi a1), some (vi a2), some (vi x5), none, none]) (st' := [vr (mR M 11 this 45), vr (some (11, this))]) (M1 := M) (pc' := 269) (tb_Model hγ) [.aload_n 0, .aload_n 0, .getfield 522] (by decide +kernel) rfl rfl trivial ?_
        obtain ⟨i71, ei71, h⟩ := h
        rw [ei71]
        refine E_blk (lv' := [some (vr (some (11, this))), some (vi a1), some (vi a2), some (vi x5), none, none]) (st' := [vr (mR M 12 i71 31), vr (some (11, this))]) (M1 := M) (pc' := 272) (tb_Model hγ) [.getfield 677] (by decide +kernel) rfl rfl trivial ?_
        obtain ⟨i72, ei72, h⟩ := h
        rw [ei72]
        obtain ⟨c73, h⟩ := h
        refine E_blk (lv' := [some (vr (some (11, this))), some (vi a1), some (vi a2), some (vi x5), none, none]) (st' := [vi (mI M 300 i72 a2.toNatClampNeg), vr (some (11, this))]) (M1 := M) (pc' := 274) (tb_Model hγ) [.iload_n 2, .iaload] (by decide +kernel) rfl rfl ⟨c73, trivial⟩ ?_
        refine E_callV (κ' := k_Model_isNear) (As := [vi (mI M 300 i72 a2.toNatClampNeg)]) (st := []) mv_Model_isNear (Or.inl (tbk_mem (j := 15) (k := 239) rfl)) rfl (by decide +kernel) (Nat.le_of_ble_eq_true rfl) (Nat.le_of_ble_eq_true rfl) rfl (by decide) (lk_Model_isNear hγ this (mI M 300 i72 a2.toNatClampNeg) _ M h) (fun _ _ => Qi_r) (fun v M74 hp => Qi_k (R := fun st => E γ k_Model_checkOwn 2 277 [some (vr (some (11, this))), some (vi a1), some (vi a2), some (vi x5), none, none] st M74 (Qi Q)) hp (fun r75 h => ?_))
        refine E_if_eq (off := 7) (tgt := 284) (by decide +kernel) (by decide) (fun b76 => ?_) (fun b76 => ?_)
        · rw [if_pos b76] at h
          refine E_blk (lv' := [some (vr (some (11, this))), some (vi a1), some (vi a2), some (vi x5), none, none]) (st' := [vi (42 : Int32)]) (M1 := M74) (pc' := 286) (tb_Model hγ) [.bipush 42] (by decide +kernel) rfl rfl trivial ?_
          exact E_iret rfl (by decide +kernel) h
        · rw [if_neg b76] at h
          refine E_blk (lv' := [some (vr (some (11, this))), some (vi a1), some (vi a2), some (vi x5), none, none]) (st' := [vi (0 : Int32)]) (M1 := M74) (pc' := 281) (tb_Model hγ) [.iconst 0] (by decide +kernel) rfl rfl trivial ?_
          refine E_goto (off := 5) (tgt := 286) (by decide +kernel) (by decide) ?_
          exact E_iret rfl (by decide +kernel) h
    · rw [if_neg b7] at h
      by_cases b8 : a1 = (52 : Int32)
      · rw [if_pos b8] at h
        refine E.up (fun _ _ hJ => J_tswI (len := 53) (dflt := 405) (lo := 50) (hi := 59) (offs := #[206, 229, 206, 206, 405, 405, 405, 53, 182, 194]) (off := 206) (tgt := 225) (by decide +kernel) (by rw [b8]; decide) (by rw [b8]; decide) (by rw [b8]; rfl) (by decide) hJ) ?_
        refine E_blk (lv' := [some (vr (some (11, this))), some (vi a1), some (vi a2), some (vi x5), none, none]) (st' := [vr (mR M 11 this 45)]) (M1 := M) (pc' := 229) (tb_Model hγ) [.aload_n 0, .getfield 522] (by decide +kernel) rfl rfl trivial ?_
        obtain ⟨i37, ei37, h⟩ := h
        rw [ei37]
        refine E_blk (lv' := [some (vr (some (11, this))), some (vi a1), some (vi a2), some (vi x5), none, none]) (st' := [vr (mR M 12 i37 32)]) (M1 := M) (pc' := 232) (tb_Model hγ) [.getfield 680] (by decide +kernel) rfl rfl trivial ?_
        obtain ⟨i38, ei38, h⟩ := h
        rw [ei38]
        obtain ⟨c39, h⟩ := h
        refine E_blk (lv' := [some (vr (some (11, this))), some (vi a1), some (vi a2), some (vi x5), none, none]) (st' := [vi (mI M 11 this 6), vi (mI M 300 i38 a2.toNatClampNeg)]) (M1 := M) (pc' := 238) (tb_Model hγ) [.iload_n 2, .iaload, .aload_n 0, .getfield 121] (by decide +kernel) rfl rfl ⟨c39, trivial⟩ ?_
        refine E_icmp_ne (off := 8) (tgt := 246) (by decide +kernel) (by decide) (fun b40 => ?_) (fun b40 => ?_)
        · rw [if_pos b40] at h
          refine E_blk (lv' := [some (vr (some (11, this))), some (vi a1), some (vi a2), some (vi x5), none, none]) (st' := [vi (42 : Int32)]) (M1 := M) (pc' := 243) (tb_Model hγ) [.bipush 42] (by decide +kernel) rfl rfl trivial ?_
          refine E_goto (off := 4) (tgt := 247) (by decide +kernel) (by decide) ?_
          exact E_iret rfl (by decide +kernel) h
        · rw [if_neg b40] at h
          refine E_blk (lv' := [some (vr (some (11, this))), some (vi a1), some (vi a2), some (vi x5), none, none]) (st' := [vi (0 : Int32)]) (M1 := M) (pc' := 247) (tb_Model hγ) [.iconst 0] (by decide +kernel) rfl rfl trivial ?_
          exact E_iret rfl (by decide +kernel) h
      · rw [if_neg b8] at h
        by_cases b9 : a1 = (53 : Int32)
        · rw [if_pos b9] at h
          refine E.up (fun _ _ hJ => J_tswI (len := 53) (dflt := 405) (lo := 50) (hi := 59) (offs := #[206, 229, 206, 206, 405, 405, 405, 53, 182, 194]) (off := 206) (tgt := 225) (by decide +kernel) (by rw [b9]; decide) (by rw [b9]; decide) (by rw [b9]; rfl) (by decide) hJ) ?_
          refine E_blk (lv' := [some (vr (some (11, this))), some (vi a1), some (vi a2), some (vi x5), none, none]) (st' := [vr (mR M 11 this 45)]) (M1 := M) (pc' := 229) (tb_Model hγ) [.aload_n 0, .getfield 522] (by decide +kernel) rfl rfl trivial ?_
          obtain ⟨i33, ei33, h⟩ := h
          rw [ei33]
          refine E_blk (lv' := [some (vr (some (11, this))), some (vi a1), some (vi a2), some (vi x5), none, none]) (st' := [vr (mR M 12 i33 32)]) (M1 := M) (pc' := 232) (tb_Model hγ) [.getfield 680] (by decide +kernel) rfl rfl trivial ?_
          obtain ⟨i34, ei34, h⟩ := h
          rw [ei34]
          obtain ⟨c35, h⟩ := h
          refine E_blk (lv' := [some (vr (some (11, this))), some (vi a1), some (vi a2), some (vi x5), none, none]) (st' := [vi (mI M 11 this 6), vi (mI M 300 i34 a2.toNatClampNeg)]) (M1 := M) (pc' := 238) (tb_Model hγ) [.iload_n 2, .iaload, .aload_n 0, .getfield 121] (by decide +kernel) rfl rfl ⟨c35, trivial⟩ ?_
          refine E_icmp_ne (off := 8) (tgt := 246) (by decide +kernel) (by decide) (fun b36 => ?_) (fun b36 => ?_)
          · rw [if_pos b36] at h
            refine E_blk (lv' := [some (vr (some (11, this))), some (vi a1), some (vi a2), some (vi x5), none, none]) (st' := [vi (42 : Int32)]) (M1 := M) (pc' := 243) (tb_Model hγ) [.bipush 42] (by decide +kernel) rfl rfl trivial ?_
            refine E_goto (off := 4) (tgt := 247) (by decide +kernel) (by decide) ?_
            exact E_iret rfl (by decide +kernel) h
          · rw [if_neg b36] at h
            refine E_blk (lv' := [some (vr (some (11, this))), some (vi a1), some (vi a2), some (vi x5), none, none]) (st' := [vi (0 : Int32)]) (M1 := M) (pc' := 247) (tb_Model hγ) [.iconst 0] (by decide +kernel) rfl rfl trivial ?_
            exact E_iret rfl (by decide +kernel) h
        · rw [if_neg b9] at h
          by_cases b10 : a1 = (54 : Int32)
          · rw [if_pos b10] at h
            refine E.up (fun _ _ hJ => J_tswI (len := 53) (dflt := 405) (lo := 50) (hi := 59) (offs := #[206, 229, 206, 206, 405, 405, 405, 53, 182, 194]) (off := 405) (tgt := 424) (by decide +kernel) (by rw [b10]; decide) (by rw [b10]; decide) (by rw [b10]; rfl) (by decide) hJ) ?_
            refine E_blk (lv' := [some (vr (some (11, this))), some (vi a1), some (vi a2), some (vi x5), none, none]) (st' := [vi (0 : Int32)]) (M1 := M) (pc' := 425) (tb_Model hγ) [.iconst 0] (by decide +kernel) rfl rfl trivial ?_
            exact E_iret rfl (by decide +kernel) h
          · rw [if_neg b10] at h
            by_cases b11 : a1 = (55 : Int32)
            · rw [if_pos b11] at h
              refine E.up (fun _ _ hJ => J_tswI (len := 53) (dflt := 405) (lo := 50) (hi := 59) (offs := #[206, 229, 206, 206, 405, 405, 405, 53, 182, 194]) (off := 405) (tgt := 424) (by decide +kernel) (by rw [b11]; decide) (by rw [b11]; decide) (by rw [b11]; rfl) (by decide) hJ) ?_
              refine E_blk (lv' := [some (vr (some (11, this))), some (vi a1), some (vi a2), some (vi x5), none, none]) (st' := [vi (0 : Int32)]) (M1 := M) (pc' := 425) (tb_Model hγ) [.iconst 0] (by decide +kernel) rfl rfl trivial ?_
              exact E_iret rfl (by decide +kernel) h
            · rw [if_neg b11] at h
              by_cases b12 : a1 = (56 : Int32)
              · rw [if_pos b12] at h
                refine E.up (fun _ _ hJ => J_tswI (len := 53) (dflt := 405) (lo := 50) (hi := 59) (offs := #[206, 229, 206, 206, 405, 405, 405, 53, 182, 194]) (off := 405) (tgt := 424) (by decide +kernel) (by rw [b12]; decide) (by rw [b12]; decide) (by rw [b12]; rfl) (by decide) hJ) ?_
                refine E_blk (lv' := [some (vr (some (11, this))), some (vi a1), some (vi a2), some (vi x5), none, none]) (st' := [vi (0 : Int32)]) (M1 := M) (pc' := 425) (tb_Model hγ) [.iconst 0] (by decide +kernel) rfl rfl trivial ?_
                exact E_iret rfl (by decide +kernel) h
              · rw [if_neg b12] at h
                by_cases b13 : a1 = (57 : Int32)
                · rw [if_pos b13] at h
                  refine E.up (fun _ _ hJ => J_tswI (len := 53) (dflt := 405) (lo := 50) (hi := 59) (offs := #[206, 229, 206, 206, 405, 405, 405, 53, 182, 194]) (off := 53) (tgt := 72) (by decide +kernel) (by rw [b13]; decide) (by rw [b13]; decide) (by rw [b13]; rfl) (by decide) hJ) ?_
                  refine E_blk (lv' := [some (vr (some (11, this))), some (vi a1), some (vi a2), some (vi x5), some (vi (0 : Int32)), some (vi (0 : Int32))]) (st' := []) (M1 := M) (pc' := 78) (tb_Model hγ) [.iconst 0, .istore 4, .iconst 0, .istore 5] (by decide +kernel) rfl rfl trivial ?_
                  obtain ⟨n32, h⟩ := h
                  refine E_mask [true, false, false, true, true, true] rfl ?_
                  exact lk_Model_checkOwn_L78 hγ this Q n32 x5 (0 : Int32) (0 : Int32) M h
                · rw [if_neg b13] at h
                  by_cases b14 : a1 = (58 : Int32)
                  · rw [if_pos b14] at h
                    refine E.up (fun _ _ hJ => J_tswI (len := 53) (dflt := 405) (lo := 50) (hi := 59) (offs := #[206, 229, 206, 206, 405, 405, 405, 53, 182, 194]) (off := 182) (tgt := 201) (by decide +kernel) (by rw [b14]; decide) (by rw [b14]; decide) (by rw [b14]; rfl) (by decide) hJ) ?_
                    refine E_blk (lv' := [some (vr (some (11, this))), some (vi a1), some (vi a2), some (vi x5), none, none]) (st' := [vi (1 : Int32), vi x5]) (M1 := M) (pc' := 203) (tb_Model hγ) [.iload_n 3, .iconst 1] (by decide +kernel) rfl rfl trivial ?_
                    refine E_icmp_eq (off := 8) (tgt := 211) (by decide +kernel) (by decide) (fun b17 => ?_) (fun b17 => ?_)
                    · rw [if_pos b17] at h
                      refine E_blk (lv' := [some (vr (some (11, this))), some (vi a1), some (vi a2), some (vi x5), none, none]) (st' := [vi (0 : Int32)]) (M1 := M) (pc' := 212) (tb_Model hγ) [.iconst 0] (by decide +kernel) rfl rfl trivial ?_
                      exact E_iret rfl (by decide +kernel) h
                    · rw [if_neg b17] at h
                      refine E_blk (lv' := [some (vr (some (11, this))), some (vi a1), some (vi a2), some (vi x5), none, none]) (st' := [vi (41 : Int32)]) (M1 := M) (pc' := 208) (tb_Model hγ) [.bipush 41] (by decide +kernel) rfl rfl trivial ?_
                      refine E_goto (off := 4) (tgt := 212) (by decide +kernel) (by decide) ?_
                      exact E_iret rfl (by decide +kernel) h
                  · rw [if_neg b14] at h
                    by_cases b15 : a1 = (59 : Int32)
                    · rw [if_pos b15] at h
                      refine E.up (fun _ _ hJ => J_tswI (len := 53) (dflt := 405) (lo := 50) (hi := 59) (offs := #[206, 229, 206, 206, 405, 405, 405, 53, 182, 194]) (off := 194) (tgt := 213) (by decide +kernel) (by rw [b15]; decide) (by rw [b15]; decide) (by rw [b15]; rfl) (by decide) hJ) ?_
                      refine E_blk (lv' := [some (vr (some (11, this))), some (vi a1), some (vi a2), some (vi x5), none, none]) (st' := [vi (1 : Int32), vi x5]) (M1 := M) (pc' := 215) (tb_Model hγ) [.iload_n 3, .iconst 1] (by decide +kernel) rfl rfl trivial ?_
                      refine E_icmp_gt (off := 8) (tgt := 223) (by decide +kernel) (by decide) (fun b16 => ?_) (fun b16 => ?_)
                      · rw [if_pos b16] at h
                        refine E_blk (lv' := [some (vr (some (11, this))), some (vi a1), some (vi a2), some (vi x5), none, none]) (st' := [vi (0 : Int32)]) (M1 := M) (pc' := 224) (tb_Model hγ) [.iconst 0] (by decide +kernel) rfl rfl trivial ?_
                        exact E_iret rfl (by decide +kernel) h
                      · rw [if_neg b16] at h
                        refine E_blk (lv' := [some (vr (some (11, this))), some (vi a1), some (vi a2), some (vi x5), none, none]) (st' := [vi (41 : Int32)]) (M1 := M) (pc' := 220) (tb_Model hγ) [.bipush 41] (by decide +kernel) rfl rfl trivial ?_
                        refine E_goto (off := 4) (tgt := 224) (by decide +kernel) (by decide) ?_
                        exact E_iret rfl (by decide +kernel) h
                    · rw [if_neg b15] at h
                      refine E.up (fun _ _ hJ => J_tswO (len := 53) (dflt := 405) (lo := 50) (hi := 59) (offs := #[206, 229, 206, 206, 405, 405, 405, 53, 182, 194]) (tgt := 424) (by decide +kernel) ?_ (by decide) hJ) ?_
                      · have q := sw0 (x := a1) 50
                        replace q : (a1).toInt < 50 ∨ 51 ≤ (a1).toInt := sw1 q b6 rfl rfl
                        replace q : (a1).toInt < 50 ∨ 52 ≤ (a1).toInt := sw1 q b7 rfl rfl
                        replace q : (a1).toInt < 50 ∨ 53 ≤ (a1).toInt := sw1 q b8 rfl rfl
                        replace q : (a1).toInt < 50 ∨ 54 ≤ (a1).toInt := sw1 q b9 rfl rfl
                        replace q : (a1).toInt < 50 ∨ 55 ≤ (a1).toInt := sw1 q b10 rfl rfl
                        replace q : (a1).toInt < 50 ∨ 56 ≤ (a1).toInt := sw1 q b11 rfl rfl
                        replace q : (a1).toInt < 50 ∨ 57 ≤ (a1).toInt := sw1 q b12 rfl rfl
                        replace q : (a1).toInt < 50 ∨ 58 ≤ (a1).toInt := sw1 q b13 rfl rfl
                        replace q : (a1).toInt < 50 ∨ 59 ≤ (a1).toInt := sw1 q b14 rfl rfl
                        replace q : (a1).toInt < 50 ∨ 60 ≤ (a1).toInt := sw1 q b15 rfl rfl
                        omega
                      · refine E_blk (lv' := [some (vr (some (11, this))), some (vi a1), some (vi a2), some (vi x5), none, none]) (st' := [vi (0 : Int32)]) (M1 := M) (pc' := 425) (tb_Model hγ) [.iconst 0] (by decide +kernel) rfl rfl trivial ?_
                        exact E_iret rfl (by decide +kernel) h
def w_Model_lay (this : Nat) (a1 : Int32) (Q : Mem → Prop) (M : Mem) : Prop :=
  vp_in (mI M 11 this 72) (mL M 212 0) ∧ ∃ M2, M2 = (sI (sI M 212 0 (mI M 11 this 72).toNatClampNeg a1) 11 this 72 ((mI (sI M 212 0 (mI M 11 this 72).toNatClampNeg a1) 11 this 72) + (1 : Int32))) ∧ Q M2
set_option maxRecDepth 4096 in
theorem lk_Model_lay {γ : Gm} (hγ : Gk γ) (this : Nat) (a1 : Int32) (Q : Mem → Prop) (M : Mem) (h : w_Model_lay this a1 Q M) : E γ k_Model_lay 0 0 [some (vr (some (11, this))), some (vi a1)] [] M (Qv Q) := by
  unfold w_Model_lay at h
  obtain ⟨c1, h⟩ := h
  refine E_blk (lv' := [some (vr (some (11, this))), some (vi a1)]) (st' := []) (M1 := (sI (sI M 212 0 (mI M 11 this 72).toNatClampNeg a1) 11 this 72 ((mI (sI M 212 0 (mI M 11 this 72).toNatClampNeg a1) 11 this 72) + (1 : Int32)))) (pc' := 20) (tb_Model hγ) [.aload_n 0, .getfield 308, .aload_n 0, .getfield 780, .iload_n 1, .iastore, .aload_n 0, .dup, .getfield 780, .iconst 1, .iadd, .putfield 780] (by decide +kernel) rfl rfl ⟨c1, trivial⟩ ?_
  obtain ⟨M2, eM2, h⟩ := h
  rw [← eM2]
  exact E_vret rfl (by decide +kernel) h
