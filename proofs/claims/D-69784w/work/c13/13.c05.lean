def k_Machine_reckon : Kp := (⟨"ClassWorks$Machine", "reckon", "(III)V"⟩, prog_5_method_46_code, 7, none, [])
theorem mv_Machine_reckon : MV k_Machine_reckon 6 3 := ⟨⟨_, rfl, rfl⟩, by decide, (tbk_mem (j := 9) (k := 60) rfl), Or.inr ⟨(tbk_mem (j := 9) (k := 59) rfl), 38, (tbk_mem (j := 2) (k := 195) rfl)⟩, Or.inl ⟨rfl, (tbk_mem (j := 9) (k := 61) rfl)⟩, ⟨by decide, by decide⟩, by decide +kernel, by decide +kernel, by decide⟩
def k_Machine_holds : Kp := (⟨"ClassWorks$Machine", "holds", "(III)Z"⟩, prog_5_method_48_code, 4, some (.boolean), [])
theorem mv_Machine_holds : MV k_Machine_holds 6 3 := ⟨⟨_, rfl, rfl⟩, by decide, (tbk_mem (j := 9) (k := 80) rfl), Or.inr ⟨(tbk_mem (j := 9) (k := 79) rfl), 38, (tbk_mem (j := 2) (k := 195) rfl)⟩, Or.inl ⟨rfl, (tbk_mem (j := 9) (k := 81) rfl)⟩, ⟨by decide, by decide⟩, by decide +kernel, by decide +kernel, by decide⟩
def k_Machine_jump : Kp := (⟨"ClassWorks$Machine", "jump", "(IIII)V"⟩, prog_5_method_47_code, 9, none, [])
theorem mv_Machine_jump : MV k_Machine_jump 6 4 := ⟨⟨_, rfl, rfl⟩, by decide, (tbk_mem (j := 9) (k := 76) rfl), Or.inr ⟨(tbk_mem (j := 9) (k := 75) rfl), 38, (tbk_mem (j := 2) (k := 195) rfl)⟩, Or.inl ⟨rfl, (tbk_mem (j := 9) (k := 77) rfl)⟩, ⟨by decide, by decide⟩, by decide +kernel, by decide +kernel, by decide⟩
def k_Machine_makes : Kp := (⟨"ClassWorks$Machine", "makes", "(I)Z"⟩, prog_5_method_52_code, 5, some (.boolean), [])
theorem mv_Machine_makes : MV k_Machine_makes 6 1 := ⟨⟨_, rfl, rfl⟩, by decide, (tbk_mem (j := 9) (k := 88) rfl), Or.inr ⟨(tbk_mem (j := 9) (k := 87) rfl), 38, (tbk_mem (j := 2) (k := 195) rfl)⟩, Or.inl ⟨rfl, (tbk_mem (j := 9) (k := 89) rfl)⟩, ⟨by decide, by decide⟩, by decide +kernel, by decide +kernel, by decide⟩
def k_Machine_lock : Kp := (⟨"ClassWorks$Machine", "lock", "(II)Z"⟩, prog_5_method_54_code, 6, some (.boolean), [])
theorem mv_Machine_lock : MV k_Machine_lock 6 2 := ⟨⟨_, rfl, rfl⟩, by decide, (tbk_mem (j := 9) (k := 97) rfl), Or.inr ⟨(tbk_mem (j := 9) (k := 96) rfl), 38, (tbk_mem (j := 2) (k := 195) rfl)⟩, Or.inl ⟨rfl, (tbk_mem (j := 9) (k := 98) rfl)⟩, ⟨by decide, by decide⟩, by decide +kernel, by decide +kernel, by decide⟩
def k_Machine_inThing : Kp := (⟨"ClassWorks$Machine", "inThing", "(II)Z"⟩, prog_5_method_53_code, 4, some (.boolean), [])
theorem mv_Machine_inThing : MV k_Machine_inThing 6 2 := ⟨⟨_, rfl, rfl⟩, by decide, (tbk_mem (j := 9) (k := 93) rfl), Or.inr ⟨(tbk_mem (j := 9) (k := 92) rfl), 38, (tbk_mem (j := 2) (k := 195) rfl)⟩, Or.inl ⟨rfl, (tbk_mem (j := 9) (k := 94) rfl)⟩, ⟨by decide, by decide⟩, by decide +kernel, by decide +kernel, by decide⟩
def k_Machine_things : Kp := (⟨"ClassWorks$Machine", "things", "(IIII)V"⟩, prog_5_method_51_code, 7, none, [])
theorem mv_Machine_things : MV k_Machine_things 6 4 := ⟨⟨_, rfl, rfl⟩, by decide, (tbk_mem (j := 9) (k := 84) rfl), Or.inr ⟨(tbk_mem (j := 9) (k := 83) rfl), 38, (tbk_mem (j := 2) (k := 195) rfl)⟩, Or.inl ⟨rfl, (tbk_mem (j := 9) (k := 85) rfl)⟩, ⟨by decide, by decide⟩, by decide +kernel, by decide +kernel, by decide⟩
def k_Machine_calls : Kp := (⟨"ClassWorks$Machine", "calls", "(III)V"⟩, prog_5_method_55_code, 11, none, [])
theorem mv_Machine_calls : MV k_Machine_calls 6 3 := ⟨⟨_, rfl, rfl⟩, by decide, (tbk_mem (j := 9) (k := 101) rfl), Or.inr ⟨(tbk_mem (j := 9) (k := 100) rfl), 38, (tbk_mem (j := 2) (k := 195) rfl)⟩, Or.inl ⟨rfl, (tbk_mem (j := 9) (k := 102) rfl)⟩, ⟨by decide, by decide⟩, by decide +kernel, by decide +kernel, by decide⟩
def k_Machine_turn : Kp := (⟨"ClassWorks$Machine", "turn", "(I)V"⟩, prog_5_method_45_code, 7, none, [])
theorem mv_Machine_turn : MV k_Machine_turn 6 1 := ⟨⟨_, rfl, rfl⟩, by decide, (tbk_mem (j := 9) (k := 106) rfl), Or.inr ⟨(tbk_mem (j := 9) (k := 105) rfl), 38, (tbk_mem (j := 2) (k := 195) rfl)⟩, Or.inl ⟨rfl, (tbk_mem (j := 9) (k := 107) rfl)⟩, ⟨by decide, by decide⟩, by decide +kernel, by decide +kernel, by decide⟩
def k_Machine_isRow : Kp := (⟨"ClassWorks$Machine", "isRow", "(I)Z"⟩, prog_5_method_49_code, 2, some (.boolean), [])
theorem mv_Machine_isRow : MV k_Machine_isRow 6 1 := ⟨⟨_, rfl, rfl⟩, by decide, (tbk_mem (j := 9) (k := 114) rfl), Or.inr ⟨(tbk_mem (j := 9) (k := 113) rfl), 38, (tbk_mem (j := 2) (k := 195) rfl)⟩, Or.inl ⟨rfl, (tbk_mem (j := 9) (k := 115) rfl)⟩, ⟨by decide, by decide⟩, by decide +kernel, by decide +kernel, by decide⟩
def k_Machine_isOf : Kp := (⟨"ClassWorks$Machine", "isOf", "(II)Z"⟩, prog_5_method_50_code, 6, some (.boolean), [])
theorem mv_Machine_isOf : MV k_Machine_isOf 6 2 := ⟨⟨_, rfl, rfl⟩, by decide, (tbk_mem (j := 9) (k := 110) rfl), Or.inr ⟨(tbk_mem (j := 9) (k := 109) rfl), 38, (tbk_mem (j := 2) (k := 195) rfl)⟩, Or.inl ⟨rfl, (tbk_mem (j := 9) (k := 111) rfl)⟩, ⟨by decide, by decide⟩, by decide +kernel, by decide +kernel, by decide⟩
def k_Machine_leave : Kp := (⟨"ClassWorks$Machine", "leave", "(III)V"⟩, prog_5_method_56_code, 7, none, [])
theorem mv_Machine_leave : MV k_Machine_leave 6 3 := ⟨⟨_, rfl, rfl⟩, by decide, (tbk_mem (j := 9) (k := 118) rfl), Or.inr ⟨(tbk_mem (j := 9) (k := 117) rfl), 38, (tbk_mem (j := 2) (k := 195) rfl)⟩, Or.inl ⟨rfl, (tbk_mem (j := 9) (k := 119) rfl)⟩, ⟨by decide, by decide⟩, by decide +kernel, by decide +kernel, by decide⟩
def k_Machine_act : Kp := (⟨"ClassWorks$Machine", "act", "(IIII)V"⟩, prog_5_method_44_code, 8, none, [])
theorem mv_Machine_act : MV k_Machine_act 6 4 := ⟨⟨_, rfl, rfl⟩, by decide, (tbk_mem (j := 9) (k := 56) rfl), Or.inr ⟨(tbk_mem (j := 9) (k := 55) rfl), 38, (tbk_mem (j := 2) (k := 195) rfl)⟩, Or.inl ⟨rfl, (tbk_mem (j := 9) (k := 57) rfl)⟩, ⟨by decide, by decide⟩, by decide +kernel, by decide +kernel, by decide⟩
def k_Machine_instruction : Kp := (⟨"ClassWorks$Machine", "instruction", "()V"⟩, prog_5_method_42_code, 6, none, [])
theorem mv_Machine_instruction : MV k_Machine_instruction 6 0 := ⟨⟨_, rfl, rfl⟩, by decide, (tbk_mem (j := 9) (k := 22) rfl), Or.inr ⟨(tbk_mem (j := 9) (k := 21) rfl), 38, (tbk_mem (j := 2) (k := 195) rfl)⟩, Or.inl ⟨rfl, (tbk_mem (j := 9) (k := 23) rfl)⟩, ⟨by decide, by decide⟩, by decide +kernel, by decide +kernel, by decide⟩
def k_Machine_go : Kp := (⟨"ClassWorks$Machine", "go", "(I)Z"⟩, prog_5_method_11_code, 4, some (.boolean), [])
theorem mv_Machine_go : MV k_Machine_go 6 1 := ⟨⟨_, rfl, rfl⟩, by decide, (tbk_mem (j := 8) (k := 112) rfl), Or.inl (tbk_mem (j := 8) (k := 113) rfl), Or.inl ⟨rfl, (tbk_mem (j := 8) (k := 114) rfl)⟩, ⟨by decide, by decide⟩, by decide +kernel, by decide +kernel, by decide⟩
def w_Machine_reckon_j191 (this : Nat) (Q : Mem → Prop) (v1 : Int32) (v3 : Int32) (v6 : Int32) (M : Mem) : Prop :=
  w_Machine_comes this (2 : Int32) v6 (0 : Int32) (fun M5 => w_Machine_goesTo this v1 v3 (fun M6 => Q M6) M5) M
def w_Machine_reckon_j133 (this : Nat) (Q : Mem → Prop) (v1 : Int32) (v3 : Int32) (s0 : Int32) (M : Mem) : Prop :=
  w_Machine_reckon_j191 this Q v1 v3 s0 M
def w_Machine_reckon (this : Nat) (a1 : Int32) (a2 : Int32) (a3 : Int32) (Q : Mem → Prop) (M : Mem) : Prop :=
  w_Machine_number this (1 : Int32) (fun r2 M1 => w_Machine_number this (0 : Int32) (fun r4 M3 => if a2 = (8 : Int32) then (w_Machine_reckon_j191 this Q a1 a3 (r2 + r4) M3) else (if a2 = (9 : Int32) then (w_Machine_reckon_j191 this Q a1 a3 (r2 - r4) M3) else (if a2 = (10 : Int32) then (w_Machine_reckon_j191 this Q a1 a3 (r2 * r4) M3) else (if a2 = (11 : Int32) then (if r4 = 0 then (w_Machine_fail this (3 : Int32) (0 : Int32) (fun M23 => Q M23) M3) else (if a2 = (11 : Int32) then (¬ r4 = 0 ∧ w_Machine_reckon_j133 this Q a1 a3 (r2 / r4) M3) else (¬ r4 = 0 ∧ w_Machine_reckon_j133 this Q a1 a3 (r2 - r2 / r4 * r4) M3))) else (if a2 = (12 : Int32) then (if r4 = 0 then (w_Machine_fail this (3 : Int32) (0 : Int32) (fun M18 => Q M18) M3) else (if a2 = (11 : Int32) then (¬ r4 = 0 ∧ w_Machine_reckon_j133 this Q a1 a3 (r2 / r4) M3) else (¬ r4 = 0 ∧ w_Machine_reckon_j133 this Q a1 a3 (r2 - r2 / r4 * r4) M3))) else (if a2 = (13 : Int32) then (w_Machine_reckon_j191 this Q a1 a3 (r2 >>> ((r4 &&& (31 : Int32)) &&& 31)) M3) else (if a2 = (14 : Int32) then (w_Machine_reckon_j191 this Q a1 a3 (r2 &&& r4) M3) else (if a2 = (15 : Int32) then (w_Machine_reckon_j191 this Q a1 a3 (r2 ||| r4) M3) else (if a2 = (16 : Int32) then (w_Machine_reckon_j191 this Q a1 a3 (r2 ^^^ r4) M3) else (if a2 = (17 : Int32) then (w_Machine_reckon_j191 this Q a1 a3 (r2 <<< ((r4 &&& (31 : Int32)) &&& 31)) M3) else (w_Machine_reckon_j191 this Q a1 a3 (r2 >>> ((r4 &&& (31 : Int32)) &&& 31)) M3))))))))))) M1) M
set_option maxRecDepth 4096 in
theorem lk_Machine_reckon_j191 {γ : Gm} (hγ : Gk γ) (this : Nat) (Q : Mem → Prop) (v1 : Int32) (v3 : Int32) (v6 : Int32) (M : Mem) (h : w_Machine_reckon_j191 this Q v1 v3 v6 M) : E γ k_Machine_reckon 125 191 [some (vr (some (6, this))), some (vi v1), none, some (vi v3), none, none, some (vi v6)] [] M (Qv Q) := by
  unfold w_Machine_reckon_j191 at h
  refine E_blk (lv' := [some (vr (some (6, this))), some (vi v1), none, some (vi v3), none, none, some (vi v6)]) (st' := [vi (0 : Int32), vi v6, vi (2 : Int32), vr (some (6, this))]) (M1 := M) (pc' := 196) (tb_Machine hγ) [.aload_n 0, .iconst 2, .iload 6, .iconst 0] (by decide +kernel) rfl rfl trivial ?_
  refine E_callV (κ' := k_Machine_comes) (As := [vi (2 : Int32), vi v6, vi (0 : Int32)]) (st := []) mv_Machine_comes (Or.inl (tbk_mem (j := 9) (k := 62) rfl)) rfl (by decide +kernel) (Nat.le_of_ble_eq_true rfl) (Nat.le_of_ble_eq_true rfl) rfl (by decide) (lk_Machine_comes hγ this (2 : Int32) v6 (0 : Int32) _ M h) (fun _ _ => Qv_r) (fun v M5 hp => Qv_k (R := fun st => E γ k_Machine_reckon 125 199 [some (vr (some (6, this))), some (vi v1), none, some (vi v3), none, none, some (vi v6)] st M5 (Qv Q)) hp (fun h => ?_))
  refine E_blk (lv' := [some (vr (some (6, this))), some (vi v1), none, some (vi v3), none, none, some (vi v6)]) (st' := [vi v3, vi v1, vr (some (6, this))]) (M1 := M5) (pc' := 202) (tb_Machine hγ) [.aload_n 0, .iload_n 1, .iload_n 3] (by decide +kernel) rfl rfl trivial ?_
  refine E_callV (κ' := k_Machine_goesTo) (As := [vi v1, vi v3]) (st := []) mv_Machine_goesTo (Or.inl (tbk_mem (j := 9) (k := 70) rfl)) rfl (by decide +kernel) (Nat.le_of_ble_eq_true rfl) (Nat.le_of_ble_eq_true rfl) rfl (by decide) (lk_Machine_goesTo hγ this v1 v3 _ M5 h) (fun _ _ => Qv_r) (fun v M6 hp => Qv_k (R := fun st => E γ k_Machine_reckon 125 205 [some (vr (some (6, this))), some (vi v1), none, some (vi v3), none, none, some (vi v6)] st M6 (Qv Q)) hp (fun h => ?_))
  exact E_vret rfl (by decide +kernel) h
set_option maxRecDepth 4096 in
theorem lk_Machine_reckon_j133 {γ : Gm} (hγ : Gk γ) (this : Nat) (Q : Mem → Prop) (v1 : Int32) (v3 : Int32) (s0 : Int32) (M : Mem) (h : w_Machine_reckon_j133 this Q v1 v3 s0 M) : E γ k_Machine_reckon 125 133 [some (vr (some (6, this))), some (vi v1), none, some (vi v3), none, none, none] [vi s0] M (Qv Q) := by
  unfold w_Machine_reckon_j133 at h
  refine E_blk (lv' := [some (vr (some (6, this))), some (vi v1), none, some (vi v3), none, none, some (vi s0)]) (st' := []) (M1 := M) (pc' := 135) (tb_Machine hγ) [.istore 6] (by decide +kernel) rfl rfl trivial ?_
  refine E_goto (off := 56) (tgt := 191) (by decide +kernel) (by decide) ?_
  refine E_mask [true, true, false, true, false, false, true] rfl ?_
  exact lk_Machine_reckon_j191 hγ this Q v1 v3 s0 M h
set_option maxRecDepth 4096 in
theorem lk_Machine_reckon {γ : Gm} (hγ : Gk γ) (this : Nat) (a1 : Int32) (a2 : Int32) (a3 : Int32) (Q : Mem → Prop) (M : Mem) (h : w_Machine_reckon this a1 a2 a3 Q M) : E γ k_Machine_reckon 125 0 [some (vr (some (6, this))), some (vi a1), some (vi a2), some (vi a3), none, none, none] [] M (Qv Q) := by
  unfold w_Machine_reckon at h
  refine E_blk (lv' := [some (vr (some (6, this))), some (vi a1), some (vi a2), some (vi a3), none, none, none]) (st' := [vi (1 : Int32), vr (some (6, this))]) (M1 := M) (pc' := 2) (tb_Machine hγ) [.aload_n 0, .iconst 1] (by decide +kernel) rfl rfl trivial ?_
  refine E_callV (κ' := k_Machine_number) (As := [vi (1 : Int32)]) (st := []) mv_Machine_number (Or.inl (tbk_mem (j := 9) (k := 46) rfl)) rfl (by decide +kernel) (Nat.le_of_ble_eq_true rfl) (Nat.le_of_ble_eq_true rfl) rfl (by decide) (lk_Machine_number hγ this (1 : Int32) _ M h) (fun _ _ => Qi_r) (fun v M1 hp => Qi_k (R := fun st => E γ k_Machine_reckon 125 5 [some (vr (some (6, this))), some (vi a1), some (vi a2), some (vi a3), none, none, none] st M1 (Qv Q)) hp (fun r2 h => ?_))
  refine E_blk (lv' := [some (vr (some (6, this))), some (vi a1), some (vi a2), some (vi a3), some (vi r2), none, none]) (st' := [vi (0 : Int32), vr (some (6, this))]) (M1 := M1) (pc' := 9) (tb_Machine hγ) [.istore 4, .aload_n 0, .iconst 0] (by decide +kernel) rfl rfl trivial ?_
  refine E_callV (κ' := k_Machine_number) (As := [vi (0 : Int32)]) (st := []) mv_Machine_number (Or.inl (tbk_mem (j := 9) (k := 46) rfl)) rfl (by decide +kernel) (Nat.le_of_ble_eq_true rfl) (Nat.le_of_ble_eq_true rfl) rfl (by decide) (lk_Machine_number hγ this (0 : Int32) _ M1 h) (fun _ _ => Qi_r) (fun v M3 hp => Qi_k (R := fun st => E γ k_Machine_reckon 125 12 [some (vr (some (6, this))), some (vi a1), some (vi a2), some (vi a3), some (vi r2), none, none] st M3 (Qv Q)) hp (fun r4 h => ?_))
  refine E_blk (lv' := [some (vr (some (6, this))), some (vi a1), some (vi a2), some (vi a3), some (vi r2), some (vi r4), some (vi (0 : Int32))]) (st' := [vi a2]) (M1 := M3) (pc' := 18) (tb_Machine hγ) [.istore 5, .iconst 0, .istore 6, .iload_n 2] (by decide +kernel) rfl rfl trivial ?_
  by_cases b7 : a2 = (8 : Int32)
  · rw [if_pos b7] at h
    refine E.up (fun _ _ hJ => J_tswI (len := 54) (dflt := 163) (lo := 8) (hi := 17) (offs := #[54, 64, 74, 84, 84, 163, 120, 130, 140, 150]) (off := 54) (tgt := 72) (by decide +kernel) (by rw [b7]; decide) (by rw [b7]; decide) (by rw [b7]; rfl) (by decide) hJ) ?_
    refine E_blk (lv' := [some (vr (some (6, this))), some (vi a1), some (vi a2), some (vi a3), some (vi r2), some (vi r4), some (vi (r2 + r4))]) (st' := []) (M1 := M3) (pc' := 79) (tb_Machine hγ) [.iload 4, .iload 5, .iadd, .istore 6] (by decide +kernel) rfl rfl trivial ?_
    refine E_goto (off := 112) (tgt := 191) (by decide +kernel) (by decide) ?_
    refine E_mask [true, true, false, true, false, false, true] rfl ?_
    exact lk_Machine_reckon_j191 hγ this Q a1 a3 (r2 + r4) M3 h
  · rw [if_neg b7] at h
    by_cases b8 : a2 = (9 : Int32)
    · rw [if_pos b8] at h
      refine E.up (fun _ _ hJ => J_tswI (len := 54) (dflt := 163) (lo := 8) (hi := 17) (offs := #[54, 64, 74, 84, 84, 163, 120, 130, 140, 150]) (off := 64) (tgt := 82) (by decide +kernel) (by rw [b8]; decide) (by rw [b8]; decide) (by rw [b8]; rfl) (by decide) hJ) ?_
      refine E_blk (lv' := [some (vr (some (6, this))), some (vi a1), some (vi a2), some (vi a3), some (vi r2), some (vi r4), some (vi (r2 - r4))]) (st' := []) (M1 := M3) (pc' := 89) (tb_Machine hγ) [.iload 4, .iload 5, .isub, .istore 6] (by decide +kernel) rfl rfl trivial ?_
      refine E_goto (off := 102) (tgt := 191) (by decide +kernel) (by decide) ?_
      refine E_mask [true, true, false, true, false, false, true] rfl ?_
      exact lk_Machine_reckon_j191 hγ this Q a1 a3 (r2 - r4) M3 h
    · rw [if_neg b8] at h
      by_cases b9 : a2 = (10 : Int32)
      · rw [if_pos b9] at h
        refine E.up (fun _ _ hJ => J_tswI (len := 54) (dflt := 163) (lo := 8) (hi := 17) (offs := #[54, 64, 74, 84, 84, 163, 120, 130, 140, 150]) (off := 74) (tgt := 92) (by decide +kernel) (by rw [b9]; decide) (by rw [b9]; decide) (by rw [b9]; rfl) (by decide) hJ) ?_
        refine E_blk (lv' := [some (vr (some (6, this))), some (vi a1), some (vi a2), some (vi a3), some (vi r2), some (vi r4), some (vi (r2 * r4))]) (st' := []) (M1 := M3) (pc' := 99) (tb_Machine hγ) [.iload 4, .iload 5, .imul, .istore 6] (by decide +kernel) rfl rfl trivial ?_
        refine E_goto (off := 92) (tgt := 191) (by decide +kernel) (by decide) ?_
        refine E_mask [true, true, false, true, false, false, true] rfl ?_
        exact lk_Machine_reckon_j191 hγ this Q a1 a3 (r2 * r4) M3 h
      · rw [if_neg b9] at h
        by_cases b10 : a2 = (11 : Int32)
        · rw [if_pos b10] at h
          refine E.up (fun _ _ hJ => J_tswI (len := 54) (dflt := 163) (lo := 8) (hi := 17) (offs := #[54, 64, 74, 84, 84, 163, 120, 130, 140, 150]) (off := 84) (tgt := 102) (by decide +kernel) (by rw [b10]; decide) (by rw [b10]; decide) (by rw [b10]; rfl) (by decide) hJ) ?_
          refine E_blk (lv' := [some (vr (some (6, this))), some (vi a1), some (vi a2), some (vi a3), some (vi r2), some (vi r4), some (vi (0 : Int32))]) (st' := [vi r4]) (M1 := M3) (pc' := 104) (tb_Machine hγ) [.iload 5] (by decide +kernel) rfl rfl trivial ?_
          refine E_if_ne (off := 10) (tgt := 114) (by decide +kernel) (by decide) (fun b22 => ?_) (fun b22 => ?_)
          · rw [if_pos b22] at h
            refine E_blk (lv' := [some (vr (some (6, this))), some (vi a1), some (vi a2), some (vi a3), some (vi r2), some (vi r4), some (vi (0 : Int32))]) (st' := [vi (0 : Int32), vi (3 : Int32), vr (some (6, this))]) (M1 := M3) (pc' := 110) (tb_Machine hγ) [.aload_n 0, .iconst 3, .iconst 0] (by decide +kernel) rfl rfl trivial ?_
            refine E_callV (κ' := k_Machine_fail) (As := [vi (3 : Int32), vi (0 : Int32)]) (st := []) mv_Machine_fail (Or.inl (tbk_mem (j := 8) (k := 190) rfl)) rfl (by decide +kernel) (Nat.le_of_ble_eq_true rfl) (Nat.le_of_ble_eq_true rfl) rfl (by decide) (lk_Machine_fail hγ this (3 : Int32) (0 : Int32) _ M3 h) (fun _ _ => Qv_r) (fun v M23 hp => Qv_k (R := fun st => E γ k_Machine_reckon 125 113 [some (vr (some (6, this))), some (vi a1), some (vi a2), some (vi a3), some (vi r2), some (vi r4), some (vi (0 : Int32))] st M23 (Qv Q)) hp (fun h => ?_))
            exact E_vret rfl (by decide +kernel) h
          · rw [if_neg b22] at h
            refine E_blk (lv' := [some (vr (some (6, this))), some (vi a1), some (vi a2), some (vi a3), some (vi r2), some (vi r4), some (vi (0 : Int32))]) (st' := [vi (11 : Int32), vi a2]) (M1 := M3) (pc' := 117) (tb_Machine hγ) [.iload_n 2, .bipush 11] (by decide +kernel) rfl rfl trivial ?_
            refine E_icmp_ne (off := 11) (tgt := 128) (by decide +kernel) (by decide) (fun b24 => ?_) (fun b24 => ?_)
            · rw [if_pos b24] at h
              obtain ⟨c25, h⟩ := h
              refine E_blk (lv' := [some (vr (some (6, this))), some (vi a1), some (vi a2), some (vi a3), some (vi r2), some (vi r4), some (vi (0 : Int32))]) (st' := [vi (r2 / r4)]) (M1 := M3) (pc' := 125) (tb_Machine hγ) [.iload 4, .iload 5, .idiv] (by decide +kernel) rfl rfl ⟨c25, trivial⟩ ?_
              refine E_goto (off := 8) (tgt := 133) (by decide +kernel) (by decide) ?_
              refine E_mask [true, true, false, true, false, false, false] rfl ?_
              exact lk_Machine_reckon_j133 hγ this Q a1 a3 (r2 / r4) M3 h
            · rw [if_neg b24] at h
              obtain ⟨c26, h⟩ := h
              refine E_blk (lv' := [some (vr (some (6, this))), some (vi a1), some (vi a2), some (vi a3), some (vi r2), some (vi r4), some (vi (0 : Int32))]) (st' := [vi (r2 - r2 / r4 * r4)]) (M1 := M3) (pc' := 133) (tb_Machine hγ) [.iload 4, .iload 5, .irem] (by decide +kernel) rfl rfl ⟨c26, trivial⟩ ?_
              refine E_mask [true, true, false, true, false, false, false] rfl ?_
              exact lk_Machine_reckon_j133 hγ this Q a1 a3 (r2 - r2 / r4 * r4) M3 h
        · rw [if_neg b10] at h
          by_cases b11 : a2 = (12 : Int32)
          · rw [if_pos b11] at h
            refine E.up (fun _ _ hJ => J_tswI (len := 54) (dflt := 163) (lo := 8) (hi := 17) (offs := #[54, 64, 74, 84, 84, 163, 120, 130, 140, 150]) (off := 84) (tgt := 102) (by decide +kernel) (by rw [b11]; decide) (by rw [b11]; decide) (by rw [b11]; rfl) (by decide) hJ) ?_
            refine E_blk (lv' := [some (vr (some (6, this))), some (vi a1), some (vi a2), some (vi a3), some (vi r2), some (vi r4), some (vi (0 : Int32))]) (st' := [vi r4]) (M1 := M3) (pc' := 104) (tb_Machine hγ) [.iload 5] (by decide +kernel) rfl rfl trivial ?_
            refine E_if_ne (off := 10) (tgt := 114) (by decide +kernel) (by decide) (fun b17 => ?_) (fun b17 => ?_)
            · rw [if_pos b17] at h
              refine E_blk (lv' := [some (vr (some (6, this))), some (vi a1), some (vi a2), some (vi a3), some (vi r2), some (vi r4), some (vi (0 : Int32))]) (st' := [vi (0 : Int32), vi (3 : Int32), vr (some (6, this))]) (M1 := M3) (pc' := 110) (tb_Machine hγ) [.aload_n 0, .iconst 3, .iconst 0] (by decide +kernel) rfl rfl trivial ?_
              refine E_callV (κ' := k_Machine_fail) (As := [vi (3 : Int32), vi (0 : Int32)]) (st := []) mv_Machine_fail (Or.inl (tbk_mem (j := 8) (k := 190) rfl)) rfl (by decide +kernel) (Nat.le_of_ble_eq_true rfl) (Nat.le_of_ble_eq_true rfl) rfl (by decide) (lk_Machine_fail hγ this (3 : Int32) (0 : Int32) _ M3 h) (fun _ _ => Qv_r) (fun v M18 hp => Qv_k (R := fun st => E γ k_Machine_reckon 125 113 [some (vr (some (6, this))), some (vi a1), some (vi a2), some (vi a3), some (vi r2), some (vi r4), some (vi (0 : Int32))] st M18 (Qv Q)) hp (fun h => ?_))
              exact E_vret rfl (by decide +kernel) h
            · rw [if_neg b17] at h
              refine E_blk (lv' := [some (vr (some (6, this))), some (vi a1), some (vi a2), some (vi a3), some (vi r2), some (vi r4), some (vi (0 : Int32))]) (st' := [vi (11 : Int32), vi a2]) (M1 := M3) (pc' := 117) (tb_Machine hγ) [.iload_n 2, .bipush 11] (by decide +kernel) rfl rfl trivial ?_
              refine E_icmp_ne (off := 11) (tgt := 128) (by decide +kernel) (by decide) (fun b19 => ?_) (fun b19 => ?_)
              · rw [if_pos b19] at h
                obtain ⟨c20, h⟩ := h
                refine E_blk (lv' := [some (vr (some (6, this))), some (vi a1), some (vi a2), some (vi a3), some (vi r2), some (vi r4), some (vi (0 : Int32))]) (st' := [vi (r2 / r4)]) (M1 := M3) (pc' := 125) (tb_Machine hγ) [.iload 4, .iload 5, .idiv] (by decide +kernel) rfl rfl ⟨c20, trivial⟩ ?_
                refine E_goto (off := 8) (tgt := 133) (by decide +kernel) (by decide) ?_
                refine E_mask [true, true, false, true, false, false, false] rfl ?_
                exact lk_Machine_reckon_j133 hγ this Q a1 a3 (r2 / r4) M3 h
              · rw [if_neg b19] at h
                obtain ⟨c21, h⟩ := h
                refine E_blk (lv' := [some (vr (some (6, this))), some (vi a1), some (vi a2), some (vi a3), some (vi r2), some (vi r4), some (vi (0 : Int32))]) (st' := [vi (r2 - r2 / r4 * r4)]) (M1 := M3) (pc' := 133) (tb_Machine hγ) [.iload 4, .iload 5, .irem] (by decide +kernel) rfl rfl ⟨c21, trivial⟩ ?_
                refine E_mask [true, true, false, true, false, false, false] rfl ?_
                exact lk_Machine_reckon_j133 hγ this Q a1 a3 (r2 - r2 / r4 * r4) M3 h
          · rw [if_neg b11] at h
            by_cases b12 : a2 = (13 : Int32)
            · rw [if_pos b12] at h
              refine E.up (fun _ _ hJ => J_tswI (len := 54) (dflt := 163) (lo := 8) (hi := 17) (offs := #[54, 64, 74, 84, 84, 163, 120, 130, 140, 150]) (off := 163) (tgt := 181) (by decide +kernel) (by rw [b12]; decide) (by rw [b12]; decide) (by rw [b12]; rfl) (by decide) hJ) ?_
              refine E_blk (lv' := [some (vr (some (6, this))), some (vi a1), some (vi a2), some (vi a3), some (vi r2), some (vi r4), some (vi (r2 >>> ((r4 &&& (31 : Int32)) &&& 31)))]) (st' := []) (M1 := M3) (pc' := 191) (tb_Machine hγ) [.iload 4, .iload 5, .bipush 31, .iand, .ishr, .istore 6] (by decide +kernel) rfl rfl trivial ?_
              refine E_mask [true, true, false, true, false, false, true] rfl ?_
              exact lk_Machine_reckon_j191 hγ this Q a1 a3 (r2 >>> ((r4 &&& (31 : Int32)) &&& 31)) M3 h
            · rw [if_neg b12] at h
              by_cases b13 : a2 = (14 : Int32)
              · rw [if_pos b13] at h
                refine E.up (fun _ _ hJ => J_tswI (len := 54) (dflt := 163) (lo := 8) (hi := 17) (offs := #[54, 64, 74, 84, 84, 163, 120, 130, 140, 150]) (off := 120) (tgt := 138) (by decide +kernel) (by rw [b13]; decide) (by rw [b13]; decide) (by rw [b13]; rfl) (by decide) hJ) ?_
                refine E_blk (lv' := [some (vr (some (6, this))), some (vi a1), some (vi a2), some (vi a3), some (vi r2), some (vi r4), some (vi (r2 &&& r4))]) (st' := []) (M1 := M3) (pc' := 145) (tb_Machine hγ) [.iload 4, .iload 5, .iand, .istore 6] (by decide +kernel) rfl rfl trivial ?_
                refine E_goto (off := 46) (tgt := 191) (by decide +kernel) (by decide) ?_
                refine E_mask [true, true, false, true, false, false, true] rfl ?_
                exact lk_Machine_reckon_j191 hγ this Q a1 a3 (r2 &&& r4) M3 h
              · rw [if_neg b13] at h
                by_cases b14 : a2 = (15 : Int32)
                · rw [if_pos b14] at h
                  refine E.up (fun _ _ hJ => J_tswI (len := 54) (dflt := 163) (lo := 8) (hi := 17) (offs := #[54, 64, 74, 84, 84, 163, 120, 130, 140, 150]) (off := 130) (tgt := 148) (by decide +kernel) (by rw [b14]; decide) (by rw [b14]; decide) (by rw [b14]; rfl) (by decide) hJ) ?_
                  refine E_blk (lv' := [some (vr (some (6, this))), some (vi a1), some (vi a2), some (vi a3), some (vi r2), some (vi r4), some (vi (r2 ||| r4))]) (st' := []) (M1 := M3) (pc' := 155) (tb_Machine hγ) [.iload 4, .iload 5, .ior, .istore 6] (by decide +kernel) rfl rfl trivial ?_
                  refine E_goto (off := 36) (tgt := 191) (by decide +kernel) (by decide) ?_
                  refine E_mask [true, true, false, true, false, false, true] rfl ?_
                  exact lk_Machine_reckon_j191 hγ this Q a1 a3 (r2 ||| r4) M3 h
                · rw [if_neg b14] at h
                  by_cases b15 : a2 = (16 : Int32)
                  · rw [if_pos b15] at h
                    refine E.up (fun _ _ hJ => J_tswI (len := 54) (dflt := 163) (lo := 8) (hi := 17) (offs := #[54, 64, 74, 84, 84, 163, 120, 130, 140, 150]) (off := 140) (tgt := 158) (by decide +kernel) (by rw [b15]; decide) (by rw [b15]; decide) (by rw [b15]; rfl) (by decide) hJ) ?_
                    refine E_blk (lv' := [some (vr (some (6, this))), some (vi a1), some (vi a2), some (vi a3), some (vi r2), some (vi r4), some (vi (r2 ^^^ r4))]) (st' := []) (M1 := M3) (pc' := 165) (tb_Machine hγ) [.iload 4, .iload 5, .ixor, .istore 6] (by decide +kernel) rfl rfl trivial ?_
                    refine E_goto (off := 26) (tgt := 191) (by decide +kernel) (by decide) ?_
                    refine E_mask [true, true, false, true, false, false, true] rfl ?_
                    exact lk_Machine_reckon_j191 hγ this Q a1 a3 (r2 ^^^ r4) M3 h
                  · rw [if_neg b15] at h
                    by_cases b16 : a2 = (17 : Int32)
                    · rw [if_pos b16] at h
                      refine E.up (fun _ _ hJ => J_tswI (len := 54) (dflt := 163) (lo := 8) (hi := 17) (offs := #[54, 64, 74, 84, 84, 163, 120, 130, 140, 150]) (off := 150) (tgt := 168) (by decide +kernel) (by rw [b16]; decide) (by rw [b16]; decide) (by rw [b16]; rfl) (by decide) hJ) ?_
                      refine E_blk (lv' := [some (vr (some (6, this))), some (vi a1), some (vi a2), some (vi a3), some (vi r2), some (vi r4), some (vi (r2 <<< ((r4 &&& (31 : Int32)) &&& 31)))]) (st' := []) (M1 := M3) (pc' := 178) (tb_Machine hγ) [.iload 4, .iload 5, .bipush 31, .iand, .ishl, .istore 6] (by decide +kernel) rfl rfl trivial ?_
                      refine E_goto (off := 13) (tgt := 191) (by decide +kernel) (by decide) ?_
                      refine E_mask [true, true, false, true, false, false, true] rfl ?_
                      exact lk_Machine_reckon_j191 hγ this Q a1 a3 (r2 <<< ((r4 &&& (31 : Int32)) &&& 31)) M3 h
                    · rw [if_neg b16] at h
                      refine E.up (fun _ _ hJ => J_tswO (len := 54) (dflt := 163) (lo := 8) (hi := 17) (offs := #[54, 64, 74, 84, 84, 163, 120, 130, 140, 150]) (tgt := 181) (by decide +kernel) ?_ (by decide) hJ) ?_
                      · have q := sw0 (x := a2) 8
                        replace q : (a2).toInt < 8 ∨ 9 ≤ (a2).toInt := sw1 q b7 rfl rfl
                        replace q : (a2).toInt < 8 ∨ 10 ≤ (a2).toInt := sw1 q b8 rfl rfl
                        replace q : (a2).toInt < 8 ∨ 11 ≤ (a2).toInt := sw1 q b9 rfl rfl
                        replace q : (a2).toInt < 8 ∨ 12 ≤ (a2).toInt := sw1 q b10 rfl rfl
                        replace q : (a2).toInt < 8 ∨ 13 ≤ (a2).toInt := sw1 q b11 rfl rfl
                        replace q : (a2).toInt < 8 ∨ 14 ≤ (a2).toInt := sw1 q b12 rfl rfl
                        replace q : (a2).toInt < 8 ∨ 15 ≤ (a2).toInt := sw1 q b13 rfl rfl
                        replace q : (a2).toInt < 8 ∨ 16 ≤ (a2).toInt := sw1 q b14 rfl rfl
                        replace q : (a2).toInt < 8 ∨ 17 ≤ (a2).toInt := sw1 q b15 rfl rfl
                        replace q : (a2).toInt < 8 ∨ 18 ≤ (a2).toInt := sw1 q b16 rfl rfl
                        omega
                      · refine E_blk (lv' := [some (vr (some (6, this))), some (vi a1), some (vi a2), some (vi a3), some (vi r2), some (vi r4), some (vi (r2 >>> ((r4 &&& (31 : Int32)) &&& 31)))]) (st' := []) (M1 := M3) (pc' := 191) (tb_Machine hγ) [.iload 4, .iload 5, .bipush 31, .iand, .ishr, .istore 6] (by decide +kernel) rfl rfl trivial ?_
                        refine E_mask [true, true, false, true, false, false, true] rfl ?_
                        exact lk_Machine_reckon_j191 hγ this Q a1 a3 (r2 >>> ((r4 &&& (31 : Int32)) &&& 31)) M3 h
def w_Machine_holds (this : Nat) (a1 : Int32) (a2 : Int32) (a3 : Int32) (Q : Int32 → Mem → Prop) (M : Mem) : Prop :=
  if a1 = (24 : Int32) then (if a2 = a3 then (Q (1 : Int32) M) else (Q (0 : Int32) M)) else (if a1 = (25 : Int32) then (if a2 = a3 then (Q (0 : Int32) M) else (Q (1 : Int32) M)) else (if a1 = (26 : Int32) then (if a3 ≤ a2 then (Q (0 : Int32) M) else (Q (1 : Int32) M)) else (if a1 = (27 : Int32) then (if a2 < a3 then (Q (0 : Int32) M) else (Q (1 : Int32) M)) else (if a1 = (28 : Int32) then (if a2 ≤ a3 then (Q (0 : Int32) M) else (Q (1 : Int32) M)) else (if a1 = (29 : Int32) then (if a3 < a2 then (Q (0 : Int32) M) else (Q (1 : Int32) M)) else (if a1 = (30 : Int32) then (if a2 = a3 then (Q (1 : Int32) M) else (Q (0 : Int32) M)) else (if a1 = (31 : Int32) then (if a2 = a3 then (Q (0 : Int32) M) else (Q (1 : Int32) M)) else (if a1 = (32 : Int32) then (if a3 ≤ a2 then (Q (0 : Int32) M) else (Q (1 : Int32) M)) else (if a1 = (33 : Int32) then (if a2 < a3 then (Q (0 : Int32) M) else (Q (1 : Int32) M)) else (if a1 = (34 : Int32) then (if a2 ≤ a3 then (Q (0 : Int32) M) else (Q (1 : Int32) M)) else (if a1 = (35 : Int32) then (if a3 < a2 then (Q (0 : Int32) M) else (Q (1 : Int32) M)) else (if a1 = (36 : Int32) then (if a2 = a3 then (Q (1 : Int32) M) else (Q (0 : Int32) M)) else (if a1 = (37 : Int32) then (if a2 = a3 then (Q (0 : Int32) M) else (Q (1 : Int32) M)) else (if a1 = (38 : Int32) then (if a2 = a3 then (Q (1 : Int32) M) else (Q (0 : Int32) M)) else (if a1 = (39 : Int32) then (if a2 = a3 then (Q (0 : Int32) M) else (Q (1 : Int32) M)) else (if a3 < a2 then (Q (0 : Int32) M) else (Q (1 : Int32) M)))))))))))))))))
set_option maxRecDepth 4096 in
theorem lk_Machine_holds {γ : Gm} (hγ : Gk γ) (this : Nat) (a1 : Int32) (a2 : Int32) (a3 : Int32) (Q : Int32 → Mem → Prop) (M : Mem) (h : w_Machine_holds this a1 a2 a3 Q M) : E γ k_Machine_holds 0 0 [some (vr (some (6, this))), some (vi a1), some (vi a2), some (vi a3)] [] M (Qi Q) := by
  unfold w_Machine_holds at h
  refine E_blk (lv' := [some (vr (some (6, this))), some (vi a1), some (vi a2), some (vi a3)]) (st' := [vi a1]) (M1 := M) (pc' := 1) (tb_Machine hγ) [.iload_n 1] (by decide +kernel) rfl rfl trivial ?_
  by_cases b2 : a1 = (24 : Int32)
  · rw [if_pos b2] at h
    refine E.up (fun _ _ hJ => J_tswI (len := 79) (dflt := 134) (lo := 24) (hi := 39) (offs := #[79, 90, 101, 112, 123, 134, 79, 90, 101, 112, 123, 134, 79, 90, 79, 90]) (off := 79) (tgt := 80) (by decide +kernel) (by rw [b2]; decide) (by rw [b2]; decide) (by rw [b2]; rfl) (by decide) hJ) ?_
    refine E_blk (lv' := [some (vr (some (6, this))), some (vi a1), some (vi a2), some (vi a3)]) (st' := [vi a3, vi a2]) (M1 := M) (pc' := 82) (tb_Machine hγ) [.iload_n 2, .iload_n 3] (by decide +kernel) rfl rfl trivial ?_
    refine E_icmp_ne (off := 7) (tgt := 89) (by decide +kernel) (by decide) (fun b33 => ?_) (fun b33 => ?_)
    · rw [if_pos b33] at h
      refine E_blk (lv' := [some (vr (some (6, this))), some (vi a1), some (vi a2), some (vi a3)]) (st' := [vi (1 : Int32)]) (M1 := M) (pc' := 86) (tb_Machine hγ) [.iconst 1] (by decide +kernel) rfl rfl trivial ?_
      refine E_goto (off := 4) (tgt := 90) (by decide +kernel) (by decide) ?_
      exact E_zret rfl (Or.inr rfl) (by decide +kernel) h
    · rw [if_neg b33] at h
      refine E_blk (lv' := [some (vr (some (6, this))), some (vi a1), some (vi a2), some (vi a3)]) (st' := [vi (0 : Int32)]) (M1 := M) (pc' := 90) (tb_Machine hγ) [.iconst 0] (by decide +kernel) rfl rfl trivial ?_
      exact E_zret rfl (Or.inl rfl) (by decide +kernel) h
  · rw [if_neg b2] at h
    by_cases b3 : a1 = (25 : Int32)
    · rw [if_pos b3] at h
      refine E.up (fun _ _ hJ => J_tswI (len := 79) (dflt := 134) (lo := 24) (hi := 39) (offs := #[79, 90, 101, 112, 123, 134, 79, 90, 101, 112, 123, 134, 79, 90, 79, 90]) (off := 90) (tgt := 91) (by decide +kernel) (by rw [b3]; decide) (by rw [b3]; decide) (by rw [b3]; rfl) (by decide) hJ) ?_
      refine E_blk (lv' := [some (vr (some (6, this))), some (vi a1), some (vi a2), some (vi a3)]) (st' := [vi a3, vi a2]) (M1 := M) (pc' := 93) (tb_Machine hγ) [.iload_n 2, .iload_n 3] (by decide +kernel) rfl rfl trivial ?_
      refine E_icmp_eq (off := 7) (tgt := 100) (by decide +kernel) (by decide) (fun b32 => ?_) (fun b32 => ?_)
      · rw [if_pos b32] at h
        refine E_blk (lv' := [some (vr (some (6, this))), some (vi a1), some (vi a2), some (vi a3)]) (st' := [vi (0 : Int32)]) (M1 := M) (pc' := 101) (tb_Machine hγ) [.iconst 0] (by decide +kernel) rfl rfl trivial ?_
        exact E_zret rfl (Or.inl rfl) (by decide +kernel) h
      · rw [if_neg b32] at h
        refine E_blk (lv' := [some (vr (some (6, this))), some (vi a1), some (vi a2), some (vi a3)]) (st' := [vi (1 : Int32)]) (M1 := M) (pc' := 97) (tb_Machine hγ) [.iconst 1] (by decide +kernel) rfl rfl trivial ?_
        refine E_goto (off := 4) (tgt := 101) (by decide +kernel) (by decide) ?_
        exact E_zret rfl (Or.inr rfl) (by decide +kernel) h
    · rw [if_neg b3] at h
      by_cases b4 : a1 = (26 : Int32)
      · rw [if_pos b4] at h
        refine E.up (fun _ _ hJ => J_tswI (len := 79) (dflt := 134) (lo := 24) (hi := 39) (offs := #[79, 90, 101, 112, 123, 134, 79, 90, 101, 112, 123, 134, 79, 90, 79, 90]) (off := 101) (tgt := 102) (by decide +kernel) (by rw [b4]; decide) (by rw [b4]; decide) (by rw [b4]; rfl) (by decide) hJ) ?_
        refine E_blk (lv' := [some (vr (some (6, this))), some (vi a1), some (vi a2), some (vi a3)]) (st' := [vi a3, vi a2]) (M1 := M) (pc' := 104) (tb_Machine hγ) [.iload_n 2, .iload_n 3] (by decide +kernel) rfl rfl trivial ?_
        refine E_icmp_ge (off := 7) (tgt := 111) (by decide +kernel) (by decide) (fun b31 => ?_) (fun b31 => ?_)
        · rw [if_pos b31] at h
          refine E_blk (lv' := [some (vr (some (6, this))), some (vi a1), some (vi a2), some (vi a3)]) (st' := [vi (0 : Int32)]) (M1 := M) (pc' := 112) (tb_Machine hγ) [.iconst 0] (by decide +kernel) rfl rfl trivial ?_
          exact E_zret rfl (Or.inl rfl) (by decide +kernel) h
        · rw [if_neg b31] at h
          refine E_blk (lv' := [some (vr (some (6, this))), some (vi a1), some (vi a2), some (vi a3)]) (st' := [vi (1 : Int32)]) (M1 := M) (pc' := 108) (tb_Machine hγ) [.iconst 1] (by decide +kernel) rfl rfl trivial ?_
          refine E_goto (off := 4) (tgt := 112) (by decide +kernel) (by decide) ?_
          exact E_zret rfl (Or.inr rfl) (by decide +kernel) h
      · rw [if_neg b4] at h
        by_cases b5 : a1 = (27 : Int32)
        · rw [if_pos b5] at h
          refine E.up (fun _ _ hJ => J_tswI (len := 79) (dflt := 134) (lo := 24) (hi := 39) (offs := #[79, 90, 101, 112, 123, 134, 79, 90, 101, 112, 123, 134, 79, 90, 79, 90]) (off := 112) (tgt := 113) (by decide +kernel) (by rw [b5]; decide) (by rw [b5]; decide) (by rw [b5]; rfl) (by decide) hJ) ?_
          refine E_blk (lv' := [some (vr (some (6, this))), some (vi a1), some (vi a2), some (vi a3)]) (st' := [vi a3, vi a2]) (M1 := M) (pc' := 115) (tb_Machine hγ) [.iload_n 2, .iload_n 3] (by decide +kernel) rfl rfl trivial ?_
          refine E_icmp_lt (off := 7) (tgt := 122) (by decide +kernel) (by decide) (fun b30 => ?_) (fun b30 => ?_)
          · rw [if_pos b30] at h
            refine E_blk (lv' := [some (vr (some (6, this))), some (vi a1), some (vi a2), some (vi a3)]) (st' := [vi (0 : Int32)]) (M1 := M) (pc' := 123) (tb_Machine hγ) [.iconst 0] (by decide +kernel) rfl rfl trivial ?_
            exact E_zret rfl (Or.inl rfl) (by decide +kernel) h
          · rw [if_neg b30] at h
            refine E_blk (lv' := [some (vr (some (6, this))), some (vi a1), some (vi a2), some (vi a3)]) (st' := [vi (1 : Int32)]) (M1 := M) (pc' := 119) (tb_Machine hγ) [.iconst 1] (by decide +kernel) rfl rfl trivial ?_
            refine E_goto (off := 4) (tgt := 123) (by decide +kernel) (by decide) ?_
            exact E_zret rfl (Or.inr rfl) (by decide +kernel) h
        · rw [if_neg b5] at h
          by_cases b6 : a1 = (28 : Int32)
          · rw [if_pos b6] at h
            refine E.up (fun _ _ hJ => J_tswI (len := 79) (dflt := 134) (lo := 24) (hi := 39) (offs := #[79, 90, 101, 112, 123, 134, 79, 90, 101, 112, 123, 134, 79, 90, 79, 90]) (off := 123) (tgt := 124) (by decide +kernel) (by rw [b6]; decide) (by rw [b6]; decide) (by rw [b6]; rfl) (by decide) hJ) ?_
            refine E_blk (lv' := [some (vr (some (6, this))), some (vi a1), some (vi a2), some (vi a3)]) (st' := [vi a3, vi a2]) (M1 := M) (pc' := 126) (tb_Machine hγ) [.iload_n 2, .iload_n 3] (by decide +kernel) rfl rfl trivial ?_
            refine E_icmp_le (off := 7) (tgt := 133) (by decide +kernel) (by decide) (fun b29 => ?_) (fun b29 => ?_)
            · rw [if_pos b29] at h
              refine E_blk (lv' := [some (vr (some (6, this))), some (vi a1), some (vi a2), some (vi a3)]) (st' := [vi (0 : Int32)]) (M1 := M) (pc' := 134) (tb_Machine hγ) [.iconst 0] (by decide +kernel) rfl rfl trivial ?_
              exact E_zret rfl (Or.inl rfl) (by decide +kernel) h
            · rw [if_neg b29] at h
              refine E_blk (lv' := [some (vr (some (6, this))), some (vi a1), some (vi a2), some (vi a3)]) (st' := [vi (1 : Int32)]) (M1 := M) (pc' := 130) (tb_Machine hγ) [.iconst 1] (by decide +kernel) rfl rfl trivial ?_
              refine E_goto (off := 4) (tgt := 134) (by decide +kernel) (by decide) ?_
              exact E_zret rfl (Or.inr rfl) (by decide +kernel) h
          · rw [if_neg b6] at h
            by_cases b7 : a1 = (29 : Int32)
            · rw [if_pos b7] at h
              refine E.up (fun _ _ hJ => J_tswI (len := 79) (dflt := 134) (lo := 24) (hi := 39) (offs := #[79, 90, 101, 112, 123, 134, 79, 90, 101, 112, 123, 134, 79, 90, 79, 90]) (off := 134) (tgt := 135) (by decide +kernel) (by rw [b7]; decide) (by rw [b7]; decide) (by rw [b7]; rfl) (by decide) hJ) ?_
              refine E_blk (lv' := [some (vr (some (6, this))), some (vi a1), some (vi a2), some (vi a3)]) (st' := [vi a3, vi a2]) (M1 := M) (pc' := 137) (tb_Machine hγ) [.iload_n 2, .iload_n 3] (by decide +kernel) rfl rfl trivial ?_
              refine E_icmp_gt (off := 7) (tgt := 144) (by decide +kernel) (by decide) (fun b28 => ?_) (fun b28 => ?_)
              · rw [if_pos b28] at h
                refine E_blk (lv' := [some (vr (some (6, this))), some (vi a1), some (vi a2), some (vi a3)]) (st' := [vi (0 : Int32)]) (M1 := M) (pc' := 145) (tb_Machine hγ) [.iconst 0] (by decide +kernel) rfl rfl trivial ?_
                exact E_zret rfl (Or.inl rfl) (by decide +kernel) h
              · rw [if_neg b28] at h
                refine E_blk (lv' := [some (vr (some (6, this))), some (vi a1), some (vi a2), some (vi a3)]) (st' := [vi (1 : Int32)]) (M1 := M) (pc' := 141) (tb_Machine hγ) [.iconst 1] (by decide +kernel) rfl rfl trivial ?_
                refine E_goto (off := 4) (tgt := 145) (by decide +kernel) (by decide) ?_
                exact E_zret rfl (Or.inr rfl) (by decide +kernel) h
            · rw [if_neg b7] at h
              by_cases b8 : a1 = (30 : Int32)
              · rw [if_pos b8] at h
                refine E.up (fun _ _ hJ => J_tswI (len := 79) (dflt := 134) (lo := 24) (hi := 39) (offs := #[79, 90, 101, 112, 123, 134, 79, 90, 101, 112, 123, 134, 79, 90, 79, 90]) (off := 79) (tgt := 80) (by decide +kernel) (by rw [b8]; decide) (by rw [b8]; decide) (by rw [b8]; rfl) (by decide) hJ) ?_
                refine E_blk (lv' := [some (vr (some (6, this))), some (vi a1), some (vi a2), some (vi a3)]) (st' := [vi a3, vi a2]) (M1 := M) (pc' := 82) (tb_Machine hγ) [.iload_n 2, .iload_n 3] (by decide +kernel) rfl rfl trivial ?_
                refine E_icmp_ne (off := 7) (tgt := 89) (by decide +kernel) (by decide) (fun b27 => ?_) (fun b27 => ?_)
                · rw [if_pos b27] at h
                  refine E_blk (lv' := [some (vr (some (6, this))), some (vi a1), some (vi a2), some (vi a3)]) (st' := [vi (1 : Int32)]) (M1 := M) (pc' := 86) (tb_Machine hγ) [.iconst 1] (by decide +kernel) rfl rfl trivial ?_
                  refine E_goto (off := 4) (tgt := 90) (by decide +kernel) (by decide) ?_
                  exact E_zret rfl (Or.inr rfl) (by decide +kernel) h
                · rw [if_neg b27] at h
                  refine E_blk (lv' := [some (vr (some (6, this))), some (vi a1), some (vi a2), some (vi a3)]) (st' := [vi (0 : Int32)]) (M1 := M) (pc' := 90) (tb_Machine hγ) [.iconst 0] (by decide +kernel) rfl rfl trivial ?_
                  exact E_zret rfl (Or.inl rfl) (by decide +kernel) h
              · rw [if_neg b8] at h
                by_cases b9 : a1 = (31 : Int32)
                · rw [if_pos b9] at h
                  refine E.up (fun _ _ hJ => J_tswI (len := 79) (dflt := 134) (lo := 24) (hi := 39) (offs := #[79, 90, 101, 112, 123, 134, 79, 90, 101, 112, 123, 134, 79, 90, 79, 90]) (off := 90) (tgt := 91) (by decide +kernel) (by rw [b9]; decide) (by rw [b9]; decide) (by rw [b9]; rfl) (by decide) hJ) ?_
                  refine E_blk (lv' := [some (vr (some (6, this))), some (vi a1), some (vi a2), some (vi a3)]) (st' := [vi a3, vi a2]) (M1 := M) (pc' := 93) (tb_Machine hγ) [.iload_n 2, .iload_n 3] (by decide +kernel) rfl rfl trivial ?_
                  refine E_icmp_eq (off := 7) (tgt := 100) (by decide +kernel) (by decide) (fun b26 => ?_) (fun b26 => ?_)
                  · rw [if_pos b26] at h
                    refine E_blk (lv' := [some (vr (some (6, this))), some (vi a1), some (vi a2), some (vi a3)]) (st' := [vi (0 : Int32)]) (M1 := M) (pc' := 101) (tb_Machine hγ) [.iconst 0] (by decide +kernel) rfl rfl trivial ?_
                    exact E_zret rfl (Or.inl rfl) (by decide +kernel) h
                  · rw [if_neg b26] at h
                    refine E_blk (lv' := [some (vr (some (6, this))), some (vi a1), some (vi a2), some (vi a3)]) (st' := [vi (1 : Int32)]) (M1 := M) (pc' := 97) (tb_Machine hγ) [.iconst 1] (by decide +kernel) rfl rfl trivial ?_
                    refine E_goto (off := 4) (tgt := 101) (by decide +kernel) (by decide) ?_
                    exact E_zret rfl (Or.inr rfl) (by decide +kernel) h
                · rw [if_neg b9] at h
                  by_cases b10 : a1 = (32 : Int32)
                  · rw [if_pos b10] at h
                    refine E.up (fun _ _ hJ => J_tswI (len := 79) (dflt := 134) (lo := 24) (hi := 39) (offs := #[79, 90, 101, 112, 123, 134, 79, 90, 101, 112, 123, 134, 79, 90, 79, 90]) (off := 101) (tgt := 102) (by decide +kernel) (by rw [b10]; decide) (by rw [b10]; decide) (by rw [b10]; rfl) (by decide) hJ) ?_
                    refine E_blk (lv' := [some (vr (some (6, this))), some (vi a1), some (vi a2), some (vi a3)]) (st' := [vi a3, vi a2]) (M1 := M) (pc' := 104) (tb_Machine hγ) [.iload_n 2, .iload_n 3] (by decide +kernel) rfl rfl trivial ?_
                    refine E_icmp_ge (off := 7) (tgt := 111) (by decide +kernel) (by decide) (fun b25 => ?_) (fun b25 => ?_)
                    · rw [if_pos b25] at h
                      refine E_blk (lv' := [some (vr (some (6, this))), some (vi a1), some (vi a2), some (vi a3)]) (st' := [vi (0 : Int32)]) (M1 := M) (pc' := 112) (tb_Machine hγ) [.iconst 0] (by decide +kernel) rfl rfl trivial ?_
                      exact E_zret rfl (Or.inl rfl) (by decide +kernel) h
                    · rw [if_neg b25] at h
                      refine E_blk (lv' := [some (vr (some (6, this))), some (vi a1), some (vi a2), some (vi a3)]) (st' := [vi (1 : Int32)]) (M1 := M) (pc' := 108) (tb_Machine hγ) [.iconst 1] (by decide +kernel) rfl rfl trivial ?_
                      refine E_goto (off := 4) (tgt := 112) (by decide +kernel) (by decide) ?_
                      exact E_zret rfl (Or.inr rfl) (by decide +kernel) h
                  · rw [if_neg b10] at h
                    by_cases b11 : a1 = (33 : Int32)
                    · rw [if_pos b11] at h
                      refine E.up (fun _ _ hJ => J_tswI (len := 79) (dflt := 134) (lo := 24) (hi := 39) (offs := #[79, 90, 101, 112, 123, 134, 79, 90, 101, 112, 123, 134, 79, 90, 79, 90]) (off := 112) (tgt := 113) (by decide +kernel) (by rw [b11]; decide) (by rw [b11]; decide) (by rw [b11]; rfl) (by decide) hJ) ?_
                      refine E_blk (lv' := [some (vr (some (6, this))), some (vi a1), some (vi a2), some (vi a3)]) (st' := [vi a3, vi a2]) (M1 := M) (pc' := 115) (tb_Machine hγ) [.iload_n 2, .iload_n 3] (by decide +kernel) rfl rfl trivial ?_
                      refine E_icmp_lt (off := 7) (tgt := 122) (by decide +kernel) (by decide) (fun b24 => ?_) (fun b24 => ?_)
                      · rw [if_pos b24] at h
                        refine E_blk (lv' := [some (vr (some (6, this))), some (vi a1), some (vi a2), some (vi a3)]) (st' := [vi (0 : Int32)]) (M1 := M) (pc' := 123) (tb_Machine hγ) [.iconst 0] (by decide +kernel) rfl rfl trivial ?_
                        exact E_zret rfl (Or.inl rfl) (by decide +kernel) h
                      · rw [if_neg b24] at h
                        refine E_blk (lv' := [some (vr (some (6, this))), some (vi a1), some (vi a2), some (vi a3)]) (st' := [vi (1 : Int32)]) (M1 := M) (pc' := 119) (tb_Machine hγ) [.iconst 1] (by decide +kernel) rfl rfl trivial ?_
                        refine E_goto (off := 4) (tgt := 123) (by decide +kernel) (by decide) ?_
                        exact E_zret rfl (Or.inr rfl) (by decide +kernel) h
                    · rw [if_neg b11] at h
                      by_cases b12 : a1 = (34 : Int32)
                      · rw [if_pos b12] at h
                        refine E.up (fun _ _ hJ => J_tswI (len := 79) (dflt := 134) (lo := 24) (hi := 39) (offs := #[79, 90, 101, 112, 123, 134, 79, 90, 101, 112, 123, 134, 79, 90, 79, 90]) (off := 123) (tgt := 124) (by decide +kernel) (by rw [b12]; decide) (by rw [b12]; decide) (by rw [b12]; rfl) (by decide) hJ) ?_
                        refine E_blk (lv' := [some (vr (some (6, this))), some (vi a1), some (vi a2), some (vi a3)]) (st' := [vi a3, vi a2]) (M1 := M) (pc' := 126) (tb_Machine hγ) [.iload_n 2, .iload_n 3] (by decide +kernel) rfl rfl trivial ?_
                        refine E_icmp_le (off := 7) (tgt := 133) (by decide +kernel) (by decide) (fun b23 => ?_) (fun b23 => ?_)
                        · rw [if_pos b23] at h
                          refine E_blk (lv' := [some (vr (some (6, this))), some (vi a1), some (vi a2), some (vi a3)]) (st' := [vi (0 : Int32)]) (M1 := M) (pc' := 134) (tb_Machine hγ) [.iconst 0] (by decide +kernel) rfl rfl trivial ?_
                          exact E_zret rfl (Or.inl rfl) (by decide +kernel) h
                        · rw [if_neg b23] at h
                          refine E_blk (lv' := [some (vr (some (6, this))), some (vi a1), some (vi a2), some (vi a3)]) (st' := [vi (1 : Int32)]) (M1 := M) (pc' := 130) (tb_Machine hγ) [.iconst 1] (by decide +kernel) rfl rfl trivial ?_
                          refine E_goto (off := 4) (tgt := 134) (by decide +kernel) (by decide) ?_
                          exact E_zret rfl (Or.inr rfl) (by decide +kernel) h
                      · rw [if_neg b12] at h
                        by_cases b13 : a1 = (35 : Int32)
                        · rw [if_pos b13] at h
                          refine E.up (fun _ _ hJ => J_tswI (len := 79) (dflt := 134) (lo := 24) (hi := 39) (offs := #[79, 90, 101, 112, 123, 134, 79, 90, 101, 112, 123, 134, 79, 90, 79, 90]) (off := 134) (tgt := 135) (by decide +kernel) (by rw [b13]; decide) (by rw [b13]; decide) (by rw [b13]; rfl) (by decide) hJ) ?_
                          refine E_blk (lv' := [some (vr (some (6, this))), some (vi a1), some (vi a2), some (vi a3)]) (st' := [vi a3, vi a2]) (M1 := M) (pc' := 137) (tb_Machine hγ) [.iload_n 2, .iload_n 3] (by decide +kernel) rfl rfl trivial ?_
                          refine E_icmp_gt (off := 7) (tgt := 144) (by decide +kernel) (by decide) (fun b22 => ?_) (fun b22 => ?_)
                          · rw [if_pos b22] at h
                            refine E_blk (lv' := [some (vr (some (6, this))), some (vi a1), some (vi a2), some (vi a3)]) (st' := [vi (0 : Int32)]) (M1 := M) (pc' := 145) (tb_Machine hγ) [.iconst 0] (by decide +kernel) rfl rfl trivial ?_
                            exact E_zret rfl (Or.inl rfl) (by decide +kernel) h
                          · rw [if_neg b22] at h
                            refine E_blk (lv' := [some (vr (some (6, this))), some (vi a1), some (vi a2), some (vi a3)]) (st' := [vi (1 : Int32)]) (M1 := M) (pc' := 141) (tb_Machine hγ) [.iconst 1] (by decide +kernel) rfl rfl trivial ?_
                            refine E_goto (off := 4) (tgt := 145) (by decide +kernel) (by decide) ?_
                            exact E_zret rfl (Or.inr rfl) (by decide +kernel) h
                        · rw [if_neg b13] at h
                          by_cases b14 : a1 = (36 : Int32)
                          · rw [if_pos b14] at h
                            refine E.up (fun _ _ hJ => J_tswI (len := 79) (dflt := 134) (lo := 24) (hi := 39) (offs := #[79, 90, 101, 112, 123, 134, 79, 90, 101, 112, 123, 134, 79, 90, 79, 90]) (off := 79) (tgt := 80) (by decide +kernel) (by rw [b14]; decide) (by rw [b14]; decide) (by rw [b14]; rfl) (by decide) hJ) ?_
                            refine E_blk (lv' := [some (vr (some (6, this))), some (vi a1), some (vi a2), some (vi a3)]) (st' := [vi a3, vi a2]) (M1 := M) (pc' := 82) (tb_Machine hγ) [.iload_n 2, .iload_n 3] (by decide +kernel) rfl rfl trivial ?_
                            refine E_icmp_ne (off := 7) (tgt := 89) (by decide +kernel) (by decide) (fun b21 => ?_) (fun b21 => ?_)
                            · rw [if_pos b21] at h
                              refine E_blk (lv' := [some (vr (some (6, this))), some (vi a1), some (vi a2), some (vi a3)]) (st' := [vi (1 : Int32)]) (M1 := M) (pc' := 86) (tb_Machine hγ) [.iconst 1] (by decide +kernel) rfl rfl trivial ?_
                              refine E_goto (off := 4) (tgt := 90) (by decide +kernel) (by decide) ?_
                              exact E_zret rfl (Or.inr rfl) (by decide +kernel) h
                            · rw [if_neg b21] at h
                              refine E_blk (lv' := [some (vr (some (6, this))), some (vi a1), some (vi a2), some (vi a3)]) (st' := [vi (0 : Int32)]) (M1 := M) (pc' := 90) (tb_Machine hγ) [.iconst 0] (by decide +kernel) rfl rfl trivial ?_
                              exact E_zret rfl (Or.inl rfl) (by decide +kernel) h
                          · rw [if_neg b14] at h
                            by_cases b15 : a1 = (37 : Int32)
                            · rw [if_pos b15] at h
                              refine E.up (fun _ _ hJ => J_tswI (len := 79) (dflt := 134) (lo := 24) (hi := 39) (offs := #[79, 90, 101, 112, 123, 134, 79, 90, 101, 112, 123, 134, 79, 90, 79, 90]) (off := 90) (tgt := 91) (by decide +kernel) (by rw [b15]; decide) (by rw [b15]; decide) (by rw [b15]; rfl) (by decide) hJ) ?_
                              refine E_blk (lv' := [some (vr (some (6, this))), some (vi a1), some (vi a2), some (vi a3)]) (st' := [vi a3, vi a2]) (M1 := M) (pc' := 93) (tb_Machine hγ) [.iload_n 2, .iload_n 3] (by decide +kernel) rfl rfl trivial ?_
                              refine E_icmp_eq (off := 7) (tgt := 100) (by decide +kernel) (by decide) (fun b20 => ?_) (fun b20 => ?_)
                              · rw [if_pos b20] at h
                                refine E_blk (lv' := [some (vr (some (6, this))), some (vi a1), some (vi a2), some (vi a3)]) (st' := [vi (0 : Int32)]) (M1 := M) (pc' := 101) (tb_Machine hγ) [.iconst 0] (by decide +kernel) rfl rfl trivial ?_
                                exact E_zret rfl (Or.inl rfl) (by decide +kernel) h
                              · rw [if_neg b20] at h
                                refine E_blk (lv' := [some (vr (some (6, this))), some (vi a1), some (vi a2), some (vi a3)]) (st' := [vi (1 : Int32)]) (M1 := M) (pc' := 97) (tb_Machine hγ) [.iconst 1] (by decide +kernel) rfl rfl trivial ?_
                                refine E_goto (off := 4) (tgt := 101) (by decide +kernel) (by decide) ?_
                                exact E_zret rfl (Or.inr rfl) (by decide +kernel) h
                            · rw [if_neg b15] at h
                              by_cases b16 : a1 = (38 : Int32)
                              · rw [if_pos b16] at h
                                refine E.up (fun _ _ hJ => J_tswI (len := 79) (dflt := 134) (lo := 24) (hi := 39) (offs := #[79, 90, 101, 112, 123, 134, 79, 90, 101, 112, 123, 134, 79, 90, 79, 90]) (off := 79) (tgt := 80) (by decide +kernel) (by rw [b16]; decide) (by rw [b16]; decide) (by rw [b16]; rfl) (by decide) hJ) ?_
                                refine E_blk (lv' := [some (vr (some (6, this))), some (vi a1), some (vi a2), some (vi a3)]) (st' := [vi a3, vi a2]) (M1 := M) (pc' := 82) (tb_Machine hγ) [.iload_n 2, .iload_n 3] (by decide +kernel) rfl rfl trivial ?_
                                refine E_icmp_ne (off := 7) (tgt := 89) (by decide +kernel) (by decide) (fun b19 => ?_) (fun b19 => ?_)
                                · rw [if_pos b19] at h
                                  refine E_blk (lv' := [some (vr (some (6, this))), some (vi a1), some (vi a2), some (vi a3)]) (st' := [vi (1 : Int32)]) (M1 := M) (pc' := 86) (tb_Machine hγ) [.iconst 1] (by decide +kernel) rfl rfl trivial ?_
                                  refine E_goto (off := 4) (tgt := 90) (by decide +kernel) (by decide) ?_
                                  exact E_zret rfl (Or.inr rfl) (by decide +kernel) h
                                · rw [if_neg b19] at h
                                  refine E_blk (lv' := [some (vr (some (6, this))), some (vi a1), some (vi a2), some (vi a3)]) (st' := [vi (0 : Int32)]) (M1 := M) (pc' := 90) (tb_Machine hγ) [.iconst 0] (by decide +kernel) rfl rfl trivial ?_
                                  exact E_zret rfl (Or.inl rfl) (by decide +kernel) h
                              · rw [if_neg b16] at h
                                by_cases b17 : a1 = (39 : Int32)
                                · rw [if_pos b17] at h
                                  refine E.up (fun _ _ hJ => J_tswI (len := 79) (dflt := 134) (lo := 24) (hi := 39) (offs := #[79, 90, 101, 112, 123, 134, 79, 90, 101, 112, 123, 134, 79, 90, 79, 90]) (off := 90) (tgt := 91) (by decide +kernel) (by rw [b17]; decide) (by rw [b17]; decide) (by rw [b17]; rfl) (by decide) hJ) ?_
                                  refine E_blk (lv' := [some (vr (some (6, this))), some (vi a1), some (vi a2), some (vi a3)]) (st' := [vi a3, vi a2]) (M1 := M) (pc' := 93) (tb_Machine hγ) [.iload_n 2, .iload_n 3] (by decide +kernel) rfl rfl trivial ?_
                                  refine E_icmp_eq (off := 7) (tgt := 100) (by decide +kernel) (by decide) (fun b18 => ?_) (fun b18 => ?_)
                                  · rw [if_pos b18] at h
                                    refine E_blk (lv' := [some (vr (some (6, this))), some (vi a1), some (vi a2), some (vi a3)]) (st' := [vi (0 : Int32)]) (M1 := M) (pc' := 101) (tb_Machine hγ) [.iconst 0] (by decide +kernel) rfl rfl trivial ?_
                                    exact E_zret rfl (Or.inl rfl) (by decide +kernel) h
                                  · rw [if_neg b18] at h
                                    refine E_blk (lv' := [some (vr (some (6, this))), some (vi a1), some (vi a2), some (vi a3)]) (st' := [vi (1 : Int32)]) (M1 := M) (pc' := 97) (tb_Machine hγ) [.iconst 1] (by decide +kernel) rfl rfl trivial ?_
                                    refine E_goto (off := 4) (tgt := 101) (by decide +kernel) (by decide) ?_
                                    exact E_zret rfl (Or.inr rfl) (by decide +kernel) h
                                · rw [if_neg b17] at h
                                  refine E.up (fun _ _ hJ => J_tswO (len := 79) (dflt := 134) (lo := 24) (hi := 39) (offs := #[79, 90, 101, 112, 123, 134, 79, 90, 101, 112, 123, 134, 79, 90, 79, 90]) (tgt := 135) (by decide +kernel) ?_ (by decide) hJ) ?_
                                  · have q := sw0 (x := a1) 24
                                    replace q : (a1).toInt < 24 ∨ 25 ≤ (a1).toInt := sw1 q b2 rfl rfl
                                    replace q : (a1).toInt < 24 ∨ 26 ≤ (a1).toInt := sw1 q b3 rfl rfl
                                    replace q : (a1).toInt < 24 ∨ 27 ≤ (a1).toInt := sw1 q b4 rfl rfl
                                    replace q : (a1).toInt < 24 ∨ 28 ≤ (a1).toInt := sw1 q b5 rfl rfl
                                    replace q : (a1).toInt < 24 ∨ 29 ≤ (a1).toInt := sw1 q b6 rfl rfl
                                    replace q : (a1).toInt < 24 ∨ 30 ≤ (a1).toInt := sw1 q b7 rfl rfl
                                    replace q : (a1).toInt < 24 ∨ 31 ≤ (a1).toInt := sw1 q b8 rfl rfl
                                    replace q : (a1).toInt < 24 ∨ 32 ≤ (a1).toInt := sw1 q b9 rfl rfl
                                    replace q : (a1).toInt < 24 ∨ 33 ≤ (a1).toInt := sw1 q b10 rfl rfl
                                    replace q : (a1).toInt < 24 ∨ 34 ≤ (a1).toInt := sw1 q b11 rfl rfl
                                    replace q : (a1).toInt < 24 ∨ 35 ≤ (a1).toInt := sw1 q b12 rfl rfl
                                    replace q : (a1).toInt < 24 ∨ 36 ≤ (a1).toInt := sw1 q b13 rfl rfl
                                    replace q : (a1).toInt < 24 ∨ 37 ≤ (a1).toInt := sw1 q b14 rfl rfl
                                    replace q : (a1).toInt < 24 ∨ 38 ≤ (a1).toInt := sw1 q b15 rfl rfl
                                    replace q : (a1).toInt < 24 ∨ 39 ≤ (a1).toInt := sw1 q b16 rfl rfl
                                    replace q : (a1).toInt < 24 ∨ 40 ≤ (a1).toInt := sw1 q b17 rfl rfl
                                    omega
                                  · refine E_blk (lv' := [some (vr (some (6, this))), some (vi a1), some (vi a2), some (vi a3)]) (st' := [vi a3, vi a2]) (M1 := M) (pc' := 137) (tb_Machine hγ) [.iload_n 2, .iload_n 3] (by decide +kernel) rfl rfl trivial ?_
                                    refine E_icmp_gt (off := 7) (tgt := 144) (by decide +kernel) (by decide) (fun b1 => ?_) (fun b1 => ?_)
                                    · rw [if_pos b1] at h
                                      refine E_blk (lv' := [some (vr (some (6, this))), some (vi a1), some (vi a2), some (vi a3)]) (st' := [vi (0 : Int32)]) (M1 := M) (pc' := 145) (tb_Machine hγ) [.iconst 0] (by decide +kernel) rfl rfl trivial ?_
                                      exact E_zret rfl (Or.inl rfl) (by decide +kernel) h
                                    · rw [if_neg b1] at h
                                      refine E_blk (lv' := [some (vr (some (6, this))), some (vi a1), some (vi a2), some (vi a3)]) (st' := [vi (1 : Int32)]) (M1 := M) (pc' := 141) (tb_Machine hγ) [.iconst 1] (by decide +kernel) rfl rfl trivial ?_
                                      refine E_goto (off := 4) (tgt := 145) (by decide +kernel) (by decide) ?_
                                      exact E_zret rfl (Or.inr rfl) (by decide +kernel) h
def w_Machine_jump_j115 (this : Nat) (Q : Mem → Prop) (s0 : Int32) (s1 : Int32) (s3 : Int32) (M : Mem) : Prop :=
  vp_in (s1 + s0) (mL M 74 this) ∧ w_Machine_goesTo this s3 (mI M 74 this (s1 + s0).toNatClampNeg) (fun M14 => Q M14) M
def w_Machine_jump_j113 (this : Nat) (Q : Mem → Prop) (v8 : Int32) (s0 : Int32) (s2 : Int32) (M : Mem) : Prop :=
  w_Machine_jump_j115 this Q v8 s0 s2 M
def w_Machine_jump_j228 (this : Nat) (Q : Mem → Prop) (s0 : Int32) (s1 : Int32) (M : Mem) : Prop :=
  w_Machine_goesTo this s1 s0 (fun M26 => Q M26) M
def w_Machine_jump_j196 (this : Nat) (Q : Mem → Prop) (v1 : Int32) (v2 : Int32) (v3 : Int32) (v4 : Int32) (v7 : Int32) (v8 : Int32) (s0 : Int32) (s1 : Int32) (M : Mem) : Prop :=
  w_Machine_holds this v3 v7 v8 (fun r24 M23 => if r24 = 0 then (w_Machine_jump_j228 this Q v4 v1 M23) else (vp_in v2 (mL M23 67 this) ∧ w_Machine_jump_j228 this Q (mI M23 67 this v2.toNatClampNeg) v1 M23)) (sI M 6 this 34 (s1 - s0))
def w_Machine_jump_j179 (this : Nat) (Q : Mem → Prop) (v1 : Int32) (v2 : Int32) (v3 : Int32) (v4 : Int32) (v6 : Int32) (v7 : Int32) (s0 : Int32) (M : Mem) : Prop :=
  if v6 = 0 then (w_Machine_jump_j196 this Q v1 v2 v3 v4 v7 s0 (1 : Int32) (mI M 6 this 34) M) else (w_Machine_jump_j196 this Q v1 v2 v3 v4 v7 s0 (2 : Int32) (mI M 6 this 34) M)
def w_Machine_jump_j166 (this : Nat) (Q : Mem → Prop) (v1 : Int32) (v2 : Int32) (v3 : Int32) (v4 : Int32) (v5 : Int32) (v6 : Int32) (s0 : Int32) (M : Mem) : Prop :=
  if v6 = 0 then (w_Machine_jump_j179 this Q v1 v2 v3 v4 v6 s0 (0 : Int32) M) else (w_Machine_jump_j179 this Q v1 v2 v3 v4 v6 s0 v5 M)
def w_Machine_jump_j149 (this : Nat) (Q : Mem → Prop) (v1 : Int32) (v2 : Int32) (v3 : Int32) (v4 : Int32) (v5 : Int32) (s0 : Int32) (M : Mem) : Prop :=
  if s0 = 0 then (w_Machine_jump_j166 this Q v1 v2 v3 v4 v5 s0 v5 M) else (w_Machine_number this (1 : Int32) (fun r29 M28 => w_Machine_jump_j166 this Q v1 v2 v3 v4 v5 s0 r29 M28) M)
def w_Machine_jump_j144 (this : Nat) (Q : Mem → Prop) (v1 : Int32) (v2 : Int32) (v3 : Int32) (v4 : Int32) (v5 : Int32) (M : Mem) : Prop :=
  w_Machine_jump_j149 this Q v1 v2 v3 v4 v5 (1 : Int32) M
def w_Machine_jump (this : Nat) (a1 : Int32) (a2 : Int32) (a3 : Int32) (a4 : Int32) (Q : Mem → Prop) (M : Mem) : Prop :=
  if a3 = (23 : Int32) then (vp_in a2 (mL M 67 this) ∧ w_Machine_goesTo this a1 (mI M 67 this a2.toNatClampNeg) (fun M3 => Q M3) M) else (w_Machine_number this (0 : Int32) (fun r5 M4 => if a3 = (40 : Int32) then (vp_in a2 (mL (sI M4 6 this 34 ((mI M4 6 this 34) - (1 : Int32))) 67 this) ∧ ∃ x8 : Int64, x8 = (r5.toInt64 - (mI (sI M4 6 this 34 ((mI M4 6 this 34) - (1 : Int32))) 67 this a2.toNatClampNeg).toInt64) ∧ vp_in a2 (mL (sI M4 6 this 34 ((mI M4 6 this 34) - (1 : Int32))) 69 this) ∧ ∃ x10 : Int32, x10 = ((mI (sI M4 6 this 34 ((mI M4 6 this 34) - (1 : Int32))) 69 this a2.toNatClampNeg) - (1 : Int32)) ∧ vp_in a2 (mL (sI M4 6 this 34 ((mI M4 6 this 34) - (1 : Int32))) 68 this) ∧ if (lg_cmp x8 (0 : Int64)) < 0 then (w_Machine_jump_j113 this Q x10 (mI (sI M4 6 this 34 ((mI M4 6 this 34) - (1 : Int32))) 68 this a2.toNatClampNeg) a1 (sI M4 6 this 34 ((mI M4 6 this 34) - (1 : Int32)))) else (if 0 ≤ (lg_cmp x8 x10.toInt64) then (w_Machine_jump_j113 this Q x10 (mI (sI M4 6 this 34 ((mI M4 6 this 34) - (1 : Int32))) 68 this a2.toNatClampNeg) a1 (sI M4 6 this 34 ((mI M4 6 this 34) - (1 : Int32)))) else (w_Machine_jump_j115 this Q x8.toInt32 (mI (sI M4 6 this 34 ((mI M4 6 this 34) - (1 : Int32))) 68 this a2.toNatClampNeg) a1 (sI M4 6 this 34 ((mI M4 6 this 34) - (1 : Int32)))))) else (w_Works_isIn a3 (30 : Int32) (35 : Int32) (fun r17 M16 => if r17 = 0 then (if a3 = (38 : Int32) then (w_Machine_jump_j144 this Q a1 a2 a3 a4 r5 M16) else (if a3 = (39 : Int32) then (w_Machine_jump_j144 this Q a1 a2 a3 a4 r5 M16) else (w_Machine_jump_j149 this Q a1 a2 a3 a4 r5 (0 : Int32) M16))) else (w_Machine_jump_j144 this Q a1 a2 a3 a4 r5 M16)) M4)) M)
set_option maxRecDepth 4096 in
theorem lk_Machine_jump_j115 {γ : Gm} (hγ : Gk γ) (this : Nat) (Q : Mem → Prop) (s0 : Int32) (s1 : Int32) (s3 : Int32) (M : Mem) (h : w_Machine_jump_j115 this Q s0 s1 s3 M) : E γ k_Machine_jump 1 115 [none, none, none, none, none, none, none, none, none] [vi s0, vi s1, vr (some (74, this)), vi s3, vr (some (6, this))] M (Qv Q) := by
  unfold w_Machine_jump_j115 at h
  obtain ⟨c13, h⟩ := h
  refine E_blk (lv' := [none, none, none, none, none, none, none, none, none]) (st' := [vi (mI M 74 this (s1 + s0).toNatClampNeg), vi s3, vr (some (6, this))]) (M1 := M) (pc' := 117) (tb_Machine hγ) [.iadd, .iaload] (by decide +kernel) rfl rfl ⟨c13, trivial⟩ ?_
  refine E_callV (κ' := k_Machine_goesTo) (As := [vi s3, vi (mI M 74 this (s1 + s0).toNatClampNeg)]) (st := []) mv_Machine_goesTo (Or.inl (tbk_mem (j := 9) (k := 70) rfl)) rfl (by decide +kernel) (Nat.le_of_ble_eq_true rfl) (Nat.le_of_ble_eq_true rfl) rfl (by decide) (lk_Machine_goesTo hγ this s3 (mI M 74 this (s1 + s0).toNatClampNeg) _ M h) (fun _ _ => Qv_r) (fun v M14 hp => Qv_k (R := fun st => E γ k_Machine_jump 1 120 [none, none, none, none, none, none, none, none, none] st M14 (Qv Q)) hp (fun h => ?_))
  exact E_vret rfl (by decide +kernel) h
set_option maxRecDepth 4096 in
theorem lk_Machine_jump_j113 {γ : Gm} (hγ : Gk γ) (this : Nat) (Q : Mem → Prop) (v8 : Int32) (s0 : Int32) (s2 : Int32) (M : Mem) (h : w_Machine_jump_j113 this Q v8 s0 s2 M) : E γ k_Machine_jump 1 113 [none, none, none, none, none, none, none, none, some (vi v8)] [vi s0, vr (some (74, this)), vi s2, vr (some (6, this))] M (Qv Q) := by
  unfold w_Machine_jump_j113 at h
  refine E_blk (lv' := [none, none, none, none, none, none, none, none, some (vi v8)]) (st' := [vi v8, vi s0, vr (some (74, this)), vi s2, vr (some (6, this))]) (M1 := M) (pc' := 115) (tb_Machine hγ) [.iload 8] (by decide +kernel) rfl rfl trivial ?_
  refine E_mask [false, false, false, false, false, false, false, false, false] rfl ?_
  exact lk_Machine_jump_j115 hγ this Q v8 s0 s2 M h
set_option maxRecDepth 4096 in
theorem lk_Machine_jump_j228 {γ : Gm} (hγ : Gk γ) (this : Nat) (Q : Mem → Prop) (s0 : Int32) (s1 : Int32) (M : Mem) (h : w_Machine_jump_j228 this Q s0 s1 M) : E γ k_Machine_jump 1 228 [none, none, none, none, none, none, none, none, none] [vi s0, vi s1, vr (some (6, this))] M (Qv Q) := by
  unfold w_Machine_jump_j228 at h
  refine E_callV (κ' := k_Machine_goesTo) (As := [vi s1, vi s0]) (st := []) mv_Machine_goesTo (Or.inl (tbk_mem (j := 9) (k := 70) rfl)) rfl (by decide +kernel) (Nat.le_of_ble_eq_true rfl) (Nat.le_of_ble_eq_true rfl) rfl (by decide) (lk_Machine_goesTo hγ this s1 s0 _ M h) (fun _ _ => Qv_r) (fun v M26 hp => Qv_k (R := fun st => E γ k_Machine_jump 1 231 [none, none, none, none, none, none, none, none, none] st M26 (Qv Q)) hp (fun h => ?_))
  exact E_vret rfl (by decide +kernel) h
set_option maxRecDepth 4096 in
theorem lk_Machine_jump_j196 {γ : Gm} (hγ : Gk γ) (this : Nat) (Q : Mem → Prop) (v1 : Int32) (v2 : Int32) (v3 : Int32) (v4 : Int32) (v7 : Int32) (v8 : Int32) (s0 : Int32) (s1 : Int32) (M : Mem) (h : w_Machine_jump_j196 this Q v1 v2 v3 v4 v7 v8 s0 s1 M) : E γ k_Machine_jump 1 196 [some (vr (some (6, this))), some (vi v1), some (vi v2), some (vi v3), some (vi v4), none, none, some (vi v7), some (vi v8)] [vi s0, vi s1, vr (some (6, this))] M (Qv Q) := by
  unfold w_Machine_jump_j196 at h
  refine E_blk (lv' := [some (vr (some (6, this))), some (vi v1), some (vi v2), some (vi v3), some (vi v4), none, none, some (vi v7), some (vi v8)]) (st' := [vi v8, vi v7, vi v3, vr (some (6, this)), vi v1, vr (some (6, this))]) (M1 := (sI M 6 this 34 (s1 - s0))) (pc' := 208) (tb_Machine hγ) [.isub, .putfield 405, .aload_n 0, .iload_n 1, .aload_n 0, .iload_n 3, .iload 7, .iload 8] (by decide +kernel) rfl rfl trivial ?_
  refine E_callV (κ' := k_Machine_holds) (As := [vi v3, vi v7, vi v8]) (st := [vi v1, vr (some (6, this))]) mv_Machine_holds (Or.inl (tbk_mem (j := 9) (k := 78) rfl)) rfl (by decide +kernel) (Nat.le_of_ble_eq_true rfl) (Nat.le_of_ble_eq_true rfl) rfl (by decide) (lk_Machine_holds hγ this v3 v7 v8 _ (sI M 6 this 34 (s1 - s0)) h) (fun _ _ => Qi_r) (fun v M23 hp => Qi_k (R := fun st => E γ k_Machine_jump 1 211 [some (vr (some (6, this))), some (vi v1), some (vi v2), some (vi v3), some (vi v4), none, none, some (vi v7), some (vi v8)] st M23 (Qv Q)) hp (fun r24 h => ?_))
  refine E_if_eq (off := 15) (tgt := 226) (by decide +kernel) (by decide) (fun b25 => ?_) (fun b25 => ?_)
  · rw [if_pos b25] at h
    refine E_blk (lv' := [some (vr (some (6, this))), some (vi v1), some (vi v2), some (vi v3), some (vi v4), none, none, some (vi v7), some (vi v8)]) (st' := [vi v4, vi v1, vr (some (6, this))]) (M1 := M23) (pc' := 228) (tb_Machine hγ) [.iload 4] (by decide +kernel) rfl rfl trivial ?_
    refine E_mask [false, false, false, false, false, false, false, false, false] rfl ?_
    exact lk_Machine_jump_j228 hγ this Q v4 v1 M23 h
  · rw [if_neg b25] at h
    obtain ⟨c27, h⟩ := h
    refine E_blk (lv' := [some (vr (some (6, this))), some (vi v1), some (vi v2), some (vi v3), some (vi v4), none, none, some (vi v7), some (vi v8)]) (st' := [vi (mI M23 67 this v2.toNatClampNeg), vi v1, vr (some (6, this))]) (M1 := M23) (pc' := 223) (tb_Machine hγ) [.aload_n 0, .getfield 84, .getfield 392, .iload_n 2, .iaload] (by decide +kernel) rfl rfl ⟨c27, trivial⟩ ?_
    refine E_goto (off := 5) (tgt := 228) (by decide +kernel) (by decide) ?_
    refine E_mask [false, false, false, false, false, false, false, false, false] rfl ?_
    exact lk_Machine_jump_j228 hγ this Q (mI M23 67 this v2.toNatClampNeg) v1 M23 h
set_option maxRecDepth 4096 in
theorem lk_Machine_jump_j179 {γ : Gm} (hγ : Gk γ) (this : Nat) (Q : Mem → Prop) (v1 : Int32) (v2 : Int32) (v3 : Int32) (v4 : Int32) (v6 : Int32) (v7 : Int32) (s0 : Int32) (M : Mem) (h : w_Machine_jump_j179 this Q v1 v2 v3 v4 v6 v7 s0 M) : E γ k_Machine_jump 1 179 [some (vr (some (6, this))), some (vi v1), some (vi v2), some (vi v3), some (vi v4), none, some (vi v6), some (vi v7), none] [vi s0] M (Qv Q) := by
  unfold w_Machine_jump_j179 at h
  refine E_blk (lv' := [some (vr (some (6, this))), some (vi v1), some (vi v2), some (vi v3), some (vi v4), none, some (vi v6), some (vi v7), some (vi s0)]) (st' := [vi v6, vi (mI M 6 this 34), vr (some (6, this))]) (M1 := M) (pc' := 188) (tb_Machine hγ) [.istore 8, .aload_n 0, .dup, .getfield 405, .iload 6] (by decide +kernel) rfl rfl trivial ?_
  refine E_if_eq (off := 7) (tgt := 195) (by decide +kernel) (by decide) (fun b22 => ?_) (fun b22 => ?_)
  · rw [if_pos b22] at h
    refine E_blk (lv' := [some (vr (some (6, this))), some (vi v1), some (vi v2), some (vi v3), some (vi v4), none, some (vi v6), some (vi v7), some (vi s0)]) (st' := [vi (1 : Int32), vi (mI M 6 this 34), vr (some (6, this))]) (M1 := M) (pc' := 196) (tb_Machine hγ) [.iconst 1] (by decide +kernel) rfl rfl trivial ?_
    refine E_mask [true, true, true, true, true, false, false, true, true] rfl ?_
    exact lk_Machine_jump_j196 hγ this Q v1 v2 v3 v4 v7 s0 (1 : Int32) (mI M 6 this 34) M h
  · rw [if_neg b22] at h
    refine E_blk (lv' := [some (vr (some (6, this))), some (vi v1), some (vi v2), some (vi v3), some (vi v4), none, some (vi v6), some (vi v7), some (vi s0)]) (st' := [vi (2 : Int32), vi (mI M 6 this 34), vr (some (6, this))]) (M1 := M) (pc' := 192) (tb_Machine hγ) [.iconst 2] (by decide +kernel) rfl rfl trivial ?_
    refine E_goto (off := 4) (tgt := 196) (by decide +kernel) (by decide) ?_
    refine E_mask [true, true, true, true, true, false, false, true, true] rfl ?_
    exact lk_Machine_jump_j196 hγ this Q v1 v2 v3 v4 v7 s0 (2 : Int32) (mI M 6 this 34) M h
set_option maxRecDepth 4096 in
theorem lk_Machine_jump_j166 {γ : Gm} (hγ : Gk γ) (this : Nat) (Q : Mem → Prop) (v1 : Int32) (v2 : Int32) (v3 : Int32) (v4 : Int32) (v5 : Int32) (v6 : Int32) (s0 : Int32) (M : Mem) (h : w_Machine_jump_j166 this Q v1 v2 v3 v4 v5 v6 s0 M) : E γ k_Machine_jump 1 166 [some (vr (some (6, this))), some (vi v1), some (vi v2), some (vi v3), some (vi v4), some (vi v5), some (vi v6), none, none] [vi s0] M (Qv Q) := by
  unfold w_Machine_jump_j166 at h
  refine E_blk (lv' := [some (vr (some (6, this))), some (vi v1), some (vi v2), some (vi v3), some (vi v4), some (vi v5), some (vi v6), some (vi s0), none]) (st' := [vi v6]) (M1 := M) (pc' := 170) (tb_Machine hγ) [.istore 7, .iload 6] (by decide +kernel) rfl rfl trivial ?_
  refine E_if_eq (off := 8) (tgt := 178) (by decide +kernel) (by decide) (fun b21 => ?_) (fun b21 => ?_)
  · rw [if_pos b21] at h
    refine E_blk (lv' := [some (vr (some (6, this))), some (vi v1), some (vi v2), some (vi v3), some (vi v4), some (vi v5), some (vi v6), some (vi s0), none]) (st' := [vi (0 : Int32)]) (M1 := M) (pc' := 179) (tb_Machine hγ) [.iconst 0] (by decide +kernel) rfl rfl trivial ?_
    refine E_mask [true, true, true, true, true, false, true, true, false] rfl ?_
    exact lk_Machine_jump_j179 hγ this Q v1 v2 v3 v4 v6 s0 (0 : Int32) M h
  · rw [if_neg b21] at h
    refine E_blk (lv' := [some (vr (some (6, this))), some (vi v1), some (vi v2), some (vi v3), some (vi v4), some (vi v5), some (vi v6), some (vi s0), none]) (st' := [vi v5]) (M1 := M) (pc' := 175) (tb_Machine hγ) [.iload 5] (by decide +kernel) rfl rfl trivial ?_
    refine E_goto (off := 4) (tgt := 179) (by decide +kernel) (by decide) ?_
    refine E_mask [true, true, true, true, true, false, true, true, false] rfl ?_
    exact lk_Machine_jump_j179 hγ this Q v1 v2 v3 v4 v6 s0 v5 M h
set_option maxRecDepth 4096 in
theorem lk_Machine_jump_j149 {γ : Gm} (hγ : Gk γ) (this : Nat) (Q : Mem → Prop) (v1 : Int32) (v2 : Int32) (v3 : Int32) (v4 : Int32) (v5 : Int32) (s0 : Int32) (M : Mem) (h : w_Machine_jump_j149 this Q v1 v2 v3 v4 v5 s0 M) : E γ k_Machine_jump 1 149 [some (vr (some (6, this))), some (vi v1), some (vi v2), some (vi v3), some (vi v4), some (vi v5), none, none, none] [vi s0] M (Qv Q) := by
  unfold w_Machine_jump_j149 at h
  refine E_blk (lv' := [some (vr (some (6, this))), some (vi v1), some (vi v2), some (vi v3), some (vi v4), some (vi v5), some (vi s0), none, none]) (st' := [vi s0]) (M1 := M) (pc' := 153) (tb_Machine hγ) [.istore 6, .iload 6] (by decide +kernel) rfl rfl trivial ?_
  refine E_if_eq (off := 11) (tgt := 164) (by decide +kernel) (by decide) (fun b20 => ?_) (fun b20 => ?_)
  · rw [if_pos b20] at h
    refine E_blk (lv' := [some (vr (some (6, this))), some (vi v1), some (vi v2), some (vi v3), some (vi v4), some (vi v5), some (vi s0), none, none]) (st' := [vi v5]) (M1 := M) (pc' := 166) (tb_Machine hγ) [.iload 5] (by decide +kernel) rfl rfl trivial ?_
    refine E_mask [true, true, true, true, true, true, true, false, false] rfl ?_
    exact lk_Machine_jump_j166 hγ this Q v1 v2 v3 v4 v5 s0 v5 M h
  · rw [if_neg b20] at h
    refine E_blk (lv' := [some (vr (some (6, this))), some (vi v1), some (vi v2), some (vi v3), some (vi v4), some (vi v5), some (vi s0), none, none]) (st' := [vi (1 : Int32), vr (some (6, this))]) (M1 := M) (pc' := 158) (tb_Machine hγ) [.aload_n 0, .iconst 1] (by decide +kernel) rfl rfl trivial ?_
    refine E_callV (κ' := k_Machine_number) (As := [vi (1 : Int32)]) (st := []) mv_Machine_number (Or.inl (tbk_mem (j := 9) (k := 46) rfl)) rfl (by decide +kernel) (Nat.le_of_ble_eq_true rfl) (Nat.le_of_ble_eq_true rfl) rfl (by decide) (lk_Machine_number hγ this (1 : Int32) _ M h) (fun _ _ => Qi_r) (fun v M28 hp => Qi_k (R := fun st => E γ k_Machine_jump 1 161 [some (vr (some (6, this))), some (vi v1), some (vi v2), some (vi v3), some (vi v4), some (vi v5), some (vi s0), none, none] st M28 (Qv Q)) hp (fun r29 h => ?_))
    refine E_goto (off := 5) (tgt := 166) (by decide +kernel) (by decide) ?_
    refine E_mask [true, true, true, true, true, true, true, false, false] rfl ?_
    exact lk_Machine_jump_j166 hγ this Q v1 v2 v3 v4 v5 s0 r29 M28 h
set_option maxRecDepth 4096 in
theorem lk_Machine_jump_j144 {γ : Gm} (hγ : Gk γ) (this : Nat) (Q : Mem → Prop) (v1 : Int32) (v2 : Int32) (v3 : Int32) (v4 : Int32) (v5 : Int32) (M : Mem) (h : w_Machine_jump_j144 this Q v1 v2 v3 v4 v5 M) : E γ k_Machine_jump 1 144 [some (vr (some (6, this))), some (vi v1), some (vi v2), some (vi v3), some (vi v4), some (vi v5), none, none, none] [] M (Qv Q) := by
  unfold w_Machine_jump_j144 at h
  refine E_blk (lv' := [some (vr (some (6, this))), some (vi v1), some (vi v2), some (vi v3), some (vi v4), some (vi v5), none, none, none]) (st' := [vi (1 : Int32)]) (M1 := M) (pc' := 145) (tb_Machine hγ) [.iconst 1] (by decide +kernel) rfl rfl trivial ?_
  refine E_goto (off := 4) (tgt := 149) (by decide +kernel) (by decide) ?_
  refine E_mask [true, true, true, true, true, true, false, false, false] rfl ?_
  exact lk_Machine_jump_j149 hγ this Q v1 v2 v3 v4 v5 (1 : Int32) M h
set_option maxRecDepth 4096 in
theorem lk_Machine_jump {γ : Gm} (hγ : Gk γ) (this : Nat) (a1 : Int32) (a2 : Int32) (a3 : Int32) (a4 : Int32) (Q : Mem → Prop) (M : Mem) (h : w_Machine_jump this a1 a2 a3 a4 Q M) : E γ k_Machine_jump 1 0 [some (vr (some (6, this))), some (vi a1), some (vi a2), some (vi a3), some (vi a4), none, none, none, none] [] M (Qv Q) := by
  unfold w_Machine_jump at h
  refine E_blk (lv' := [some (vr (some (6, this))), some (vi a1), some (vi a2), some (vi a3), some (vi a4), none, none, none, none]) (st' := [vi (23 : Int32), vi a3]) (M1 := M) (pc' := 3) (tb_Machine hγ) [.iload_n 3, .bipush 23] (by decide +kernel) rfl rfl trivial ?_
  refine E_icmp_ne (off := 18) (tgt := 21) (by decide +kernel) (by decide) (fun b1 => ?_) (fun b1 => ?_)
  · rw [if_pos b1] at h
    obtain ⟨c2, h⟩ := h
    refine E_blk (lv' := [some (vr (some (6, this))), some (vi a1), some (vi a2), some (vi a3), some (vi a4), none, none, none, none]) (st' := [vi (mI M 67 this a2.toNatClampNeg), vi a1, vr (some (6, this))]) (M1 := M) (pc' := 17) (tb_Machine hγ) [.aload_n 0, .iload_n 1, .aload_n 0, .getfield 84, .getfield 392, .iload_n 2, .iaload] (by decide +kernel) rfl rfl ⟨c2, trivial⟩ ?_
    refine E_callV (κ' := k_Machine_goesTo) (As := [vi a1, vi (mI M 67 this a2.toNatClampNeg)]) (st := []) mv_Machine_goesTo (Or.inl (tbk_mem (j := 9) (k := 70) rfl)) rfl (by decide +kernel) (Nat.le_of_ble_eq_true rfl) (Nat.le_of_ble_eq_true rfl) rfl (by decide) (lk_Machine_goesTo hγ this a1 (mI M 67 this a2.toNatClampNeg) _ M h) (fun _ _ => Qv_r) (fun v M3 hp => Qv_k (R := fun st => E γ k_Machine_jump 1 20 [some (vr (some (6, this))), some (vi a1), some (vi a2), some (vi a3), some (vi a4), none, none, none, none] st M3 (Qv Q)) hp (fun h => ?_))
    exact E_vret rfl (by decide +kernel) h
  · rw [if_neg b1] at h
    refine E_blk (lv' := [some (vr (some (6, this))), some (vi a1), some (vi a2), some (vi a3), some (vi a4), none, none, none, none]) (st' := [vi (0 : Int32), vr (some (6, this))]) (M1 := M) (pc' := 23) (tb_Machine hγ) [.aload_n 0, .iconst 0] (by decide +kernel) rfl rfl trivial ?_
    refine E_callV (κ' := k_Machine_number) (As := [vi (0 : Int32)]) (st := []) mv_Machine_number (Or.inl (tbk_mem (j := 9) (k := 46) rfl)) rfl (by decide +kernel) (Nat.le_of_ble_eq_true rfl) (Nat.le_of_ble_eq_true rfl) rfl (by decide) (lk_Machine_number hγ this (0 : Int32) _ M h) (fun _ _ => Qi_r) (fun v M4 hp => Qi_k (R := fun st => E γ k_Machine_jump 1 26 [some (vr (some (6, this))), some (vi a1), some (vi a2), some (vi a3), some (vi a4), none, none, none, none] st M4 (Qv Q)) hp (fun r5 h => ?_))
    refine E_blk (lv' := [some (vr (some (6, this))), some (vi a1), some (vi a2), some (vi a3), some (vi a4), some (vi r5), none, none, none]) (st' := [vi (40 : Int32), vi a3]) (M1 := M4) (pc' := 31) (tb_Machine hγ) [.istore 5, .iload_n 3, .bipush 40] (by decide +kernel) rfl rfl trivial ?_
    refine E_icmp_ne (off := 90) (tgt := 121) (by decide +kernel) (by decide) (fun b6 => ?_) (fun b6 => ?_)
    · rw [if_pos b6] at h
      obtain ⟨c7, h⟩ := h
      refine E_blk (lv' := [some (vr (some (6, this))), some (vi a1), some (vi a2), some (vi a3), some (vi a4), some (vi r5), some (vl (r5.toInt64 - (mI (sI M4 6 this 34 ((mI M4 6 this 34) - (1 : Int32))) 67 this a2.toNatClampNeg).toInt64)), none, none]) (st' := []) (M1 := (sI M4 6 this 34 ((mI M4 6 this 34) - (1 : Int32)))) (pc' := 60) (tb_Machine hγ) [.aload_n 0, .dup, .getfield 405, .iconst 1, .isub, .putfield 405, .iload 5, .i2l, .aload_n 0, .getfield 84, .getfield 392, .iload_n 2, .iaload, .i2l, .lsub, .lstore 6] (by decide +kernel) rfl rfl ⟨c7, trivial⟩ ?_
      obtain ⟨x8, ex8, h⟩ := h
      rw [← ex8]
      obtain ⟨c9, h⟩ := h
      refine E_blk (lv' := [some (vr (some (6, this))), some (vi a1), some (vi a2), some (vi a3), some (vi a4), some (vi r5), some (vl x8), none, some (vi ((mI (sI M4 6 this 34 ((mI M4 6 this 34) - (1 : Int32))) 69 this a2.toNatClampNeg) - (1 : Int32)))]) (st' := []) (M1 := (sI M4 6 this 34 ((mI M4 6 this 34) - (1 : Int32)))) (pc' := 73) (tb_Machine hγ) [.aload_n 0, .getfield 84, .getfield 467, .iload_n 2, .iaload, .iconst 1, .isub, .istore 8] (by decide +kernel) rfl rfl ⟨c9, trivial⟩ ?_
      obtain ⟨x10, ex10, h⟩ := h
      rw [← ex10]
      obtain ⟨c11, h⟩ := h
      refine E_blk (lv' := [some (vr (some (6, this))), some (vi a1), some (vi a2), some (vi a3), some (vi a4), some (vi r5), some (vl x8), none, some (vi x10)]) (st' := [vi (lg_cmp x8 (0 : Int64)), vi (mI (sI M4 6 this 34 ((mI M4 6 this 34) - (1 : Int32))) 68 this a2.toNatClampNeg), vr (some (74, this)), vi a1, vr (some (6, this))]) (M1 := (sI M4 6 this 34 ((mI M4 6 this 34) - (1 : Int32)))) (pc' := 95) (tb_Machine hγ) [.aload_n 0, .iload_n 1, .aload_n 0, .getfield 84, .getfield 470, .aload_n 0, .getfield 84, .getfield 449, .iload_n 2, .iaload, .lload 6, .lconst 0, .lcmp] (by decide +kernel) rfl rfl ⟨c11, trivial⟩ ?_
      refine E_if_lt (off := 18) (tgt := 113) (by decide +kernel) (by decide) (fun b12 => ?_) (fun b12 => ?_)
      · rw [if_pos b12] at h
        refine E_mask [false, false, false, false, false, false, false, false, true] rfl ?_
        exact lk_Machine_jump_j113 hγ this Q x10 (mI (sI M4 6 this 34 ((mI M4 6 this 34) - (1 : Int32))) 68 this a2.toNatClampNeg) a1 (sI M4 6 this 34 ((mI M4 6 this 34) - (1 : Int32))) h
      · rw [if_neg b12] at h
        refine E_blk (lv' := [some (vr (some (6, this))), some (vi a1), some (vi a2), some (vi a3), some (vi a4), some (vi r5), some (vl x8), none, some (vi x10)]) (st' := [vi (lg_cmp x8 x10.toInt64), vi (mI (sI M4 6 this 34 ((mI M4 6 this 34) - (1 : Int32))) 68 this a2.toNatClampNeg), vr (some (74, this)), vi a1, vr (some (6, this))]) (M1 := (sI M4 6 this 34 ((mI M4 6 this 34) - (1 : Int32)))) (pc' := 104) (tb_Machine hγ) [.lload 6, .iload 8, .i2l, .lcmp] (by decide +kernel) rfl rfl trivial ?_
        refine E_if_ge (off := 9) (tgt := 113) (by decide +kernel) (by decide) (fun b15 => ?_) (fun b15 => ?_)
        · rw [if_pos b15] at h
          refine E_mask [false, false, false, false, false, false, false, false, true] rfl ?_
          exact lk_Machine_jump_j113 hγ this Q x10 (mI (sI M4 6 this 34 ((mI M4 6 this 34) - (1 : Int32))) 68 this a2.toNatClampNeg) a1 (sI M4 6 this 34 ((mI M4 6 this 34) - (1 : Int32))) h
        · rw [if_neg b15] at h
          refine E_blk (lv' := [some (vr (some (6, this))), some (vi a1), some (vi a2), some (vi a3), some (vi a4), some (vi r5), some (vl x8), none, some (vi x10)]) (st' := [vi x8.toInt32, vi (mI (sI M4 6 this 34 ((mI M4 6 this 34) - (1 : Int32))) 68 this a2.toNatClampNeg), vr (some (74, this)), vi a1, vr (some (6, this))]) (M1 := (sI M4 6 this 34 ((mI M4 6 this 34) - (1 : Int32)))) (pc' := 110) (tb_Machine hγ) [.lload 6, .l2i] (by decide +kernel) rfl rfl trivial ?_
          refine E_goto (off := 5) (tgt := 115) (by decide +kernel) (by decide) ?_
          refine E_mask [false, false, false, false, false, false, false, false, false] rfl ?_
          exact lk_Machine_jump_j115 hγ this Q x8.toInt32 (mI (sI M4 6 this 34 ((mI M4 6 this 34) - (1 : Int32))) 68 this a2.toNatClampNeg) a1 (sI M4 6 this 34 ((mI M4 6 this 34) - (1 : Int32))) h
    · rw [if_neg b6] at h
      refine E_blk (lv' := [some (vr (some (6, this))), some (vi a1), some (vi a2), some (vi a3), some (vi a4), some (vi r5), none, none, none]) (st' := [vi (35 : Int32), vi (30 : Int32), vi a3]) (M1 := M4) (pc' := 126) (tb_Machine hγ) [.iload_n 3, .bipush 30, .bipush 35] (by decide +kernel) rfl rfl trivial ?_
      refine E_callS (κ' := k_Works_isIn) (As := [vi a3, vi (30 : Int32), vi (35 : Int32)]) (st := []) ms_Works_isIn (Or.inr ⟨"ClassWorks", (tbk_mem (j := 9) (k := 28) rfl)⟩) rfl (by decide +kernel) (Nat.le_of_ble_eq_true rfl) (Nat.le_of_ble_eq_true rfl) rfl (by decide) (lk_Works_isIn hγ a3 (30 : Int32) (35 : Int32) _ M4 h) (fun _ _ => Qi_r) (fun v M16 hp => Qi_k (R := fun st => E γ k_Machine_jump 1 129 [some (vr (some (6, this))), some (vi a1), some (vi a2), some (vi a3), some (vi a4), some (vi r5), none, none, none] st M16 (Qv Q)) hp (fun r17 h => ?_))
      refine E_if_ne (off := 15) (tgt := 144) (by decide +kernel) (by decide) (fun b18 => ?_) (fun b18 => ?_)
      · rw [if_pos b18] at h
        refine E_blk (lv' := [some (vr (some (6, this))), some (vi a1), some (vi a2), some (vi a3), some (vi a4), some (vi r5), none, none, none]) (st' := [vi (38 : Int32), vi a3]) (M1 := M16) (pc' := 135) (tb_Machine hγ) [.iload_n 3, .bipush 38] (by decide +kernel) rfl rfl trivial ?_
        refine E_icmp_eq (off := 9) (tgt := 144) (by decide +kernel) (by decide) (fun b19 => ?_) (fun b19 => ?_)
        · rw [if_pos b19] at h
          refine E_mask [true, true, true, true, true, true, false, false, false] rfl ?_
          exact lk_Machine_jump_j144 hγ this Q a1 a2 a3 a4 r5 M16 h
        · rw [if_neg b19] at h
          refine E_blk (lv' := [some (vr (some (6, this))), some (vi a1), some (vi a2), some (vi a3), some (vi a4), some (vi r5), none, none, none]) (st' := [vi (39 : Int32), vi a3]) (M1 := M16) (pc' := 141) (tb_Machine hγ) [.iload_n 3, .bipush 39] (by decide +kernel) rfl rfl trivial ?_
          refine E_icmp_ne (off := 7) (tgt := 148) (by decide +kernel) (by decide) (fun b30 => ?_) (fun b30 => ?_)
          · rw [if_pos b30] at h
            refine E_mask [true, true, true, true, true, true, false, false, false] rfl ?_
            exact lk_Machine_jump_j144 hγ this Q a1 a2 a3 a4 r5 M16 h
          · rw [if_neg b30] at h
            refine E_blk (lv' := [some (vr (some (6, this))), some (vi a1), some (vi a2), some (vi a3), some (vi a4), some (vi r5), none, none, none]) (st' := [vi (0 : Int32)]) (M1 := M16) (pc' := 149) (tb_Machine hγ) [.iconst 0] (by decide +kernel) rfl rfl trivial ?_
            refine E_mask [true, true, true, true, true, true, false, false, false] rfl ?_
            exact lk_Machine_jump_j149 hγ this Q a1 a2 a3 a4 r5 (0 : Int32) M16 h
      · rw [if_neg b18] at h
        refine E_mask [true, true, true, true, true, true, false, false, false] rfl ?_
        exact lk_Machine_jump_j144 hγ this Q a1 a2 a3 a4 r5 M16 h
def w_Machine_makes_j74 (this : Nat) (Q : Int32 → Mem → Prop)  (M : Mem) : Prop :=
  w_Machine_fail this (9 : Int32) (0 : Int32) (fun M6 => Q (0 : Int32) M6) M
def w_Machine_makes_j236 (this : Nat) (Q : Int32 → Mem → Prop) (v3 : Int32) (s0 : Int32) (M : Mem) : Prop :=
  w_Machine_comes this s0 v3 (1 : Int32) (fun M23 => Q (1 : Int32) M23) M
def w_Machine_makes_L189 (this : Nat) (Q : Int32 → Mem → Prop) : Nat → Int32 → Int32 → Int32 → Int32 → Mem → Prop
  | 0, _, _, _, _, _ => False
  | n + 1, v1, v2, v3, v4, M => if v2 ≤ v4 then (if v1 = (41 : Int32) then (w_Machine_makes_j236 this Q v3 (0 : Int32) (sI M 6 this 7 ((mI M 6 this 7) + v2))) else (w_Machine_makes_j236 this Q v3 (1 : Int32) (sI M 6 this 7 ((mI M 6 this 7) + v2)))) else (vp_in ((mI M 6 this 7) + v4) (mL M 84 this) ∧ (w_Machine_makes_L189 this Q n) v1 v2 v3 (v4 + (1 : Int32)) (sI M 84 this ((mI M 6 this 7) + v4).toNatClampNeg (0 : Int32)))
def w_Machine_makes_j161 (this : Nat) (Q : Int32 → Mem → Prop) (v1 : Int32) (v2 : Int32) (v3 : Int32) (s0 : Int32) (s1 : Int32) (M : Mem) : Prop :=
  vp_in s1 (mL M 79 this) ∧ vp_in v3 (mL (sI M 79 this s1.toNatClampNeg s0) 80 this) ∧ ∃ M17, M17 = (sI (sI M 79 this s1.toNatClampNeg s0) 80 this v3.toNatClampNeg (mI (sI M 79 this s1.toNatClampNeg s0) 6 this 7)) ∧ vp_in v3 (mL M17 81 this) ∧ vp_in v3 (mL (sI M17 81 this v3.toNatClampNeg v2) 301 (6 * this + 0)) ∧ ∃ M20, M20 = (sI (sI M17 81 this v3.toNatClampNeg v2) 301 (6 * this + 0) v3.toNatClampNeg (0 : Int32)) ∧ ∃ n25 : Nat, w_Machine_makes_L189 this Q n25 v1 v2 v3 (0 : Int32) M20
def w_Machine_makes_L93 (this : Nat) (Q : Int32 → Mem → Prop) : Nat → Int32 → Int32 → Mem → Prop
  | 0, _, _, _ => False
  | n + 1, v1, v2, M => vp_in (mI M 6 this 14) (mL M 512 this) ∧ if (mI M 512 this (mI M 6 this 14).toNatClampNeg) = 0 then (vp_in (mI M 6 this 14) (mL M 512 this) ∧ w_JMath_max (mI (sI M 512 this (mI M 6 this 14).toNatClampNeg ((1 : Int32) &&& 1)) 6 this 15) (mI M 6 this 14) (fun r13 M12 => if v1 = (41 : Int32) then (w_Machine_makes_j161 this Q v1 v2 (mI M 6 this 14) (mI (sI M12 6 this 15 r13) 6 this 36) (mI M 6 this 14) (sI M12 6 this 15 r13)) else (w_Machine_makes_j161 this Q v1 v2 (mI M 6 this 14) (-1 : Int32) (mI M 6 this 14) (sI M12 6 this 15 r13))) (sI M 512 this (mI M 6 this 14).toNatClampNeg ((1 : Int32) &&& 1))) else ((w_Machine_makes_L93 this Q n) v1 v2 (sI M 6 this 14 ((mI M 6 this 14) + (1 : Int32))))
def w_Machine_makes_j52 (this : Nat) (Q : Int32 → Mem → Prop) (v1 : Int32) (v2 : Int32) (M : Mem) : Prop :=
  if (mI M 6 this 6) = (800 : Int32) then (w_Machine_makes_j74 this Q  M) else (if ((mI M 6 this 7) + v2) ≤ (4000 : Int32) then (∃ n26 : Nat, w_Machine_makes_L93 this Q n26 v1 v2 (sI M 6 this 6 ((mI M 6 this 6) + (1 : Int32)))) else (w_Machine_makes_j74 this Q  M))
def w_Machine_makes_j26 (this : Nat) (Q : Int32 → Mem → Prop) (v1 : Int32) (s0 : Int32) (M : Mem) : Prop :=
  if 0 ≤ s0 then (if v1 = (42 : Int32) then (if (300 : Int32) < s0 then (w_Machine_makes_j74 this Q  M) else (w_Machine_makes_j52 this Q v1 s0 M)) else (w_Machine_makes_j52 this Q v1 s0 M)) else (w_Machine_fail this (5 : Int32) (0 : Int32) (fun M27 => Q (0 : Int32) M27) M)
def w_Machine_makes (this : Nat) (a1 : Int32) (Q : Int32 → Mem → Prop) (M : Mem) : Prop :=
  if a1 = (41 : Int32) then (vp_in (mI M 6 this 36) (mL M 48 this) ∧ w_Machine_makes_j26 this Q a1 (mI M 48 this (mI M 6 this 36).toNatClampNeg) M) else (w_Machine_number this (0 : Int32) (fun r29 M28 => w_Machine_makes_j26 this Q a1 r29 M28) M)
set_option maxRecDepth 4096 in
theorem lk_Machine_makes_j74 {γ : Gm} (hγ : Gk γ) (this : Nat) (Q : Int32 → Mem → Prop)  (M : Mem) (h : w_Machine_makes_j74 this Q  M) : E γ k_Machine_makes 125 74 [some (vr (some (6, this))), none, none, none, none] [] M (Qi Q) := by
  unfold w_Machine_makes_j74 at h
  refine E_blk (lv' := [some (vr (some (6, this))), none, none, none, none]) (st' := [vi (0 : Int32), vi (9 : Int32), vr (some (6, this))]) (M1 := M) (pc' := 78) (tb_Machine hγ) [.aload_n 0, .bipush 9, .iconst 0] (by decide +kernel) rfl rfl trivial ?_
  refine E_callV (κ' := k_Machine_fail) (As := [vi (9 : Int32), vi (0 : Int32)]) (st := []) mv_Machine_fail (Or.inl (tbk_mem (j := 8) (k := 190) rfl)) rfl (by decide +kernel) (Nat.le_of_ble_eq_true rfl) (Nat.le_of_ble_eq_true rfl) rfl (by decide) (lk_Machine_fail hγ this (9 : Int32) (0 : Int32) _ M h) (fun _ _ => Qv_r) (fun v M6 hp => Qv_k (R := fun st => E γ k_Machine_makes 125 81 [some (vr (some (6, this))), none, none, none, none] st M6 (Qi Q)) hp (fun h => ?_))
  refine E_blk (lv' := [some (vr (some (6, this))), none, none, none, none]) (st' := [vi (0 : Int32)]) (M1 := M6) (pc' := 82) (tb_Machine hγ) [.iconst 0] (by decide +kernel) rfl rfl trivial ?_
  exact E_zret rfl (Or.inl rfl) (by decide +kernel) h
set_option maxRecDepth 4096 in
theorem lk_Machine_makes_j236 {γ : Gm} (hγ : Gk γ) (this : Nat) (Q : Int32 → Mem → Prop) (v3 : Int32) (s0 : Int32) (M : Mem) (h : w_Machine_makes_j236 this Q v3 s0 M) : E γ k_Machine_makes 125 236 [none, none, none, some (vi v3), none] [vi s0, vr (some (6, this))] M (Qi Q) := by
  unfold w_Machine_makes_j236 at h
  refine E_blk (lv' := [none, none, none, some (vi v3), none]) (st' := [vi (1 : Int32), vi v3, vi s0, vr (some (6, this))]) (M1 := M) (pc' := 238) (tb_Machine hγ) [.iload_n 3, .iconst 1] (by decide +kernel) rfl rfl trivial ?_
  refine E_callV (κ' := k_Machine_comes) (As := [vi s0, vi v3, vi (1 : Int32)]) (st := []) mv_Machine_comes (Or.inl (tbk_mem (j := 9) (k := 62) rfl)) rfl (by decide +kernel) (Nat.le_of_ble_eq_true rfl) (Nat.le_of_ble_eq_true rfl) rfl (by decide) (lk_Machine_comes hγ this s0 v3 (1 : Int32) _ M h) (fun _ _ => Qv_r) (fun v M23 hp => Qv_k (R := fun st => E γ k_Machine_makes 125 241 [none, none, none, some (vi v3), none] st M23 (Qi Q)) hp (fun h => ?_))
  refine E_blk (lv' := [none, none, none, some (vi v3), none]) (st' := [vi (1 : Int32)]) (M1 := M23) (pc' := 242) (tb_Machine hγ) [.iconst 1] (by decide +kernel) rfl rfl trivial ?_
  exact E_zret rfl (Or.inr rfl) (by decide +kernel) h
set_option maxRecDepth 4096 in
theorem lk_Machine_makes_L189 {γ : Gm} (hγ : Gk γ) (this : Nat) (Q : Int32 → Mem → Prop) : ∀ (n : Nat) (v1 : Int32) (v2 : Int32) (v3 : Int32) (v4 : Int32) (M : Mem), w_Machine_makes_L189 this Q n v1 v2 v3 v4 M → E γ k_Machine_makes 125 189 [some (vr (some (6, this))), some (vi v1), some (vi v2), some (vi v3), some (vi v4)] [] M (Qi Q) := by
  intro n
  induction n with
  | zero => intro v1 v2 v3 v4 M h; exact h.elim
  | succ n ih =>
    intro v1 v2 v3 v4 M h
    unfold w_Machine_makes_L189 at h
    refine E_blk (lv' := [some (vr (some (6, this))), some (vi v1), some (vi v2), some (vi v3), some (vi v4)]) (st' := [vi v2, vi v4]) (M1 := M) (pc' := 192) (tb_Machine hγ) [.iload 4, .iload_n 2] (by decide +kernel) rfl rfl trivial ?_
    refine E_icmp_ge (off := 22) (tgt := 214) (by decide +kernel) (by decide) (fun b21 => ?_) (fun b21 => ?_)
    · rw [if_pos b21] at h
      refine E_blk (lv' := [some (vr (some (6, this))), some (vi v1), some (vi v2), some (vi v3), some (vi v4)]) (st' := [vi (41 : Int32), vi v1, vr (some (6, this))]) (M1 := (sI M 6 this 7 ((mI M 6 this 7) + v2))) (pc' := 228) (tb_Machine hγ) [.aload_n 0, .dup, .getfield 104, .iload_n 2, .iadd, .putfield 104, .aload_n 0, .iload_n 1, .bipush 41] (by decide +kernel) rfl rfl trivial ?_
      refine E_icmp_ne (off := 7) (tgt := 235) (by decide +kernel) (by decide) (fun b22 => ?_) (fun b22 => ?_)
      · rw [if_pos b22] at h
        refine E_blk (lv' := [some (vr (some (6, this))), some (vi v1), some (vi v2), some (vi v3), some (vi v4)]) (st' := [vi (0 : Int32), vr (some (6, this))]) (M1 := (sI M 6 this 7 ((mI M 6 this 7) + v2))) (pc' := 232) (tb_Machine hγ) [.iconst 0] (by decide +kernel) rfl rfl trivial ?_
        refine E_goto (off := 4) (tgt := 236) (by decide +kernel) (by decide) ?_
        refine E_mask [false, false, false, true, false] rfl ?_
        exact lk_Machine_makes_j236 hγ this Q v3 (0 : Int32) (sI M 6 this 7 ((mI M 6 this 7) + v2)) h
      · rw [if_neg b22] at h
        refine E_blk (lv' := [some (vr (some (6, this))), some (vi v1), some (vi v2), some (vi v3), some (vi v4)]) (st' := [vi (1 : Int32), vr (some (6, this))]) (M1 := (sI M 6 this 7 ((mI M 6 this 7) + v2))) (pc' := 236) (tb_Machine hγ) [.iconst 1] (by decide +kernel) rfl rfl trivial ?_
        refine E_mask [false, false, false, true, false] rfl ?_
        exact lk_Machine_makes_j236 hγ this Q v3 (1 : Int32) (sI M 6 this 7 ((mI M 6 this 7) + v2)) h
    · rw [if_neg b21] at h
      obtain ⟨c24, h⟩ := h
      refine E_blk (lv' := [some (vr (some (6, this))), some (vi v1), some (vi v2), some (vi v3), some (vi (v4 + (1 : Int32)))]) (st' := []) (M1 := (sI M 84 this ((mI M 6 this 7) + v4).toNatClampNeg (0 : Int32))) (pc' := 211) (tb_Machine hγ) [.aload_n 0, .getfield 57, .aload_n 0, .getfield 104, .iload 4, .iadd, .iconst 0, .iastore, .iinc 4 1] (by decide +kernel) rfl rfl ⟨c24, trivial⟩ ?_
      refine E_goto (off := -22) (tgt := 189) (by decide +kernel) (by decide) ?_
      refine E_mask [true, true, true, true, true] rfl ?_
      exact ih v1 v2 v3 (v4 + (1 : Int32)) (sI M 84 this ((mI M 6 this 7) + v4).toNatClampNeg (0 : Int32)) h
set_option maxRecDepth 4096 in
theorem lk_Machine_makes_j161 {γ : Gm} (hγ : Gk γ) (this : Nat) (Q : Int32 → Mem → Prop) (v1 : Int32) (v2 : Int32) (v3 : Int32) (s0 : Int32) (s1 : Int32) (M : Mem) (h : w_Machine_makes_j161 this Q v1 v2 v3 s0 s1 M) : E γ k_Machine_makes 125 161 [some (vr (some (6, this))), some (vi v1), some (vi v2), some (vi v3), none] [vi s0, vi s1, vr (some (79, this))] M (Qi Q) := by
  unfold w_Machine_makes_j161 at h
  obtain ⟨c15, c16, h⟩ := h
  refine E_blk (lv' := [some (vr (some (6, this))), some (vi v1), some (vi v2), some (vi v3), none]) (st' := []) (M1 := (sI (sI M 79 this s1.toNatClampNeg s0) 80 this v3.toNatClampNeg (mI (sI M 79 this s1.toNatClampNeg s0) 6 this 7))) (pc' := 172) (tb_Machine hγ) [.iastore, .aload_n 0, .getfield 32, .iload_n 3, .aload_n 0, .getfield 104, .iastore] (by decide +kernel) rfl rfl ⟨c15, c16, trivial⟩ ?_
  obtain ⟨M17, eM17, h⟩ := h
  rw [← eM17]
  obtain ⟨c18, c19, h⟩ := h
  refine E_blk (lv' := [some (vr (some (6, this))), some (vi v1), some (vi v2), some (vi v3), none]) (st' := []) (M1 := (sI (sI M17 81 this v3.toNatClampNeg v2) 301 (6 * this + 0) v3.toNatClampNeg (0 : Int32))) (pc' := 186) (tb_Machine hγ) [.aload_n 0, .getfield 35, .iload_n 3, .iload_n 2, .iastore, .aload_n 0, .getfield 38, .iload_n 3, .iconst 0, .iastore] (by decide +kernel) rfl rfl ⟨c18, c19, trivial⟩ ?_
  obtain ⟨M20, eM20, h⟩ := h
  rw [← eM20]
  refine E_blk (lv' := [some (vr (some (6, this))), some (vi v1), some (vi v2), some (vi v3), some (vi (0 : Int32))]) (st' := []) (M1 := M20) (pc' := 189) (tb_Machine hγ) [.iconst 0, .istore 4] (by decide +kernel) rfl rfl trivial ?_
  obtain ⟨n25, h⟩ := h
  refine E_mask [true, true, true, true, true] rfl ?_
  exact lk_Machine_makes_L189 hγ this Q n25 v1 v2 v3 (0 : Int32) M20 h
set_option maxRecDepth 4096 in
theorem lk_Machine_makes_L93 {γ : Gm} (hγ : Gk γ) (this : Nat) (Q : Int32 → Mem → Prop) : ∀ (n : Nat) (v1 : Int32) (v2 : Int32) (M : Mem), w_Machine_makes_L93 this Q n v1 v2 M → E γ k_Machine_makes 125 93 [some (vr (some (6, this))), some (vi v1), some (vi v2), none, none] [] M (Qi Q) := by
  intro n
  induction n with
  | zero => intro v1 v2 M h; exact h.elim
  | succ n ih =>
    intro v1 v2 M h
    unfold w_Machine_makes_L93 at h
    obtain ⟨c9, h⟩ := h
    refine E_blk (lv' := [some (vr (some (6, this))), some (vi v1), some (vi v2), none, none]) (st' := [vi (mI M 512 this (mI M 6 this 14).toNatClampNeg)]) (M1 := M) (pc' := 102) (tb_Machine hγ) [.aload_n 0, .getfield 44, .aload_n 0, .getfield 113, .baload] (by decide +kernel) rfl rfl ⟨c9, trivial⟩ ?_
    refine E_if_eq (off := 16) (tgt := 118) (by decide +kernel) (by decide) (fun b10 => ?_) (fun b10 => ?_)
    · rw [if_pos b10] at h
      obtain ⟨c11, h⟩ := h
      refine E_blk (lv' := [some (vr (some (6, this))), some (vi v1), some (vi v2), some (vi (mI M 6 this 14)), none]) (st' := [vi (mI M 6 this 14), vi (mI (sI M 512 this (mI M 6 this 14).toNatClampNeg ((1 : Int32) &&& 1)) 6 this 15), vr (some (6, this))]) (M1 := (sI M 512 this (mI M 6 this 14).toNatClampNeg ((1 : Int32) &&& 1))) (pc' := 136) (tb_Machine hγ) [.aload_n 0, .getfield 113, .istore_n 3, .aload_n 0, .getfield 44, .iload_n 3, .iconst 1, .bastore, .aload_n 0, .aload_n 0, .getfield 116, .iload_n 3] (by decide +kernel) rfl rfl ⟨c11, trivial⟩ ?_
      refine E_callS (κ' := k_JMath_max) (As := [vi (mI (sI M 512 this (mI M 6 this 14).toNatClampNeg ((1 : Int32) &&& 1)) 6 this 15), vi (mI M 6 this 14)]) (st := [vr (some (6, this))]) ms_JMath_max (Or.inl (tbk_mem (j := 9) (k := 90) rfl)) rfl (by decide +kernel) (Nat.le_of_ble_eq_true rfl) (Nat.le_of_ble_eq_true rfl) rfl (by decide) (lk_JMath_max hγ (mI (sI M 512 this (mI M 6 this 14).toNatClampNeg ((1 : Int32) &&& 1)) 6 this 15) (mI M 6 this 14) _ (sI M 512 this (mI M 6 this 14).toNatClampNeg ((1 : Int32) &&& 1)) h) (fun _ _ => Qi_r) (fun v M12 hp => Qi_k (R := fun st => E γ k_Machine_makes 125 139 [some (vr (some (6, this))), some (vi v1), some (vi v2), some (vi (mI M 6 this 14)), none] st M12 (Qi Q)) hp (fun r13 h => ?_))
      refine E_blk (lv' := [some (vr (some (6, this))), some (vi v1), some (vi v2), some (vi (mI M 6 this 14)), none]) (st' := [vi (41 : Int32), vi v1, vi (mI M 6 this 14), vr (some (79, this))]) (M1 := (sI M12 6 this 15 r13)) (pc' := 150) (tb_Machine hγ) [.putfield 116, .aload_n 0, .getfield 28, .iload_n 3, .iload_n 1, .bipush 41] (by decide +kernel) rfl rfl trivial ?_
      refine E_icmp_ne (off := 10) (tgt := 160) (by decide +kernel) (by decide) (fun b14 => ?_) (fun b14 => ?_)
      · rw [if_pos b14] at h
        refine E_blk (lv' := [some (vr (some (6, this))), some (vi v1), some (vi v2), some (vi (mI M 6 this 14)), none]) (st' := [vi (mI (sI M12 6 this 15 r13) 6 this 36), vi (mI M 6 this 14), vr (some (79, this))]) (M1 := (sI M12 6 this 15 r13)) (pc' := 157) (tb_Machine hγ) [.aload_n 0, .getfield 418] (by decide +kernel) rfl rfl trivial ?_
        refine E_goto (off := 4) (tgt := 161) (by decide +kernel) (by decide) ?_
        refine E_mask [true, true, true, true, false] rfl ?_
        exact lk_Machine_makes_j161 hγ this Q v1 v2 (mI M 6 this 14) (mI (sI M12 6 this 15 r13) 6 this 36) (mI M 6 this 14) (sI M12 6 this 15 r13) h
      · rw [if_neg b14] at h
        refine E_blk (lv' := [some (vr (some (6, this))), some (vi v1), some (vi v2), some (vi (mI M 6 this 14)), none]) (st' := [vi (-1 : Int32), vi (mI M 6 this 14), vr (some (79, this))]) (M1 := (sI M12 6 this 15 r13)) (pc' := 161) (tb_Machine hγ) [.iconst (.negSucc 0)] (by decide +kernel) rfl rfl trivial ?_
        refine E_mask [true, true, true, true, false] rfl ?_
        exact lk_Machine_makes_j161 hγ this Q v1 v2 (mI M 6 this 14) (-1 : Int32) (mI M 6 this 14) (sI M12 6 this 15 r13) h
    · rw [if_neg b10] at h
      refine E_blk (lv' := [some (vr (some (6, this))), some (vi v1), some (vi v2), none, none]) (st' := []) (M1 := (sI M 6 this 14 ((mI M 6 this 14) + (1 : Int32)))) (pc' := 115) (tb_Machine hγ) [.aload_n 0, .dup, .getfield 113, .iconst 1, .iadd, .putfield 113] (by decide +kernel) rfl rfl trivial ?_
      refine E_goto (off := -22) (tgt := 93) (by decide +kernel) (by decide) ?_
      refine E_mask [true, true, true, false, false] rfl ?_
      exact ih v1 v2 (sI M 6 this 14 ((mI M 6 this 14) + (1 : Int32))) h
set_option maxRecDepth 4096 in
theorem lk_Machine_makes_j52 {γ : Gm} (hγ : Gk γ) (this : Nat) (Q : Int32 → Mem → Prop) (v1 : Int32) (v2 : Int32) (M : Mem) (h : w_Machine_makes_j52 this Q v1 v2 M) : E γ k_Machine_makes 125 52 [some (vr (some (6, this))), some (vi v1), some (vi v2), none, none] [] M (Qi Q) := by
  unfold w_Machine_makes_j52 at h
  refine E_blk (lv' := [some (vr (some (6, this))), some (vi v1), some (vi v2), none, none]) (st' := [vi (800 : Int32), vi (mI M 6 this 6)]) (M1 := M) (pc' := 59) (tb_Machine hγ) [.aload_n 0, .getfield 101, .sipush 800] (by decide +kernel) rfl rfl trivial ?_
  refine E_icmp_eq (off := 15) (tgt := 74) (by decide +kernel) (by decide) (fun b7 => ?_) (fun b7 => ?_)
  · rw [if_pos b7] at h
    refine E_mask [true, false, false, false, false] rfl ?_
    exact lk_Machine_makes_j74 hγ this Q  M h
  · rw [if_neg b7] at h
    refine E_blk (lv' := [some (vr (some (6, this))), some (vi v1), some (vi v2), none, none]) (st' := [vi (4000 : Int32), vi ((mI M 6 this 7) + v2)]) (M1 := M) (pc' := 71) (tb_Machine hγ) [.aload_n 0, .getfield 104, .iload_n 2, .iadd, .sipush 4000] (by decide +kernel) rfl rfl trivial ?_
    refine E_icmp_le (off := 12) (tgt := 83) (by decide +kernel) (by decide) (fun b8 => ?_) (fun b8 => ?_)
    · rw [if_pos b8] at h
      refine E_blk (lv' := [some (vr (some (6, this))), some (vi v1), some (vi v2), none, none]) (st' := []) (M1 := (sI M 6 this 6 ((mI M 6 this 6) + (1 : Int32)))) (pc' := 93) (tb_Machine hγ) [.aload_n 0, .dup, .getfield 101, .iconst 1, .iadd, .putfield 101] (by decide +kernel) rfl rfl trivial ?_
      obtain ⟨n26, h⟩ := h
      refine E_mask [true, true, true, false, false] rfl ?_
      exact lk_Machine_makes_L93 hγ this Q n26 v1 v2 (sI M 6 this 6 ((mI M 6 this 6) + (1 : Int32))) h
    · rw [if_neg b8] at h
      refine E_mask [true, false, false, false, false] rfl ?_
      exact lk_Machine_makes_j74 hγ this Q  M h
set_option maxRecDepth 4096 in
theorem lk_Machine_makes_j26 {γ : Gm} (hγ : Gk γ) (this : Nat) (Q : Int32 → Mem → Prop) (v1 : Int32) (s0 : Int32) (M : Mem) (h : w_Machine_makes_j26 this Q v1 s0 M) : E γ k_Machine_makes 125 26 [some (vr (some (6, this))), some (vi v1), none, none, none] [vi s0] M (Qi Q) := by
  unfold w_Machine_makes_j26 at h
  refine E_blk (lv' := [some (vr (some (6, this))), some (vi v1), some (vi s0), none, none]) (st' := [vi s0]) (M1 := M) (pc' := 28) (tb_Machine hγ) [.istore_n 2, .iload_n 2] (by decide +kernel) rfl rfl trivial ?_
  refine E_if_ge (off := 11) (tgt := 39) (by decide +kernel) (by decide) (fun b3 => ?_) (fun b3 => ?_)
  · rw [if_pos b3] at h
    refine E_blk (lv' := [some (vr (some (6, this))), some (vi v1), some (vi s0), none, none]) (st' := [vi (42 : Int32), vi v1]) (M1 := M) (pc' := 42) (tb_Machine hγ) [.iload_n 1, .bipush 42] (by decide +kernel) rfl rfl trivial ?_
    refine E_icmp_ne (off := 10) (tgt := 52) (by decide +kernel) (by decide) (fun b4 => ?_) (fun b4 => ?_)
    · rw [if_pos b4] at h
      refine E_blk (lv' := [some (vr (some (6, this))), some (vi v1), some (vi s0), none, none]) (st' := [vi (300 : Int32), vi s0]) (M1 := M) (pc' := 49) (tb_Machine hγ) [.iload_n 2, .sipush 300] (by decide +kernel) rfl rfl trivial ?_
      refine E_icmp_gt (off := 25) (tgt := 74) (by decide +kernel) (by decide) (fun b5 => ?_) (fun b5 => ?_)
      · rw [if_pos b5] at h
        refine E_mask [true, false, false, false, false] rfl ?_
        exact lk_Machine_makes_j74 hγ this Q  M h
      · rw [if_neg b5] at h
        refine E_mask [true, true, true, false, false] rfl ?_
        exact lk_Machine_makes_j52 hγ this Q v1 s0 M h
    · rw [if_neg b4] at h
      refine E_mask [true, true, true, false, false] rfl ?_
      exact lk_Machine_makes_j52 hγ this Q v1 s0 M h
  · rw [if_neg b3] at h
    refine E_blk (lv' := [some (vr (some (6, this))), some (vi v1), some (vi s0), none, none]) (st' := [vi (0 : Int32), vi (5 : Int32), vr (some (6, this))]) (M1 := M) (pc' := 34) (tb_Machine hγ) [.aload_n 0, .iconst 5, .iconst 0] (by decide +kernel) rfl rfl trivial ?_
    refine E_callV (κ' := k_Machine_fail) (As := [vi (5 : Int32), vi (0 : Int32)]) (st := []) mv_Machine_fail (Or.inl (tbk_mem (j := 8) (k := 190) rfl)) rfl (by decide +kernel) (Nat.le_of_ble_eq_true rfl) (Nat.le_of_ble_eq_true rfl) rfl (by decide) (lk_Machine_fail hγ this (5 : Int32) (0 : Int32) _ M h) (fun _ _ => Qv_r) (fun v M27 hp => Qv_k (R := fun st => E γ k_Machine_makes 125 37 [some (vr (some (6, this))), some (vi v1), some (vi s0), none, none] st M27 (Qi Q)) hp (fun h => ?_))
    refine E_blk (lv' := [some (vr (some (6, this))), some (vi v1), some (vi s0), none, none]) (st' := [vi (0 : Int32)]) (M1 := M27) (pc' := 38) (tb_Machine hγ) [.iconst 0] (by decide +kernel) rfl rfl trivial ?_
    exact E_zret rfl (Or.inl rfl) (by decide +kernel) h
set_option maxRecDepth 4096 in
theorem lk_Machine_makes {γ : Gm} (hγ : Gk γ) (this : Nat) (a1 : Int32) (Q : Int32 → Mem → Prop) (M : Mem) (h : w_Machine_makes this a1 Q M) : E γ k_Machine_makes 125 0 [some (vr (some (6, this))), some (vi a1), none, none, none] [] M (Qi Q) := by
  unfold w_Machine_makes at h
  refine E_blk (lv' := [some (vr (some (6, this))), some (vi a1), none, none, none]) (st' := [vi (41 : Int32), vi a1]) (M1 := M) (pc' := 3) (tb_Machine hγ) [.iload_n 1, .bipush 41] (by decide +kernel) rfl rfl trivial ?_
  refine E_icmp_ne (off := 18) (tgt := 21) (by decide +kernel) (by decide) (fun b1 => ?_) (fun b1 => ?_)
  · rw [if_pos b1] at h
    obtain ⟨c2, h⟩ := h
    refine E_blk (lv' := [some (vr (some (6, this))), some (vi a1), none, none, none]) (st' := [vi (mI M 48 this (mI M 6 this 36).toNatClampNeg)]) (M1 := M) (pc' := 18) (tb_Machine hγ) [.aload_n 0, .getfield 84, .getfield 485, .aload_n 0, .getfield 418, .iaload] (by decide +kernel) rfl rfl ⟨c2, trivial⟩ ?_
    refine E_goto (off := 8) (tgt := 26) (by decide +kernel) (by decide) ?_
    refine E_mask [true, true, false, false, false] rfl ?_
    exact lk_Machine_makes_j26 hγ this Q a1 (mI M 48 this (mI M 6 this 36).toNatClampNeg) M h
  · rw [if_neg b1] at h
    refine E_blk (lv' := [some (vr (some (6, this))), some (vi a1), none, none, none]) (st' := [vi (0 : Int32), vr (some (6, this))]) (M1 := M) (pc' := 23) (tb_Machine hγ) [.aload_n 0, .iconst 0] (by decide +kernel) rfl rfl trivial ?_
    refine E_callV (κ' := k_Machine_number) (As := [vi (0 : Int32)]) (st := []) mv_Machine_number (Or.inl (tbk_mem (j := 9) (k := 46) rfl)) rfl (by decide +kernel) (Nat.le_of_ble_eq_true rfl) (Nat.le_of_ble_eq_true rfl) rfl (by decide) (lk_Machine_number hγ this (0 : Int32) _ M h) (fun _ _ => Qi_r) (fun v M28 hp => Qi_k (R := fun st => E γ k_Machine_makes 125 26 [some (vr (some (6, this))), some (vi a1), none, none, none] st M28 (Qi Q)) hp (fun r29 h => ?_))
    refine E_mask [true, true, false, false, false] rfl ?_
    exact lk_Machine_makes_j26 hγ this Q a1 r29 M28 h
def w_Machine_lock_j87 (this : Nat) (Q : Int32 → Mem → Prop)  (M : Mem) : Prop :=
  w_Machine_fail this (7 : Int32) (0 : Int32) (fun M7 => Q (0 : Int32) M7) M
def w_Machine_lock_j124 (this : Nat) (Q : Int32 → Mem → Prop) (s0 : Int32) (s1 : Int32) (s2 : Int32) (s3 : Nat) (M : Mem) : Prop :=
  vp_in s2 (mL M 301 s3) ∧ ∃ M16, M16 = (sI (sI M 301 s3 s2.toNatClampNeg (s1 + s0)) 6 this 34 ((mI (sI M 301 s3 s2.toNatClampNeg (s1 + s0)) 6 this 34) - (1 : Int32))) ∧ Q (1 : Int32) M16
def w_Machine_lock_j96 (this : Nat) (Q : Int32 → Mem → Prop) (v1 : Int32) (v3 : Nat) (v4 : Nat) (v5 : Int32) (M : Mem) : Prop :=
  ∃ i11, (mR M 6 this 2) = some (7, i11) ∧ vp_in v5 (mL M 301 v4) ∧ vp_in v5 (mL (sI M 301 v4 v5.toNatClampNeg (mI M 7 i11 0)) 301 v3) ∧ if v1 = (60 : Int32) then (w_Machine_lock_j124 this Q (1 : Int32) (mI (sI M 301 v4 v5.toNatClampNeg (mI M 7 i11 0)) 301 v3 v5.toNatClampNeg) v5 v3 (sI M 301 v4 v5.toNatClampNeg (mI M 7 i11 0))) else (w_Machine_lock_j124 this Q (-1 : Int32) (mI (sI M 301 v4 v5.toNatClampNeg (mI M 7 i11 0)) 301 v3 v5.toNatClampNeg) v5 v3 (sI M 301 v4 v5.toNatClampNeg (mI M 7 i11 0)))
def w_Machine_lock_j57 (this : Nat) (Q : Int32 → Mem → Prop) (v1 : Int32) (v3 : Nat) (v4 : Nat) (s0 : Int32) (M : Mem) : Prop :=
  if v1 = (61 : Int32) then (vp_in s0 (mL M 301 v3) ∧ if (mI M 301 v3 s0.toNatClampNeg) = 0 then (w_Machine_lock_j87 this Q  M) else (vp_in s0 (mL M 301 v4) ∧ ∃ i9, (mR M 6 this 2) = some (7, i9) ∧ if (mI M 301 v4 s0.toNatClampNeg) = (mI M 7 i9 0) then (w_Machine_lock_j96 this Q v1 v3 v4 s0 M) else (w_Machine_lock_j87 this Q  M))) else (w_Machine_lock_j96 this Q v1 v3 v4 s0 M)
def w_Machine_lock_j37 (this : Nat) (Q : Int32 → Mem → Prop) (v1 : Int32) (v2 : Int32) (v3 : Nat) (s0 : Nat) (M : Mem) : Prop :=
  if v2 ≤ (800 : Int32) then (w_Machine_lock_j57 this Q v1 v3 s0 v2 M) else (w_Machine_lock_j57 this Q v1 v3 s0 ((v2 - (800 : Int32)) - (1 : Int32)) M)
def w_Machine_lock_j18 (this : Nat) (Q : Int32 → Mem → Prop) (v1 : Int32) (v2 : Int32) (s0 : Nat) (M : Mem) : Prop :=
  if v2 ≤ (800 : Int32) then (w_Machine_lock_j37 this Q v1 v2 s0 (6 * this + 1) M) else (∃ i17, (mR M 6 this 25) = some (301, i17) ∧ w_Machine_lock_j37 this Q v1 v2 s0 i17 M)
def w_Machine_lock (this : Nat) (a1 : Int32) (a2 : Int32) (Q : Int32 → Mem → Prop) (M : Mem) : Prop :=
  if a2 ≤ (800 : Int32) then (w_Machine_lock_j18 this Q a1 a2 (6 * this + 0) M) else (∃ i18, (mR M 6 this 24) = some (301, i18) ∧ w_Machine_lock_j18 this Q a1 a2 i18 M)
set_option maxRecDepth 4096 in
theorem lk_Machine_lock_j87 {γ : Gm} (hγ : Gk γ) (this : Nat) (Q : Int32 → Mem → Prop)  (M : Mem) (h : w_Machine_lock_j87 this Q  M) : E γ k_Machine_lock 125 87 [some (vr (some (6, this))), none, none, none, none, none] [] M (Qi Q) := by
  unfold w_Machine_lock_j87 at h
  refine E_blk (lv' := [some (vr (some (6, this))), none, none, none, none, none]) (st' := [vi (0 : Int32), vi (7 : Int32), vr (some (6, this))]) (M1 := M) (pc' := 91) (tb_Machine hγ) [.aload_n 0, .bipush 7, .iconst 0] (by decide +kernel) rfl rfl trivial ?_
  refine E_callV (κ' := k_Machine_fail) (As := [vi (7 : Int32), vi (0 : Int32)]) (st := []) mv_Machine_fail (Or.inl (tbk_mem (j := 8) (k := 190) rfl)) rfl (by decide +kernel) (Nat.le_of_ble_eq_true rfl) (Nat.le_of_ble_eq_true rfl) rfl (by decide) (lk_Machine_fail hγ this (7 : Int32) (0 : Int32) _ M h) (fun _ _ => Qv_r) (fun v M7 hp => Qv_k (R := fun st => E γ k_Machine_lock 125 94 [some (vr (some (6, this))), none, none, none, none, none] st M7 (Qi Q)) hp (fun h => ?_))
  refine E_blk (lv' := [some (vr (some (6, this))), none, none, none, none, none]) (st' := [vi (0 : Int32)]) (M1 := M7) (pc' := 95) (tb_Machine hγ) [.iconst 0] (by decide +kernel) rfl rfl trivial ?_
  exact E_zret rfl (Or.inl rfl) (by decide +kernel) h
set_option maxRecDepth 4096 in
theorem lk_Machine_lock_j124 {γ : Gm} (hγ : Gk γ) (this : Nat) (Q : Int32 → Mem → Prop) (s0 : Int32) (s1 : Int32) (s2 : Int32) (s3 : Nat) (M : Mem) (h : w_Machine_lock_j124 this Q s0 s1 s2 s3 M) : E γ k_Machine_lock 125 124 [some (vr (some (6, this))), none, none, none, none, none] [vi s0, vi s1, vi s2, vr (some (301, s3))] M (Qi Q) := by
  unfold w_Machine_lock_j124 at h
  obtain ⟨c15, h⟩ := h
  refine E_blk (lv' := [some (vr (some (6, this))), none, none, none, none, none]) (st' := []) (M1 := (sI (sI M 301 s3 s2.toNatClampNeg (s1 + s0)) 6 this 34 ((mI (sI M 301 s3 s2.toNatClampNeg (s1 + s0)) 6 this 34) - (1 : Int32)))) (pc' := 136) (tb_Machine hγ) [.iadd, .iastore, .aload_n 0, .dup, .getfield 405, .iconst 1, .isub, .putfield 405] (by decide +kernel) rfl rfl ⟨c15, trivial⟩ ?_
  obtain ⟨M16, eM16, h⟩ := h
  rw [← eM16]
  refine E_blk (lv' := [some (vr (some (6, this))), none, none, none, none, none]) (st' := [vi (1 : Int32)]) (M1 := M16) (pc' := 137) (tb_Machine hγ) [.iconst 1] (by decide +kernel) rfl rfl trivial ?_
  exact E_zret rfl (Or.inr rfl) (by decide +kernel) h
set_option maxRecDepth 4096 in
theorem lk_Machine_lock_j96 {γ : Gm} (hγ : Gk γ) (this : Nat) (Q : Int32 → Mem → Prop) (v1 : Int32) (v3 : Nat) (v4 : Nat) (v5 : Int32) (M : Mem) (h : w_Machine_lock_j96 this Q v1 v3 v4 v5 M) : E γ k_Machine_lock 125 96 [some (vr (some (6, this))), some (vi v1), none, some (vr (some (301, v3))), some (vr (some (301, v4))), some (vi v5)] [] M (Qi Q) := by
  unfold w_Machine_lock_j96 at h
  refine E_blk (lv' := [some (vr (some (6, this))), some (vi v1), none, some (vr (some (301, v3))), some (vr (some (301, v4))), some (vi v5)]) (st' := [vr (mR M 6 this 2), vi v5, vr (some (301, v4))]) (M1 := M) (pc' := 104) (tb_Machine hγ) [.aload 4, .iload 5, .aload_n 0, .getfield 24] (by decide +kernel) rfl rfl trivial ?_
  obtain ⟨i11, ei11, h⟩ := h
  rw [ei11]
  obtain ⟨c12, c13, h⟩ := h
  refine E_blk (lv' := [some (vr (some (6, this))), some (vi v1), none, some (vr (some (301, v3))), some (vr (some (301, v4))), some (vi v5)]) (st' := [vi (60 : Int32), vi v1, vi (mI (sI M 301 v4 v5.toNatClampNeg (mI M 7 i11 0)) 301 v3 v5.toNatClampNeg), vi v5, vr (some (301, v3))]) (M1 := (sI M 301 v4 v5.toNatClampNeg (mI M 7 i11 0))) (pc' := 116) (tb_Machine hγ) [.getfield 131, .iastore, .aload_n 3, .iload 5, .dup2, .iaload, .iload_n 1, .bipush 60] (by decide +kernel) rfl rfl ⟨c12, c13, trivial⟩ ?_
  refine E_icmp_ne (off := 7) (tgt := 123) (by decide +kernel) (by decide) (fun b14 => ?_) (fun b14 => ?_)
  · rw [if_pos b14] at h
    refine E_blk (lv' := [some (vr (some (6, this))), some (vi v1), none, some (vr (some (301, v3))), some (vr (some (301, v4))), some (vi v5)]) (st' := [vi (1 : Int32), vi (mI (sI M 301 v4 v5.toNatClampNeg (mI M 7 i11 0)) 301 v3 v5.toNatClampNeg), vi v5, vr (some (301, v3))]) (M1 := (sI M 301 v4 v5.toNatClampNeg (mI M 7 i11 0))) (pc' := 120) (tb_Machine hγ) [.iconst 1] (by decide +kernel) rfl rfl trivial ?_
    refine E_goto (off := 4) (tgt := 124) (by decide +kernel) (by decide) ?_
    refine E_mask [true, false, false, false, false, false] rfl ?_
    exact lk_Machine_lock_j124 hγ this Q (1 : Int32) (mI (sI M 301 v4 v5.toNatClampNeg (mI M 7 i11 0)) 301 v3 v5.toNatClampNeg) v5 v3 (sI M 301 v4 v5.toNatClampNeg (mI M 7 i11 0)) h
  · rw [if_neg b14] at h
    refine E_blk (lv' := [some (vr (some (6, this))), some (vi v1), none, some (vr (some (301, v3))), some (vr (some (301, v4))), some (vi v5)]) (st' := [vi (-1 : Int32), vi (mI (sI M 301 v4 v5.toNatClampNeg (mI M 7 i11 0)) 301 v3 v5.toNatClampNeg), vi v5, vr (some (301, v3))]) (M1 := (sI M 301 v4 v5.toNatClampNeg (mI M 7 i11 0))) (pc' := 124) (tb_Machine hγ) [.iconst (.negSucc 0)] (by decide +kernel) rfl rfl trivial ?_
    refine E_mask [true, false, false, false, false, false] rfl ?_
    exact lk_Machine_lock_j124 hγ this Q (-1 : Int32) (mI (sI M 301 v4 v5.toNatClampNeg (mI M 7 i11 0)) 301 v3 v5.toNatClampNeg) v5 v3 (sI M 301 v4 v5.toNatClampNeg (mI M 7 i11 0)) h
set_option maxRecDepth 4096 in
theorem lk_Machine_lock_j57 {γ : Gm} (hγ : Gk γ) (this : Nat) (Q : Int32 → Mem → Prop) (v1 : Int32) (v3 : Nat) (v4 : Nat) (s0 : Int32) (M : Mem) (h : w_Machine_lock_j57 this Q v1 v3 v4 s0 M) : E γ k_Machine_lock 125 57 [some (vr (some (6, this))), some (vi v1), none, some (vr (some (301, v3))), some (vr (some (301, v4))), none] [vi s0] M (Qi Q) := by
  unfold w_Machine_lock_j57 at h
  refine E_blk (lv' := [some (vr (some (6, this))), some (vi v1), none, some (vr (some (301, v3))), some (vr (some (301, v4))), some (vi s0)]) (st' := [vi (61 : Int32), vi v1]) (M1 := M) (pc' := 62) (tb_Machine hγ) [.istore 5, .iload_n 1, .bipush 61] (by decide +kernel) rfl rfl trivial ?_
  refine E_icmp_ne (off := 34) (tgt := 96) (by decide +kernel) (by decide) (fun b4 => ?_) (fun b4 => ?_)
  · rw [if_pos b4] at h
    obtain ⟨c5, h⟩ := h
    refine E_blk (lv' := [some (vr (some (6, this))), some (vi v1), none, some (vr (some (301, v3))), some (vr (some (301, v4))), some (vi s0)]) (st' := [vi (mI M 301 v3 s0.toNatClampNeg)]) (M1 := M) (pc' := 69) (tb_Machine hγ) [.aload_n 3, .iload 5, .iaload] (by decide +kernel) rfl rfl ⟨c5, trivial⟩ ?_
    refine E_if_eq (off := 18) (tgt := 87) (by decide +kernel) (by decide) (fun b6 => ?_) (fun b6 => ?_)
    · rw [if_pos b6] at h
      refine E_mask [true, false, false, false, false, false] rfl ?_
      exact lk_Machine_lock_j87 hγ this Q  M h
    · rw [if_neg b6] at h
      obtain ⟨c8, h⟩ := h
      refine E_blk (lv' := [some (vr (some (6, this))), some (vi v1), none, some (vr (some (301, v3))), some (vr (some (301, v4))), some (vi s0)]) (st' := [vr (mR M 6 this 2), vi (mI M 301 v4 s0.toNatClampNeg)]) (M1 := M) (pc' := 81) (tb_Machine hγ) [.aload 4, .iload 5, .iaload, .aload_n 0, .getfield 24] (by decide +kernel) rfl rfl ⟨c8, trivial⟩ ?_
      obtain ⟨i9, ei9, h⟩ := h
      rw [ei9]
      refine E_blk (lv' := [some (vr (some (6, this))), some (vi v1), none, some (vr (some (301, v3))), some (vr (some (301, v4))), some (vi s0)]) (st' := [vi (mI M 7 i9 0), vi (mI M 301 v4 s0.toNatClampNeg)]) (M1 := M) (pc' := 84) (tb_Machine hγ) [.getfield 131] (by decide +kernel) rfl rfl trivial ?_
      refine E_icmp_eq (off := 12) (tgt := 96) (by decide +kernel) (by decide) (fun b10 => ?_) (fun b10 => ?_)
      · rw [if_pos b10] at h
        refine E_mask [true, true, false, true, true, true] rfl ?_
        exact lk_Machine_lock_j96 hγ this Q v1 v3 v4 s0 M h
      · rw [if_neg b10] at h
        refine E_mask [true, false, false, false, false, false] rfl ?_
        exact lk_Machine_lock_j87 hγ this Q  M h
  · rw [if_neg b4] at h
    refine E_mask [true, true, false, true, true, true] rfl ?_
    exact lk_Machine_lock_j96 hγ this Q v1 v3 v4 s0 M h
set_option maxRecDepth 4096 in
theorem lk_Machine_lock_j37 {γ : Gm} (hγ : Gk γ) (this : Nat) (Q : Int32 → Mem → Prop) (v1 : Int32) (v2 : Int32) (v3 : Nat) (s0 : Nat) (M : Mem) (h : w_Machine_lock_j37 this Q v1 v2 v3 s0 M) : E γ k_Machine_lock 125 37 [some (vr (some (6, this))), some (vi v1), some (vi v2), some (vr (some (301, v3))), none, none] [vr (some (301, s0))] M (Qi Q) := by
  unfold w_Machine_lock_j37 at h
  refine E_blk (lv' := [some (vr (some (6, this))), some (vi v1), some (vi v2), some (vr (some (301, v3))), some (vr (some (301, s0))), none]) (st' := [vi (800 : Int32), vi v2]) (M1 := M) (pc' := 43) (tb_Machine hγ) [.astore 4, .iload_n 2, .sipush 800] (by decide +kernel) rfl rfl trivial ?_
  refine E_icmp_le (off := 13) (tgt := 56) (by decide +kernel) (by decide) (fun b3 => ?_) (fun b3 => ?_)
  · rw [if_pos b3] at h
    refine E_blk (lv' := [some (vr (some (6, this))), some (vi v1), some (vi v2), some (vr (some (301, v3))), some (vr (some (301, s0))), none]) (st' := [vi v2]) (M1 := M) (pc' := 57) (tb_Machine hγ) [.iload_n 2] (by decide +kernel) rfl rfl trivial ?_
    refine E_mask [true, true, false, true, true, false] rfl ?_
    exact lk_Machine_lock_j57 hγ this Q v1 v3 s0 v2 M h
  · rw [if_neg b3] at h
    refine E_blk (lv' := [some (vr (some (6, this))), some (vi v1), some (vi v2), some (vr (some (301, v3))), some (vr (some (301, s0))), none]) (st' := [vi ((v2 - (800 : Int32)) - (1 : Int32))]) (M1 := M) (pc' := 53) (tb_Machine hγ) [.iload_n 2, .sipush 800, .isub, .iconst 1, .isub] (by decide +kernel) rfl rfl trivial ?_
    refine E_goto (off := 4) (tgt := 57) (by decide +kernel) (by decide) ?_
    refine E_mask [true, true, false, true, true, false] rfl ?_
    exact lk_Machine_lock_j57 hγ this Q v1 v3 s0 ((v2 - (800 : Int32)) - (1 : Int32)) M h
set_option maxRecDepth 4096 in
theorem lk_Machine_lock_j18 {γ : Gm} (hγ : Gk γ) (this : Nat) (Q : Int32 → Mem → Prop) (v1 : Int32) (v2 : Int32) (s0 : Nat) (M : Mem) (h : w_Machine_lock_j18 this Q v1 v2 s0 M) : E γ k_Machine_lock 125 18 [some (vr (some (6, this))), some (vi v1), some (vi v2), none, none, none] [vr (some (301, s0))] M (Qi Q) := by
  unfold w_Machine_lock_j18 at h
  refine E_blk (lv' := [some (vr (some (6, this))), some (vi v1), some (vi v2), some (vr (some (301, s0))), none, none]) (st' := [vi (800 : Int32), vi v2]) (M1 := M) (pc' := 23) (tb_Machine hγ) [.astore_n 3, .iload_n 2, .sipush 800] (by decide +kernel) rfl rfl trivial ?_
  refine E_icmp_le (off := 10) (tgt := 33) (by decide +kernel) (by decide) (fun b2 => ?_) (fun b2 => ?_)
  · rw [if_pos b2] at h
    refine E_blk (lv' := [some (vr (some (6, this))), some (vi v1), some (vi v2), some (vr (some (301, s0))), none, none]) (st' := [vr (some (301, (6 * this + 1)))]) (M1 := M) (pc' := 37) (tb_Machine hγ) [.aload_n 0, .getfield 41] (by decide +kernel) rfl rfl trivial ?_
    refine E_mask [true, true, true, true, false, false] rfl ?_
    exact lk_Machine_lock_j37 hγ this Q v1 v2 s0 (6 * this + 1) M h
  · rw [if_neg b2] at h
    refine E_blk (lv' := [some (vr (some (6, this))), some (vi v1), some (vi v2), some (vr (some (301, s0))), none, none]) (st' := [vr (mR M 6 this 25)]) (M1 := M) (pc' := 30) (tb_Machine hγ) [.aload_n 0, .getfield 69] (by decide +kernel) rfl rfl trivial ?_
    obtain ⟨i17, ei17, h⟩ := h
    rw [ei17]
    refine E_goto (off := 7) (tgt := 37) (by decide +kernel) (by decide) ?_
    refine E_mask [true, true, true, true, false, false] rfl ?_
    exact lk_Machine_lock_j37 hγ this Q v1 v2 s0 i17 M h
set_option maxRecDepth 4096 in
theorem lk_Machine_lock {γ : Gm} (hγ : Gk γ) (this : Nat) (a1 : Int32) (a2 : Int32) (Q : Int32 → Mem → Prop) (M : Mem) (h : w_Machine_lock this a1 a2 Q M) : E γ k_Machine_lock 125 0 [some (vr (some (6, this))), some (vi a1), some (vi a2), none, none, none] [] M (Qi Q) := by
  unfold w_Machine_lock at h
  refine E_blk (lv' := [some (vr (some (6, this))), some (vi a1), some (vi a2), none, none, none]) (st' := [vi (800 : Int32), vi a2]) (M1 := M) (pc' := 4) (tb_Machine hγ) [.iload_n 2, .sipush 800] (by decide +kernel) rfl rfl trivial ?_
  refine E_icmp_le (off := 10) (tgt := 14) (by decide +kernel) (by decide) (fun b1 => ?_) (fun b1 => ?_)
  · rw [if_pos b1] at h
    refine E_blk (lv' := [some (vr (some (6, this))), some (vi a1), some (vi a2), none, none, none]) (st' := [vr (some (301, (6 * this + 0)))]) (M1 := M) (pc' := 18) (tb_Machine hγ) [.aload_n 0, .getfield 38] (by decide +kernel) rfl rfl trivial ?_
    refine E_mask [true, true, true, false, false, false] rfl ?_
    exact lk_Machine_lock_j18 hγ this Q a1 a2 (6 * this + 0) M h
  · rw [if_neg b1] at h
    refine E_blk (lv' := [some (vr (some (6, this))), some (vi a1), some (vi a2), none, none, none]) (st' := [vr (mR M 6 this 24)]) (M1 := M) (pc' := 11) (tb_Machine hγ) [.aload_n 0, .getfield 66] (by decide +kernel) rfl rfl trivial ?_
    obtain ⟨i18, ei18, h⟩ := h
    rw [ei18]
    refine E_goto (off := 7) (tgt := 18) (by decide +kernel) (by decide) ?_
    refine E_mask [true, true, true, false, false, false] rfl ?_
    exact lk_Machine_lock_j18 hγ this Q a1 a2 i18 M h
def w_Machine_inThing_j177 (this : Nat) (Q : Int32 → Mem → Prop) (v1 : Int32) (v2 : Int32) (s0 : Int32) (M : Mem) : Prop :=
  w_Machine_number this s0 (fun r3 M2 => vp_in v2 (mL M2 81 this) ∧ w_Works_isIn r3 (0 : Int32) ((mI M2 81 this v2.toNatClampNeg) - (1 : Int32)) (fun r6 M5 => if r6 = 0 then (w_Machine_fail this (4 : Int32) (0 : Int32) (fun M8 => Q (0 : Int32) M8) M5) else (if v1 = (43 : Int32) then (vp_in v2 (mL M5 80 this) ∧ vp_in ((mI M5 80 this v2.toNatClampNeg) + r3) (mL M5 84 this) ∧ w_Machine_comes this (2 : Int32) (mI M5 84 this ((mI M5 80 this v2.toNatClampNeg) + r3).toNatClampNeg) (0 : Int32) (fun M12 => Q (1 : Int32) M12) M5) else (vp_in v2 (mL M5 80 this) ∧ w_Machine_number this (0 : Int32) (fun r15 M14 => vp_in ((mI M5 80 this v2.toNatClampNeg) + r3) (mL M14 84 this) ∧ ∃ M17, M17 = (sI M14 84 this ((mI M5 80 this v2.toNatClampNeg) + r3).toNatClampNeg r15) ∧ Q (1 : Int32) (sI M17 6 this 34 ((mI M17 6 this 34) - (3 : Int32)))) M5))) M2) M
def w_Machine_inThing_j98 (this : Nat) (Q : Int32 → Mem → Prop) (s0 : Int32) (s1 : Int32) (s2 : Int32) (M : Mem) : Prop :=
  w_Machine_comes this s2 s1 s0 (fun M38 => Q (1 : Int32) M38) M
def w_Machine_inThing (this : Nat) (a1 : Int32) (a2 : Int32) (Q : Int32 → Mem → Prop) (M : Mem) : Prop :=
  if a1 = (45 : Int32) then (vp_in a2 (mL M 81 this) ∧ w_Machine_comes this (1 : Int32) (mI M 81 this a2.toNatClampNeg) (0 : Int32) (fun M40 => Q (1 : Int32) M40) M) else (if a1 = (46 : Int32) then (vp_in a2 (mL M 80 this) ∧ vp_in (mI M 6 this 36) (mL M 53 this) ∧ vp_in ((mI M 80 this a2.toNatClampNeg) + (mI M 53 this (mI M 6 this 36).toNatClampNeg)) (mL M 84 this) ∧ vp_in (mI M 6 this 36) (mL M 50 this) ∧ if (mI M 50 this (mI M 6 this 36).toNatClampNeg) = 0 then (w_Machine_inThing_j98 this Q (0 : Int32) (mI M 84 this ((mI M 80 this a2.toNatClampNeg) + (mI M 53 this (mI M 6 this 36).toNatClampNeg)).toNatClampNeg) (1 : Int32) M) else (w_Machine_inThing_j98 this Q (1 : Int32) (mI M 84 this ((mI M 80 this a2.toNatClampNeg) + (mI M 53 this (mI M 6 this 36).toNatClampNeg)).toNatClampNeg) (1 : Int32) M)) else (if a1 = (47 : Int32) then (vp_in a2 (mL M 80 this) ∧ vp_in (mI M 6 this 36) (mL M 53 this) ∧ w_Machine_number this (0 : Int32) (fun r30 M29 => vp_in ((mI M 80 this a2.toNatClampNeg) + (mI M 53 this (mI M 6 this 36).toNatClampNeg)) (mL M29 84 this) ∧ ∃ M32, M32 = (sI M29 84 this ((mI M 80 this a2.toNatClampNeg) + (mI M 53 this (mI M 6 this 36).toNatClampNeg)).toNatClampNeg r30) ∧ Q (1 : Int32) (sI M32 6 this 34 ((mI M32 6 this 34) - (2 : Int32)))) M) else (if a1 = (60 : Int32) then (w_Machine_lock this a1 a2 (fun r26 M25 => (r26 = 0 ∨ r26 = 1) ∧ Q r26 M25) M) else (if a1 = (61 : Int32) then (w_Machine_lock this a1 a2 (fun r24 M23 => (r24 = 0 ∨ r24 = 1) ∧ Q r24 M23) M) else (if a1 = (44 : Int32) then (w_Machine_inThing_j177 this Q a1 a2 (1 : Int32) M) else (w_Machine_inThing_j177 this Q a1 a2 (0 : Int32) M))))))
set_option maxRecDepth 4096 in
theorem lk_Machine_inThing_j177 {γ : Gm} (hγ : Gk γ) (this : Nat) (Q : Int32 → Mem → Prop) (v1 : Int32) (v2 : Int32) (s0 : Int32) (M : Mem) (h : w_Machine_inThing_j177 this Q v1 v2 s0 M) : E γ k_Machine_inThing 126 177 [some (vr (some (6, this))), some (vi v1), some (vi v2), none] [vi s0, vr (some (6, this))] M (Qi Q) := by
  unfold w_Machine_inThing_j177 at h
  refine E_callV (κ' := k_Machine_number) (As := [vi s0]) (st := []) mv_Machine_number (Or.inl (tbk_mem (j := 9) (k := 46) rfl)) rfl (by decide +kernel) (Nat.le_of_ble_eq_true rfl) (Nat.le_of_ble_eq_true rfl) rfl (by decide) (lk_Machine_number hγ this s0 _ M h) (fun _ _ => Qi_r) (fun v M2 hp => Qi_k (R := fun st => E γ k_Machine_inThing 126 180 [some (vr (some (6, this))), some (vi v1), some (vi v2), none] st M2 (Qi Q)) hp (fun r3 h => ?_))
  obtain ⟨c4, h⟩ := h
  refine E_blk (lv' := [some (vr (some (6, this))), some (vi v1), some (vi v2), some (vi r3)]) (st' := [vi ((mI M2 81 this v2.toNatClampNeg) - (1 : Int32)), vi (0 : Int32), vi r3]) (M1 := M2) (pc' := 191) (tb_Machine hγ) [.istore_n 3, .iload_n 3, .iconst 0, .aload_n 0, .getfield 35, .iload_n 2, .iaload, .iconst 1, .isub] (by decide +kernel) rfl rfl ⟨c4, trivial⟩ ?_
  refine E_callS (κ' := k_Works_isIn) (As := [vi r3, vi (0 : Int32), vi ((mI M2 81 this v2.toNatClampNeg) - (1 : Int32))]) (st := []) ms_Works_isIn (Or.inr ⟨"ClassWorks", (tbk_mem (j := 9) (k := 28) rfl)⟩) rfl (by decide +kernel) (Nat.le_of_ble_eq_true rfl) (Nat.le_of_ble_eq_true rfl) rfl (by decide) (lk_Works_isIn hγ r3 (0 : Int32) ((mI M2 81 this v2.toNatClampNeg) - (1 : Int32)) _ M2 h) (fun _ _ => Qi_r) (fun v M5 hp => Qi_k (R := fun st => E γ k_Machine_inThing 126 194 [some (vr (some (6, this))), some (vi v1), some (vi v2), some (vi r3)] st M5 (Qi Q)) hp (fun r6 h => ?_))
  refine E_if_ne (off := 11) (tgt := 205) (by decide +kernel) (by decide) (fun b7 => ?_) (fun b7 => ?_)
  · rw [if_pos b7] at h
    refine E_blk (lv' := [some (vr (some (6, this))), some (vi v1), some (vi v2), some (vi r3)]) (st' := [vi (0 : Int32), vi (4 : Int32), vr (some (6, this))]) (M1 := M5) (pc' := 200) (tb_Machine hγ) [.aload_n 0, .iconst 4, .iconst 0] (by decide +kernel) rfl rfl trivial ?_
    refine E_callV (κ' := k_Machine_fail) (As := [vi (4 : Int32), vi (0 : Int32)]) (st := []) mv_Machine_fail (Or.inl (tbk_mem (j := 8) (k := 190) rfl)) rfl (by decide +kernel) (Nat.le_of_ble_eq_true rfl) (Nat.le_of_ble_eq_true rfl) rfl (by decide) (lk_Machine_fail hγ this (4 : Int32) (0 : Int32) _ M5 h) (fun _ _ => Qv_r) (fun v M8 hp => Qv_k (R := fun st => E γ k_Machine_inThing 126 203 [some (vr (some (6, this))), some (vi v1), some (vi v2), some (vi r3)] st M8 (Qi Q)) hp (fun h => ?_))
    refine E_blk (lv' := [some (vr (some (6, this))), some (vi v1), some (vi v2), some (vi r3)]) (st' := [vi (0 : Int32)]) (M1 := M8) (pc' := 204) (tb_Machine hγ) [.iconst 0] (by decide +kernel) rfl rfl trivial ?_
    exact E_zret rfl (Or.inl rfl) (by decide +kernel) h
  · rw [if_neg b7] at h
    refine E_blk (lv' := [some (vr (some (6, this))), some (vi v1), some (vi v2), some (vi r3)]) (st' := [vi (43 : Int32), vi v1]) (M1 := M5) (pc' := 208) (tb_Machine hγ) [.iload_n 1, .bipush 43] (by decide +kernel) rfl rfl trivial ?_
    refine E_icmp_ne (off := 25) (tgt := 233) (by decide +kernel) (by decide) (fun b9 => ?_) (fun b9 => ?_)
    · rw [if_pos b9] at h
      obtain ⟨c10, c11, h⟩ := h
      refine E_blk (lv' := [some (vr (some (6, this))), some (vi v1), some (vi v2), some (vi r3)]) (st' := [vi (0 : Int32), vi (mI M5 84 this ((mI M5 80 this v2.toNatClampNeg) + r3).toNatClampNeg), vi (2 : Int32), vr (some (6, this))]) (M1 := M5) (pc' := 227) (tb_Machine hγ) [.aload_n 0, .iconst 2, .aload_n 0, .getfield 57, .aload_n 0, .getfield 32, .iload_n 2, .iaload, .iload_n 3, .iadd, .iaload, .iconst 0] (by decide +kernel) rfl rfl ⟨c10, c11, trivial⟩ ?_
      refine E_callV (κ' := k_Machine_comes) (As := [vi (2 : Int32), vi (mI M5 84 this ((mI M5 80 this v2.toNatClampNeg) + r3).toNatClampNeg), vi (0 : Int32)]) (st := []) mv_Machine_comes (Or.inl (tbk_mem (j := 9) (k := 62) rfl)) rfl (by decide +kernel) (Nat.le_of_ble_eq_true rfl) (Nat.le_of_ble_eq_true rfl) rfl (by decide) (lk_Machine_comes hγ this (2 : Int32) (mI M5 84 this ((mI M5 80 this v2.toNatClampNeg) + r3).toNatClampNeg) (0 : Int32) _ M5 h) (fun _ _ => Qv_r) (fun v M12 hp => Qv_k (R := fun st => E γ k_Machine_inThing 126 230 [some (vr (some (6, this))), some (vi v1), some (vi v2), some (vi r3)] st M12 (Qi Q)) hp (fun h => ?_))
      refine E_goto (off := 31) (tgt := 261) (by decide +kernel) (by decide) ?_
      refine E_blk (lv' := [some (vr (some (6, this))), some (vi v1), some (vi v2), some (vi r3)]) (st' := [vi (1 : Int32)]) (M1 := M12) (pc' := 262) (tb_Machine hγ) [.iconst 1] (by decide +kernel) rfl rfl trivial ?_
      exact E_zret rfl (Or.inr rfl) (by decide +kernel) h
    · rw [if_neg b9] at h
      obtain ⟨c13, h⟩ := h
      refine E_blk (lv' := [some (vr (some (6, this))), some (vi v1), some (vi v2), some (vi r3)]) (st' := [vi (0 : Int32), vr (some (6, this)), vi ((mI M5 80 this v2.toNatClampNeg) + r3), vr (some (84, this))]) (M1 := M5) (pc' := 247) (tb_Machine hγ) [.aload_n 0, .getfield 57, .aload_n 0, .getfield 32, .iload_n 2, .iaload, .iload_n 3, .iadd, .aload_n 0, .iconst 0] (by decide +kernel) rfl rfl ⟨c13, trivial⟩ ?_
      refine E_callV (κ' := k_Machine_number) (As := [vi (0 : Int32)]) (st := [vi ((mI M5 80 this v2.toNatClampNeg) + r3), vr (some (84, this))]) mv_Machine_number (Or.inl (tbk_mem (j := 9) (k := 46) rfl)) rfl (by decide +kernel) (Nat.le_of_ble_eq_true rfl) (Nat.le_of_ble_eq_true rfl) rfl (by decide) (lk_Machine_number hγ this (0 : Int32) _ M5 h) (fun _ _ => Qi_r) (fun v M14 hp => Qi_k (R := fun st => E γ k_Machine_inThing 126 250 [some (vr (some (6, this))), some (vi v1), some (vi v2), some (vi r3)] st M14 (Qi Q)) hp (fun r15 h => ?_))
      obtain ⟨c16, h⟩ := h
      refine E_blk (lv' := [some (vr (some (6, this))), some (vi v1), some (vi v2), some (vi r3)]) (st' := []) (M1 := (sI M14 84 this ((mI M5 80 this v2.toNatClampNeg) + r3).toNatClampNeg r15)) (pc' := 251) (tb_Machine hγ) [.iastore] (by decide +kernel) rfl rfl ⟨c16, trivial⟩ ?_
      obtain ⟨M17, eM17, h⟩ := h
      rw [← eM17]
      refine E_blk (lv' := [some (vr (some (6, this))), some (vi v1), some (vi v2), some (vi r3)]) (st' := [vi (1 : Int32)]) (M1 := (sI M17 6 this 34 ((mI M17 6 this 34) - (3 : Int32)))) (pc' := 262) (tb_Machine hγ) [.aload_n 0, .dup, .getfield 405, .iconst 3, .isub, .putfield 405, .iconst 1] (by decide +kernel) rfl rfl trivial ?_
      exact E_zret rfl (Or.inr rfl) (by decide +kernel) h
set_option maxRecDepth 4096 in
theorem lk_Machine_inThing_j98 {γ : Gm} (hγ : Gk γ) (this : Nat) (Q : Int32 → Mem → Prop) (s0 : Int32) (s1 : Int32) (s2 : Int32) (M : Mem) (h : w_Machine_inThing_j98 this Q s0 s1 s2 M) : E γ k_Machine_inThing 126 98 [none, none, none, none] [vi s0, vi s1, vi s2, vr (some (6, this))] M (Qi Q) := by
  unfold w_Machine_inThing_j98 at h
  refine E_callV (κ' := k_Machine_comes) (As := [vi s2, vi s1, vi s0]) (st := []) mv_Machine_comes (Or.inl (tbk_mem (j := 9) (k := 62) rfl)) rfl (by decide +kernel) (Nat.le_of_ble_eq_true rfl) (Nat.le_of_ble_eq_true rfl) rfl (by decide) (lk_Machine_comes hγ this s2 s1 s0 _ M h) (fun _ _ => Qv_r) (fun v M38 hp => Qv_k (R := fun st => E γ k_Machine_inThing 126 101 [none, none, none, none] st M38 (Qi Q)) hp (fun h => ?_))
  refine E_blk (lv' := [none, none, none, none]) (st' := [vi (1 : Int32)]) (M1 := M38) (pc' := 102) (tb_Machine hγ) [.iconst 1] (by decide +kernel) rfl rfl trivial ?_
  exact E_zret rfl (Or.inr rfl) (by decide +kernel) h
set_option maxRecDepth 4096 in
theorem lk_Machine_inThing {γ : Gm} (hγ : Gk γ) (this : Nat) (a1 : Int32) (a2 : Int32) (Q : Int32 → Mem → Prop) (M : Mem) (h : w_Machine_inThing this a1 a2 Q M) : E γ k_Machine_inThing 126 0 [some (vr (some (6, this))), some (vi a1), some (vi a2), none] [] M (Qi Q) := by
  unfold w_Machine_inThing at h
  refine E_blk (lv' := [some (vr (some (6, this))), some (vi a1), some (vi a2), none]) (st' := [vi a1]) (M1 := M) (pc' := 1) (tb_Machine hγ) [.iload_n 1] (by decide +kernel) rfl rfl trivial ?_
  by_cases b18 : a1 = (45 : Int32)
  · rw [if_pos b18] at h
    refine E.up (fun _ _ hJ => J_lsw (dflt := 164) (ps := #[(45, 143), (46, 51), (47, 102), (60, 157), (61, 157)]) (len := 51) (off := 143) (tgt := 144) (by decide +kernel) (by decide) (by rw [b18]; rfl) (by decide) hJ) ?_
    obtain ⟨c39, h⟩ := h
    refine E_blk (lv' := [some (vr (some (6, this))), some (vi a1), some (vi a2), none]) (st' := [vi (0 : Int32), vi (mI M 81 this a2.toNatClampNeg), vi (1 : Int32), vr (some (6, this))]) (M1 := M) (pc' := 153) (tb_Machine hγ) [.aload_n 0, .iconst 1, .aload_n 0, .getfield 35, .iload_n 2, .iaload, .iconst 0] (by decide +kernel) rfl rfl ⟨c39, trivial⟩ ?_
    refine E_callV (κ' := k_Machine_comes) (As := [vi (1 : Int32), vi (mI M 81 this a2.toNatClampNeg), vi (0 : Int32)]) (st := []) mv_Machine_comes (Or.inl (tbk_mem (j := 9) (k := 62) rfl)) rfl (by decide +kernel) (Nat.le_of_ble_eq_true rfl) (Nat.le_of_ble_eq_true rfl) rfl (by decide) (lk_Machine_comes hγ this (1 : Int32) (mI M 81 this a2.toNatClampNeg) (0 : Int32) _ M h) (fun _ _ => Qv_r) (fun v M40 hp => Qv_k (R := fun st => E γ k_Machine_inThing 126 156 [some (vr (some (6, this))), some (vi a1), some (vi a2), none] st M40 (Qi Q)) hp (fun h => ?_))
    refine E_blk (lv' := [some (vr (some (6, this))), some (vi a1), some (vi a2), none]) (st' := [vi (1 : Int32)]) (M1 := M40) (pc' := 157) (tb_Machine hγ) [.iconst 1] (by decide +kernel) rfl rfl trivial ?_
    exact E_zret rfl (Or.inr rfl) (by decide +kernel) h
  · rw [if_neg b18] at h
    by_cases b19 : a1 = (46 : Int32)
    · rw [if_pos b19] at h
      refine E.up (fun _ _ hJ => J_lsw (dflt := 164) (ps := #[(45, 143), (46, 51), (47, 102), (60, 157), (61, 157)]) (len := 51) (off := 51) (tgt := 52) (by decide +kernel) (by decide) (by rw [b19]; rfl) (by decide) hJ) ?_
      obtain ⟨c33, c34, c35, c36, h⟩ := h
      refine E_blk (lv' := [some (vr (some (6, this))), some (vi a1), some (vi a2), none]) (st' := [vi (mI M 50 this (mI M 6 this 36).toNatClampNeg), vi (mI M 84 this ((mI M 80 this a2.toNatClampNeg) + (mI M 53 this (mI M 6 this 36).toNatClampNeg)).toNatClampNeg), vi (1 : Int32), vr (some (6, this))]) (M1 := M) (pc' := 90) (tb_Machine hγ) [.aload_n 0, .iconst 1, .aload_n 0, .getfield 57, .aload_n 0, .getfield 32, .iload_n 2, .iaload, .aload_n 0, .getfield 84, .getfield 491, .aload_n 0, .getfield 418, .iaload, .iadd, .iaload, .aload_n 0, .getfield 84, .getfield 291, .aload_n 0, .getfield 418, .iaload] (by decide +kernel) rfl rfl ⟨c33, c34, c35, c36, trivial⟩ ?_
      refine E_if_eq (off := 7) (tgt := 97) (by decide +kernel) (by decide) (fun b37 => ?_) (fun b37 => ?_)
      · rw [if_pos b37] at h
        refine E_blk (lv' := [some (vr (some (6, this))), some (vi a1), some (vi a2), none]) (st' := [vi (0 : Int32), vi (mI M 84 this ((mI M 80 this a2.toNatClampNeg) + (mI M 53 this (mI M 6 this 36).toNatClampNeg)).toNatClampNeg), vi (1 : Int32), vr (some (6, this))]) (M1 := M) (pc' := 98) (tb_Machine hγ) [.iconst 0] (by decide +kernel) rfl rfl trivial ?_
        refine E_mask [false, false, false, false] rfl ?_
        exact lk_Machine_inThing_j98 hγ this Q (0 : Int32) (mI M 84 this ((mI M 80 this a2.toNatClampNeg) + (mI M 53 this (mI M 6 this 36).toNatClampNeg)).toNatClampNeg) (1 : Int32) M h
      · rw [if_neg b37] at h
        refine E_blk (lv' := [some (vr (some (6, this))), some (vi a1), some (vi a2), none]) (st' := [vi (1 : Int32), vi (mI M 84 this ((mI M 80 this a2.toNatClampNeg) + (mI M 53 this (mI M 6 this 36).toNatClampNeg)).toNatClampNeg), vi (1 : Int32), vr (some (6, this))]) (M1 := M) (pc' := 94) (tb_Machine hγ) [.iconst 1] (by decide +kernel) rfl rfl trivial ?_
        refine E_goto (off := 4) (tgt := 98) (by decide +kernel) (by decide) ?_
        refine E_mask [false, false, false, false] rfl ?_
        exact lk_Machine_inThing_j98 hγ this Q (1 : Int32) (mI M 84 this ((mI M 80 this a2.toNatClampNeg) + (mI M 53 this (mI M 6 this 36).toNatClampNeg)).toNatClampNeg) (1 : Int32) M h
    · rw [if_neg b19] at h
      by_cases b20 : a1 = (47 : Int32)
      · rw [if_pos b20] at h
        refine E.up (fun _ _ hJ => J_lsw (dflt := 164) (ps := #[(45, 143), (46, 51), (47, 102), (60, 157), (61, 157)]) (len := 51) (off := 102) (tgt := 103) (by decide +kernel) (by decide) (by rw [b20]; rfl) (by decide) hJ) ?_
        obtain ⟨c27, c28, h⟩ := h
        refine E_blk (lv' := [some (vr (some (6, this))), some (vi a1), some (vi a2), none]) (st' := [vi (0 : Int32), vr (some (6, this)), vi ((mI M 80 this a2.toNatClampNeg) + (mI M 53 this (mI M 6 this 36).toNatClampNeg)), vr (some (84, this))]) (M1 := M) (pc' := 128) (tb_Machine hγ) [.aload_n 0, .getfield 57, .aload_n 0, .getfield 32, .iload_n 2, .iaload, .aload_n 0, .getfield 84, .getfield 491, .aload_n 0, .getfield 418, .iaload, .iadd, .aload_n 0, .iconst 0] (by decide +kernel) rfl rfl ⟨c27, c28, trivial⟩ ?_
        refine E_callV (κ' := k_Machine_number) (As := [vi (0 : Int32)]) (st := [vi ((mI M 80 this a2.toNatClampNeg) + (mI M 53 this (mI M 6 this 36).toNatClampNeg)), vr (some (84, this))]) mv_Machine_number (Or.inl (tbk_mem (j := 9) (k := 46) rfl)) rfl (by decide +kernel) (Nat.le_of_ble_eq_true rfl) (Nat.le_of_ble_eq_true rfl) rfl (by decide) (lk_Machine_number hγ this (0 : Int32) _ M h) (fun _ _ => Qi_r) (fun v M29 hp => Qi_k (R := fun st => E γ k_Machine_inThing 126 131 [some (vr (some (6, this))), some (vi a1), some (vi a2), none] st M29 (Qi Q)) hp (fun r30 h => ?_))
        obtain ⟨c31, h⟩ := h
        refine E_blk (lv' := [some (vr (some (6, this))), some (vi a1), some (vi a2), none]) (st' := []) (M1 := (sI M29 84 this ((mI M 80 this a2.toNatClampNeg) + (mI M 53 this (mI M 6 this 36).toNatClampNeg)).toNatClampNeg r30)) (pc' := 132) (tb_Machine hγ) [.iastore] (by decide +kernel) rfl rfl ⟨c31, trivial⟩ ?_
        obtain ⟨M32, eM32, h⟩ := h
        rw [← eM32]
        refine E_blk (lv' := [some (vr (some (6, this))), some (vi a1), some (vi a2), none]) (st' := [vi (1 : Int32)]) (M1 := (sI M32 6 this 34 ((mI M32 6 this 34) - (2 : Int32)))) (pc' := 143) (tb_Machine hγ) [.aload_n 0, .dup, .getfield 405, .iconst 2, .isub, .putfield 405, .iconst 1] (by decide +kernel) rfl rfl trivial ?_
        exact E_zret rfl (Or.inr rfl) (by decide +kernel) h
      · rw [if_neg b20] at h
        by_cases b21 : a1 = (60 : Int32)
        · rw [if_pos b21] at h
          refine E.up (fun _ _ hJ => J_lsw (dflt := 164) (ps := #[(45, 143), (46, 51), (47, 102), (60, 157), (61, 157)]) (len := 51) (off := 157) (tgt := 158) (by decide +kernel) (by decide) (by rw [b21]; rfl) (by decide) hJ) ?_
          refine E_blk (lv' := [some (vr (some (6, this))), some (vi a1), some (vi a2), none]) (st' := [vi a2, vi a1, vr (some (6, this))]) (M1 := M) (pc' := 161) (tb_Machine hγ) [.aload_n 0, .iload_n 1, .iload_n 2] (by decide +kernel) rfl rfl trivial ?_
          refine E_callV (κ' := k_Machine_lock) (As := [vi a1, vi a2]) (st := []) mv_Machine_lock (Or.inl (tbk_mem (j := 9) (k := 95) rfl)) rfl (by decide +kernel) (Nat.le_of_ble_eq_true rfl) (Nat.le_of_ble_eq_true rfl) rfl (by decide) (lk_Machine_lock hγ this a1 a2 _ M h) (fun _ _ => Qi_r) (fun v M25 hp => Qi_k (R := fun st => E γ k_Machine_inThing 126 164 [some (vr (some (6, this))), some (vi a1), some (vi a2), none] st M25 (Qi Q)) hp (fun r26 h => ?_))
          exact E_zret rfl h.1 (by decide +kernel) h.2
        · rw [if_neg b21] at h
          by_cases b22 : a1 = (61 : Int32)
          · rw [if_pos b22] at h
            refine E.up (fun _ _ hJ => J_lsw (dflt := 164) (ps := #[(45, 143), (46, 51), (47, 102), (60, 157), (61, 157)]) (len := 51) (off := 157) (tgt := 158) (by decide +kernel) (by decide) (by rw [b22]; rfl) (by decide) hJ) ?_
            refine E_blk (lv' := [some (vr (some (6, this))), some (vi a1), some (vi a2), none]) (st' := [vi a2, vi a1, vr (some (6, this))]) (M1 := M) (pc' := 161) (tb_Machine hγ) [.aload_n 0, .iload_n 1, .iload_n 2] (by decide +kernel) rfl rfl trivial ?_
            refine E_callV (κ' := k_Machine_lock) (As := [vi a1, vi a2]) (st := []) mv_Machine_lock (Or.inl (tbk_mem (j := 9) (k := 95) rfl)) rfl (by decide +kernel) (Nat.le_of_ble_eq_true rfl) (Nat.le_of_ble_eq_true rfl) rfl (by decide) (lk_Machine_lock hγ this a1 a2 _ M h) (fun _ _ => Qi_r) (fun v M23 hp => Qi_k (R := fun st => E γ k_Machine_inThing 126 164 [some (vr (some (6, this))), some (vi a1), some (vi a2), none] st M23 (Qi Q)) hp (fun r24 h => ?_))
            exact E_zret rfl h.1 (by decide +kernel) h.2
          · rw [if_neg b22] at h
            refine E.up (fun _ _ hJ => J_lsw (dflt := 164) (ps := #[(45, 143), (46, 51), (47, 102), (60, 157), (61, 157)]) (len := 51) (off := 164) (tgt := 165) (by decide +kernel) (by decide) ?_ (by decide) hJ) ?_
            · show Op.lookupswitch.offset [(45, 143), (46, 51), (47, 102), (60, 157), (61, 157)] (164) (a1).toInt = _
              rw [lv_osw (a := 45) b18 rfl, lv_osw (a := 46) b19 rfl, lv_osw (a := 47) b20 rfl, lv_osw (a := 60) b21 rfl, lv_osw (a := 61) b22 rfl]; rfl
            · refine E_blk (lv' := [some (vr (some (6, this))), some (vi a1), some (vi a2), none]) (st' := [vi (44 : Int32), vi a1, vr (some (6, this))]) (M1 := M) (pc' := 169) (tb_Machine hγ) [.aload_n 0, .iload_n 1, .bipush 44] (by decide +kernel) rfl rfl trivial ?_
              refine E_icmp_ne (off := 7) (tgt := 176) (by decide +kernel) (by decide) (fun b1 => ?_) (fun b1 => ?_)
              · rw [if_pos b1] at h
                refine E_blk (lv' := [some (vr (some (6, this))), some (vi a1), some (vi a2), none]) (st' := [vi (1 : Int32), vr (some (6, this))]) (M1 := M) (pc' := 173) (tb_Machine hγ) [.iconst 1] (by decide +kernel) rfl rfl trivial ?_
                refine E_goto (off := 4) (tgt := 177) (by decide +kernel) (by decide) ?_
                refine E_mask [true, true, true, false] rfl ?_
                exact lk_Machine_inThing_j177 hγ this Q a1 a2 (1 : Int32) M h
              · rw [if_neg b1] at h
                refine E_blk (lv' := [some (vr (some (6, this))), some (vi a1), some (vi a2), none]) (st' := [vi (0 : Int32), vr (some (6, this))]) (M1 := M) (pc' := 177) (tb_Machine hγ) [.iconst 0] (by decide +kernel) rfl rfl trivial ?_
                refine E_mask [true, true, true, false] rfl ?_
                exact lk_Machine_inThing_j177 hγ this Q a1 a2 (0 : Int32) M h
def w_Machine_things_j178 (this : Nat) (Q : Mem → Prop) (v1 : Int32) (v4 : Int32) (M : Mem) : Prop :=
  w_Machine_goesTo this v1 v4 (fun M5 => Q M5) M
def w_Machine_things_j12 (this : Nat) (Q : Mem → Prop) (v1 : Int32) (v3 : Int32) (v4 : Int32) (M : Mem) : Prop :=
  w_Machine_makes this v3 (fun r3 M2 => if r3 = 0 then (Q M2) else (w_Machine_things_j178 this Q v1 v4 M2)) M
def w_Machine_things_j111 (this : Nat) (Q : Mem → Prop) (v1 : Int32) (v4 : Int32) (s0 : Int32) (s1 : Int32) (M : Mem) : Prop :=
  w_Machine_things_j178 this Q v1 v4 (sI M 6 this 34 (s1 - s0))
def w_Machine_things_j95 (this : Nat) (Q : Mem → Prop) (v1 : Int32) (v3 : Int32) (v4 : Int32) (M : Mem) : Prop :=
  if v3 = (49 : Int32) then (w_Machine_things_j111 this Q v1 v4 (1 : Int32) (mI M 6 this 34) M) else (w_Machine_things_j111 this Q v1 v4 (0 : Int32) (mI M 6 this 34) M)
def w_Machine_things_j72 (this : Nat) (Q : Mem → Prop) (v1 : Int32) (v3 : Int32) (v4 : Int32) (s0 : Int32) (s1 : Int32) (M : Mem) : Prop :=
  w_Machine_push this s1 s0 (fun M12 => w_Machine_things_j95 this Q v1 v3 v4 M12) M
def w_Machine_things_j33 (this : Nat) (Q : Mem → Prop) (v1 : Int32) (v3 : Int32) (v4 : Int32) (M : Mem) : Prop :=
  if v3 = (48 : Int32) then (vp_in (mI M 6 this 36) (mL M 54 this) ∧ vp_in (mI M 6 this 36) (mL M 50 this) ∧ if (mI M 50 this (mI M 6 this 36).toNatClampNeg) = 0 then (w_Machine_things_j72 this Q v1 v3 v4 (0 : Int32) (mI M 54 this (mI M 6 this 36).toNatClampNeg) M) else (w_Machine_things_j72 this Q v1 v3 v4 (1 : Int32) (mI M 54 this (mI M 6 this 36).toNatClampNeg) M)) else (w_Machine_number this (0 : Int32) (fun r15 M14 => vp_in (mI M 6 this 36) (mL M14 54 this) ∧ w_Machine_things_j95 this Q v1 v3 v4 (sI M14 54 this (mI M 6 this 36).toNatClampNeg r15)) M)
def w_Machine_things_j145 (this : Nat) (Q : Mem → Prop) (v1 : Int32) (v3 : Int32) (v4 : Int32) (s0 : Int32) (M : Mem) : Prop :=
  w_Machine_number this s0 (fun r20 M19 => if r20 = 0 then (w_Machine_fail this (2 : Int32) (0 : Int32) (fun M22 => Q M22) M19) else (w_Machine_inThing this v3 r20 (fun r24 M23 => if r24 = 0 then (Q M23) else (w_Machine_things_j178 this Q v1 v4 M23)) M19)) M
def w_Machine_things_j140 (this : Nat) (Q : Mem → Prop) (v1 : Int32) (v3 : Int32) (v4 : Int32) (M : Mem) : Prop :=
  w_Machine_things_j145 this Q v1 v3 v4 (1 : Int32) M
def w_Machine_things (this : Nat) (a1 : Int32) (a2 : Int32) (a3 : Int32) (a4 : Int32) (Q : Mem → Prop) (M : Mem) : Prop :=
  if a3 = (41 : Int32) then (w_Machine_things_j12 this Q a1 a3 a4 M) else (if a3 = (42 : Int32) then (w_Machine_things_j12 this Q a1 a3 a4 M) else (if a3 = (48 : Int32) then (w_Machine_things_j33 this Q a1 a3 a4 M) else (if a3 = (49 : Int32) then (w_Machine_things_j33 this Q a1 a3 a4 M) else (if a3 = (44 : Int32) then (w_Machine_things_j145 this Q a1 a3 a4 (2 : Int32) M) else (if a3 = (43 : Int32) then (w_Machine_things_j140 this Q a1 a3 a4 M) else (if a3 = (47 : Int32) then (w_Machine_things_j140 this Q a1 a3 a4 M) else (w_Machine_things_j145 this Q a1 a3 a4 (0 : Int32) M)))))))
set_option maxRecDepth 4096 in
theorem lk_Machine_things_j178 {γ : Gm} (hγ : Gk γ) (this : Nat) (Q : Mem → Prop) (v1 : Int32) (v4 : Int32) (M : Mem) (h : w_Machine_things_j178 this Q v1 v4 M) : E γ k_Machine_things 127 178 [some (vr (some (6, this))), some (vi v1), none, none, some (vi v4), none, none] [] M (Qv Q) := by
  unfold w_Machine_things_j178 at h
  refine E_blk (lv' := [some (vr (some (6, this))), some (vi v1), none, none, some (vi v4), none, none]) (st' := [vi v4, vi v1, vr (some (6, this))]) (M1 := M) (pc' := 182) (tb_Machine hγ) [.aload_n 0, .iload_n 1, .iload 4] (by decide +kernel) rfl rfl trivial ?_
  refine E_callV (κ' := k_Machine_goesTo) (As := [vi v1, vi v4]) (st := []) mv_Machine_goesTo (Or.inl (tbk_mem (j := 9) (k := 70) rfl)) rfl (by decide +kernel) (Nat.le_of_ble_eq_true rfl) (Nat.le_of_ble_eq_true rfl) rfl (by decide) (lk_Machine_goesTo hγ this v1 v4 _ M h) (fun _ _ => Qv_r) (fun v M5 hp => Qv_k (R := fun st => E γ k_Machine_things 127 185 [some (vr (some (6, this))), some (vi v1), none, none, some (vi v4), none, none] st M5 (Qv Q)) hp (fun h => ?_))
  exact E_vret rfl (by decide +kernel) h
set_option maxRecDepth 4096 in
theorem lk_Machine_things_j12 {γ : Gm} (hγ : Gk γ) (this : Nat) (Q : Mem → Prop) (v1 : Int32) (v3 : Int32) (v4 : Int32) (M : Mem) (h : w_Machine_things_j12 this Q v1 v3 v4 M) : E γ k_Machine_things 127 12 [some (vr (some (6, this))), some (vi v1), none, some (vi v3), some (vi v4), none, none] [] M (Qv Q) := by
  unfold w_Machine_things_j12 at h
  refine E_blk (lv' := [some (vr (some (6, this))), some (vi v1), none, some (vi v3), some (vi v4), none, none]) (st' := [vi v3, vr (some (6, this))]) (M1 := M) (pc' := 14) (tb_Machine hγ) [.aload_n 0, .iload_n 3] (by decide +kernel) rfl rfl trivial ?_
  refine E_callV (κ' := k_Machine_makes) (As := [vi v3]) (st := []) mv_Machine_makes (Or.inl (tbk_mem (j := 9) (k := 86) rfl)) rfl (by decide +kernel) (Nat.le_of_ble_eq_true rfl) (Nat.le_of_ble_eq_true rfl) rfl (by decide) (lk_Machine_makes hγ this v3 _ M h) (fun _ _ => Qi_r) (fun v M2 hp => Qi_k (R := fun st => E γ k_Machine_things 127 17 [some (vr (some (6, this))), some (vi v1), none, some (vi v3), some (vi v4), none, none] st M2 (Qv Q)) hp (fun r3 h => ?_))
  refine E_if_ne (off := 161) (tgt := 178) (by decide +kernel) (by decide) (fun b4 => ?_) (fun b4 => ?_)
  · rw [if_pos b4] at h
    exact E_vret rfl (by decide +kernel) h
  · rw [if_neg b4] at h
    refine E_mask [true, true, false, false, true, false, false] rfl ?_
    exact lk_Machine_things_j178 hγ this Q v1 v4 M2 h
set_option maxRecDepth 4096 in
theorem lk_Machine_things_j111 {γ : Gm} (hγ : Gk γ) (this : Nat) (Q : Mem → Prop) (v1 : Int32) (v4 : Int32) (s0 : Int32) (s1 : Int32) (M : Mem) (h : w_Machine_things_j111 this Q v1 v4 s0 s1 M) : E γ k_Machine_things 127 111 [some (vr (some (6, this))), some (vi v1), none, none, some (vi v4), none, none] [vi s0, vi s1, vr (some (6, this))] M (Qv Q) := by
  unfold w_Machine_things_j111 at h
  refine E_blk (lv' := [some (vr (some (6, this))), some (vi v1), none, none, some (vi v4), none, none]) (st' := []) (M1 := (sI M 6 this 34 (s1 - s0))) (pc' := 115) (tb_Machine hγ) [.isub, .putfield 405] (by decide +kernel) rfl rfl trivial ?_
  refine E_goto (off := 63) (tgt := 178) (by decide +kernel) (by decide) ?_
  refine E_mask [true, true, false, false, true, false, false] rfl ?_
  exact lk_Machine_things_j178 hγ this Q v1 v4 (sI M 6 this 34 (s1 - s0)) h
set_option maxRecDepth 4096 in
theorem lk_Machine_things_j95 {γ : Gm} (hγ : Gk γ) (this : Nat) (Q : Mem → Prop) (v1 : Int32) (v3 : Int32) (v4 : Int32) (M : Mem) (h : w_Machine_things_j95 this Q v1 v3 v4 M) : E γ k_Machine_things 127 95 [some (vr (some (6, this))), some (vi v1), none, some (vi v3), some (vi v4), none, none] [] M (Qv Q) := by
  unfold w_Machine_things_j95 at h
  refine E_blk (lv' := [some (vr (some (6, this))), some (vi v1), none, some (vi v3), some (vi v4), none, none]) (st' := [vi (49 : Int32), vi v3, vi (mI M 6 this 34), vr (some (6, this))]) (M1 := M) (pc' := 103) (tb_Machine hγ) [.aload_n 0, .dup, .getfield 405, .iload_n 3, .bipush 49] (by decide +kernel) rfl rfl trivial ?_
  refine E_icmp_ne (off := 7) (tgt := 110) (by decide +kernel) (by decide) (fun b13 => ?_) (fun b13 => ?_)
  · rw [if_pos b13] at h
    refine E_blk (lv' := [some (vr (some (6, this))), some (vi v1), none, some (vi v3), some (vi v4), none, none]) (st' := [vi (1 : Int32), vi (mI M 6 this 34), vr (some (6, this))]) (M1 := M) (pc' := 107) (tb_Machine hγ) [.iconst 1] (by decide +kernel) rfl rfl trivial ?_
    refine E_goto (off := 4) (tgt := 111) (by decide +kernel) (by decide) ?_
    refine E_mask [true, true, false, false, true, false, false] rfl ?_
    exact lk_Machine_things_j111 hγ this Q v1 v4 (1 : Int32) (mI M 6 this 34) M h
  · rw [if_neg b13] at h
    refine E_blk (lv' := [some (vr (some (6, this))), some (vi v1), none, some (vi v3), some (vi v4), none, none]) (st' := [vi (0 : Int32), vi (mI M 6 this 34), vr (some (6, this))]) (M1 := M) (pc' := 111) (tb_Machine hγ) [.iconst 0] (by decide +kernel) rfl rfl trivial ?_
    refine E_mask [true, true, false, false, true, false, false] rfl ?_
    exact lk_Machine_things_j111 hγ this Q v1 v4 (0 : Int32) (mI M 6 this 34) M h
set_option maxRecDepth 4096 in
theorem lk_Machine_things_j72 {γ : Gm} (hγ : Gk γ) (this : Nat) (Q : Mem → Prop) (v1 : Int32) (v3 : Int32) (v4 : Int32) (s0 : Int32) (s1 : Int32) (M : Mem) (h : w_Machine_things_j72 this Q v1 v3 v4 s0 s1 M) : E γ k_Machine_things 127 72 [some (vr (some (6, this))), some (vi v1), none, some (vi v3), some (vi v4), none, none] [vi s0, vi s1, vr (some (6, this))] M (Qv Q) := by
  unfold w_Machine_things_j72 at h
  refine E_callV (κ' := k_Machine_push) (As := [vi s1, vi s0]) (st := []) mv_Machine_push (Or.inl (tbk_mem (j := 9) (k := 66) rfl)) rfl (by decide +kernel) (Nat.le_of_ble_eq_true rfl) (Nat.le_of_ble_eq_true rfl) rfl (by decide) (lk_Machine_push hγ this s1 s0 _ M h) (fun _ _ => Qv_r) (fun v M12 hp => Qv_k (R := fun st => E γ k_Machine_things 127 75 [some (vr (some (6, this))), some (vi v1), none, some (vi v3), some (vi v4), none, none] st M12 (Qv Q)) hp (fun h => ?_))
  refine E_goto (off := 20) (tgt := 95) (by decide +kernel) (by decide) ?_
  refine E_mask [true, true, false, true, true, false, false] rfl ?_
  exact lk_Machine_things_j95 hγ this Q v1 v3 v4 M12 h
set_option maxRecDepth 4096 in
theorem lk_Machine_things_j33 {γ : Gm} (hγ : Gk γ) (this : Nat) (Q : Mem → Prop) (v1 : Int32) (v3 : Int32) (v4 : Int32) (M : Mem) (h : w_Machine_things_j33 this Q v1 v3 v4 M) : E γ k_Machine_things 127 33 [some (vr (some (6, this))), some (vi v1), none, some (vi v3), some (vi v4), none, none] [] M (Qv Q) := by
  unfold w_Machine_things_j33 at h
  refine E_blk (lv' := [some (vr (some (6, this))), some (vi v1), none, some (vi v3), some (vi v4), none, none]) (st' := [vi (48 : Int32), vi v3]) (M1 := M) (pc' := 36) (tb_Machine hγ) [.iload_n 3, .bipush 48] (by decide +kernel) rfl rfl trivial ?_
  refine E_icmp_ne (off := 42) (tgt := 78) (by decide +kernel) (by decide) (fun b8 => ?_) (fun b8 => ?_)
  · rw [if_pos b8] at h
    obtain ⟨c9, c10, h⟩ := h
    refine E_blk (lv' := [some (vr (some (6, this))), some (vi v1), none, some (vi v3), some (vi v4), none, none]) (st' := [vi (mI M 50 this (mI M 6 this 36).toNatClampNeg), vi (mI M 54 this (mI M 6 this 36).toNatClampNeg), vr (some (6, this))]) (M1 := M) (pc' := 64) (tb_Machine hγ) [.aload_n 0, .aload_n 0, .getfield 84, .getfield 258, .aload_n 0, .getfield 418, .iaload, .aload_n 0, .getfield 84, .getfield 291, .aload_n 0, .getfield 418, .iaload] (by decide +kernel) rfl rfl ⟨c9, c10, trivial⟩ ?_
    refine E_if_eq (off := 7) (tgt := 71) (by decide +kernel) (by decide) (fun b11 => ?_) (fun b11 => ?_)
    · rw [if_pos b11] at h
      refine E_blk (lv' := [some (vr (some (6, this))), some (vi v1), none, some (vi v3), some (vi v4), none, none]) (st' := [vi (0 : Int32), vi (mI M 54 this (mI M 6 this 36).toNatClampNeg), vr (some (6, this))]) (M1 := M) (pc' := 72) (tb_Machine hγ) [.iconst 0] (by decide +kernel) rfl rfl trivial ?_
      refine E_mask [true, true, false, true, true, false, false] rfl ?_
      exact lk_Machine_things_j72 hγ this Q v1 v3 v4 (0 : Int32) (mI M 54 this (mI M 6 this 36).toNatClampNeg) M h
    · rw [if_neg b11] at h
      refine E_blk (lv' := [some (vr (some (6, this))), some (vi v1), none, some (vi v3), some (vi v4), none, none]) (st' := [vi (1 : Int32), vi (mI M 54 this (mI M 6 this 36).toNatClampNeg), vr (some (6, this))]) (M1 := M) (pc' := 68) (tb_Machine hγ) [.iconst 1] (by decide +kernel) rfl rfl trivial ?_
      refine E_goto (off := 4) (tgt := 72) (by decide +kernel) (by decide) ?_
      refine E_mask [true, true, false, true, true, false, false] rfl ?_
      exact lk_Machine_things_j72 hγ this Q v1 v3 v4 (1 : Int32) (mI M 54 this (mI M 6 this 36).toNatClampNeg) M h
  · rw [if_neg b8] at h
    refine E_blk (lv' := [some (vr (some (6, this))), some (vi v1), none, some (vi v3), some (vi v4), none, none]) (st' := [vi (0 : Int32), vr (some (6, this)), vi (mI M 6 this 36), vr (some (54, this))]) (M1 := M) (pc' := 91) (tb_Machine hγ) [.aload_n 0, .getfield 84, .getfield 258, .aload_n 0, .getfield 418, .aload_n 0, .iconst 0] (by decide +kernel) rfl rfl trivial ?_
    refine E_callV (κ' := k_Machine_number) (As := [vi (0 : Int32)]) (st := [vi (mI M 6 this 36), vr (some (54, this))]) mv_Machine_number (Or.inl (tbk_mem (j := 9) (k := 46) rfl)) rfl (by decide +kernel) (Nat.le_of_ble_eq_true rfl) (Nat.le_of_ble_eq_true rfl) rfl (by decide) (lk_Machine_number hγ this (0 : Int32) _ M h) (fun _ _ => Qi_r) (fun v M14 hp => Qi_k (R := fun st => E γ k_Machine_things 127 94 [some (vr (some (6, this))), some (vi v1), none, some (vi v3), some (vi v4), none, none] st M14 (Qv Q)) hp (fun r15 h => ?_))
    obtain ⟨c16, h⟩ := h
    refine E_blk (lv' := [some (vr (some (6, this))), some (vi v1), none, some (vi v3), some (vi v4), none, none]) (st' := []) (M1 := (sI M14 54 this (mI M 6 this 36).toNatClampNeg r15)) (pc' := 95) (tb_Machine hγ) [.iastore] (by decide +kernel) rfl rfl ⟨c16, trivial⟩ ?_
    refine E_mask [true, true, false, true, true, false, false] rfl ?_
    exact lk_Machine_things_j95 hγ this Q v1 v3 v4 (sI M14 54 this (mI M 6 this 36).toNatClampNeg r15) h
set_option maxRecDepth 4096 in
theorem lk_Machine_things_j145 {γ : Gm} (hγ : Gk γ) (this : Nat) (Q : Mem → Prop) (v1 : Int32) (v3 : Int32) (v4 : Int32) (s0 : Int32) (M : Mem) (h : w_Machine_things_j145 this Q v1 v3 v4 s0 M) : E γ k_Machine_things 127 145 [some (vr (some (6, this))), some (vi v1), none, some (vi v3), some (vi v4), none, none] [vi s0] M (Qv Q) := by
  unfold w_Machine_things_j145 at h
  refine E_blk (lv' := [some (vr (some (6, this))), some (vi v1), none, some (vi v3), some (vi v4), some (vi s0), none]) (st' := [vi s0, vr (some (6, this))]) (M1 := M) (pc' := 150) (tb_Machine hγ) [.istore 5, .aload_n 0, .iload 5] (by decide +kernel) rfl rfl trivial ?_
  refine E_callV (κ' := k_Machine_number) (As := [vi s0]) (st := []) mv_Machine_number (Or.inl (tbk_mem (j := 9) (k := 46) rfl)) rfl (by decide +kernel) (Nat.le_of_ble_eq_true rfl) (Nat.le_of_ble_eq_true rfl) rfl (by decide) (lk_Machine_number hγ this s0 _ M h) (fun _ _ => Qi_r) (fun v M19 hp => Qi_k (R := fun st => E γ k_Machine_things 127 153 [some (vr (some (6, this))), some (vi v1), none, some (vi v3), some (vi v4), some (vi s0), none] st M19 (Qv Q)) hp (fun r20 h => ?_))
  refine E_blk (lv' := [some (vr (some (6, this))), some (vi v1), none, some (vi v3), some (vi v4), some (vi s0), some (vi r20)]) (st' := [vi r20]) (M1 := M19) (pc' := 157) (tb_Machine hγ) [.istore 6, .iload 6] (by decide +kernel) rfl rfl trivial ?_
  refine E_if_ne (off := 10) (tgt := 167) (by decide +kernel) (by decide) (fun b21 => ?_) (fun b21 => ?_)
  · rw [if_pos b21] at h
    refine E_blk (lv' := [some (vr (some (6, this))), some (vi v1), none, some (vi v3), some (vi v4), some (vi s0), some (vi r20)]) (st' := [vi (0 : Int32), vi (2 : Int32), vr (some (6, this))]) (M1 := M19) (pc' := 163) (tb_Machine hγ) [.aload_n 0, .iconst 2, .iconst 0] (by decide +kernel) rfl rfl trivial ?_
    refine E_callV (κ' := k_Machine_fail) (As := [vi (2 : Int32), vi (0 : Int32)]) (st := []) mv_Machine_fail (Or.inl (tbk_mem (j := 8) (k := 190) rfl)) rfl (by decide +kernel) (Nat.le_of_ble_eq_true rfl) (Nat.le_of_ble_eq_true rfl) rfl (by decide) (lk_Machine_fail hγ this (2 : Int32) (0 : Int32) _ M19 h) (fun _ _ => Qv_r) (fun v M22 hp => Qv_k (R := fun st => E γ k_Machine_things 127 166 [some (vr (some (6, this))), some (vi v1), none, some (vi v3), some (vi v4), some (vi s0), some (vi r20)] st M22 (Qv Q)) hp (fun h => ?_))
    exact E_vret rfl (by decide +kernel) h
  · rw [if_neg b21] at h
    refine E_blk (lv' := [some (vr (some (6, this))), some (vi v1), none, some (vi v3), some (vi v4), some (vi s0), some (vi r20)]) (st' := [vi r20, vi v3, vr (some (6, this))]) (M1 := M19) (pc' := 171) (tb_Machine hγ) [.aload_n 0, .iload_n 3, .iload 6] (by decide +kernel) rfl rfl trivial ?_
    refine E_callV (κ' := k_Machine_inThing) (As := [vi v3, vi r20]) (st := []) mv_Machine_inThing (Or.inl (tbk_mem (j := 9) (k := 91) rfl)) rfl (by decide +kernel) (Nat.le_of_ble_eq_true rfl) (Nat.le_of_ble_eq_true rfl) rfl (by decide) (lk_Machine_inThing hγ this v3 r20 _ M19 h) (fun _ _ => Qi_r) (fun v M23 hp => Qi_k (R := fun st => E γ k_Machine_things 127 174 [some (vr (some (6, this))), some (vi v1), none, some (vi v3), some (vi v4), some (vi s0), some (vi r20)] st M23 (Qv Q)) hp (fun r24 h => ?_))
    refine E_if_ne (off := 4) (tgt := 178) (by decide +kernel) (by decide) (fun b25 => ?_) (fun b25 => ?_)
    · rw [if_pos b25] at h
      exact E_vret rfl (by decide +kernel) h
    · rw [if_neg b25] at h
      refine E_mask [true, true, false, false, true, false, false] rfl ?_
      exact lk_Machine_things_j178 hγ this Q v1 v4 M23 h
set_option maxRecDepth 4096 in
theorem lk_Machine_things_j140 {γ : Gm} (hγ : Gk γ) (this : Nat) (Q : Mem → Prop) (v1 : Int32) (v3 : Int32) (v4 : Int32) (M : Mem) (h : w_Machine_things_j140 this Q v1 v3 v4 M) : E γ k_Machine_things 127 140 [some (vr (some (6, this))), some (vi v1), none, some (vi v3), some (vi v4), none, none] [] M (Qv Q) := by
  unfold w_Machine_things_j140 at h
  refine E_blk (lv' := [some (vr (some (6, this))), some (vi v1), none, some (vi v3), some (vi v4), none, none]) (st' := [vi (1 : Int32)]) (M1 := M) (pc' := 141) (tb_Machine hγ) [.iconst 1] (by decide +kernel) rfl rfl trivial ?_
  refine E_goto (off := 4) (tgt := 145) (by decide +kernel) (by decide) ?_
  refine E_mask [true, true, false, true, true, false, false] rfl ?_
  exact lk_Machine_things_j145 hγ this Q v1 v3 v4 (1 : Int32) M h
set_option maxRecDepth 4096 in
theorem lk_Machine_things {γ : Gm} (hγ : Gk γ) (this : Nat) (a1 : Int32) (a2 : Int32) (a3 : Int32) (a4 : Int32) (Q : Mem → Prop) (M : Mem) (h : w_Machine_things this a1 a2 a3 a4 Q M) : E γ k_Machine_things 127 0 [some (vr (some (6, this))), some (vi a1), some (vi a2), some (vi a3), some (vi a4), none, none] [] M (Qv Q) := by
  unfold w_Machine_things at h
  refine E_blk (lv' := [some (vr (some (6, this))), some (vi a1), some (vi a2), some (vi a3), some (vi a4), none, none]) (st' := [vi (41 : Int32), vi a3]) (M1 := M) (pc' := 3) (tb_Machine hγ) [.iload_n 3, .bipush 41] (by decide +kernel) rfl rfl trivial ?_
  refine E_icmp_eq (off := 9) (tgt := 12) (by decide +kernel) (by decide) (fun b1 => ?_) (fun b1 => ?_)
  · rw [if_pos b1] at h
    refine E_mask [true, true, false, true, true, false, false] rfl ?_
    exact lk_Machine_things_j12 hγ this Q a1 a3 a4 M h
  · rw [if_neg b1] at h
    refine E_blk (lv' := [some (vr (some (6, this))), some (vi a1), some (vi a2), some (vi a3), some (vi a4), none, none]) (st' := [vi (42 : Int32), vi a3]) (M1 := M) (pc' := 9) (tb_Machine hγ) [.iload_n 3, .bipush 42] (by decide +kernel) rfl rfl trivial ?_
    refine E_icmp_ne (off := 12) (tgt := 21) (by decide +kernel) (by decide) (fun b6 => ?_) (fun b6 => ?_)
    · rw [if_pos b6] at h
      refine E_mask [true, true, false, true, true, false, false] rfl ?_
      exact lk_Machine_things_j12 hγ this Q a1 a3 a4 M h
    · rw [if_neg b6] at h
      refine E_blk (lv' := [some (vr (some (6, this))), some (vi a1), some (vi a2), some (vi a3), some (vi a4), none, none]) (st' := [vi (48 : Int32), vi a3]) (M1 := M) (pc' := 24) (tb_Machine hγ) [.iload_n 3, .bipush 48] (by decide +kernel) rfl rfl trivial ?_
      refine E_icmp_eq (off := 9) (tgt := 33) (by decide +kernel) (by decide) (fun b7 => ?_) (fun b7 => ?_)
      · rw [if_pos b7] at h
        refine E_mask [true, true, false, true, true, false, false] rfl ?_
        exact lk_Machine_things_j33 hγ this Q a1 a3 a4 M h
      · rw [if_neg b7] at h
        refine E_blk (lv' := [some (vr (some (6, this))), some (vi a1), some (vi a2), some (vi a3), some (vi a4), none, none]) (st' := [vi (49 : Int32), vi a3]) (M1 := M) (pc' := 30) (tb_Machine hγ) [.iload_n 3, .bipush 49] (by decide +kernel) rfl rfl trivial ?_
        refine E_icmp_ne (off := 88) (tgt := 118) (by decide +kernel) (by decide) (fun b17 => ?_) (fun b17 => ?_)
        · rw [if_pos b17] at h
          refine E_mask [true, true, false, true, true, false, false] rfl ?_
          exact lk_Machine_things_j33 hγ this Q a1 a3 a4 M h
        · rw [if_neg b17] at h
          refine E_blk (lv' := [some (vr (some (6, this))), some (vi a1), some (vi a2), some (vi a3), some (vi a4), none, none]) (st' := [vi (44 : Int32), vi a3]) (M1 := M) (pc' := 121) (tb_Machine hγ) [.iload_n 3, .bipush 44] (by decide +kernel) rfl rfl trivial ?_
          refine E_icmp_ne (off := 7) (tgt := 128) (by decide +kernel) (by decide) (fun b18 => ?_) (fun b18 => ?_)
          · rw [if_pos b18] at h
            refine E_blk (lv' := [some (vr (some (6, this))), some (vi a1), some (vi a2), some (vi a3), some (vi a4), none, none]) (st' := [vi (2 : Int32)]) (M1 := M) (pc' := 125) (tb_Machine hγ) [.iconst 2] (by decide +kernel) rfl rfl trivial ?_
            refine E_goto (off := 20) (tgt := 145) (by decide +kernel) (by decide) ?_
            refine E_mask [true, true, false, true, true, false, false] rfl ?_
            exact lk_Machine_things_j145 hγ this Q a1 a3 a4 (2 : Int32) M h
          · rw [if_neg b18] at h
            refine E_blk (lv' := [some (vr (some (6, this))), some (vi a1), some (vi a2), some (vi a3), some (vi a4), none, none]) (st' := [vi (43 : Int32), vi a3]) (M1 := M) (pc' := 131) (tb_Machine hγ) [.iload_n 3, .bipush 43] (by decide +kernel) rfl rfl trivial ?_
            refine E_icmp_eq (off := 9) (tgt := 140) (by decide +kernel) (by decide) (fun b26 => ?_) (fun b26 => ?_)
            · rw [if_pos b26] at h
              refine E_mask [true, true, false, true, true, false, false] rfl ?_
              exact lk_Machine_things_j140 hγ this Q a1 a3 a4 M h
            · rw [if_neg b26] at h
              refine E_blk (lv' := [some (vr (some (6, this))), some (vi a1), some (vi a2), some (vi a3), some (vi a4), none, none]) (st' := [vi (47 : Int32), vi a3]) (M1 := M) (pc' := 137) (tb_Machine hγ) [.iload_n 3, .bipush 47] (by decide +kernel) rfl rfl trivial ?_
              refine E_icmp_ne (off := 7) (tgt := 144) (by decide +kernel) (by decide) (fun b27 => ?_) (fun b27 => ?_)
              · rw [if_pos b27] at h
                refine E_mask [true, true, false, true, true, false, false] rfl ?_
                exact lk_Machine_things_j140 hγ this Q a1 a3 a4 M h
              · rw [if_neg b27] at h
                refine E_blk (lv' := [some (vr (some (6, this))), some (vi a1), some (vi a2), some (vi a3), some (vi a4), none, none]) (st' := [vi (0 : Int32)]) (M1 := M) (pc' := 145) (tb_Machine hγ) [.iconst 0] (by decide +kernel) rfl rfl trivial ?_
                refine E_mask [true, true, false, true, true, false, false] rfl ?_
                exact lk_Machine_things_j145 hγ this Q a1 a3 a4 (0 : Int32) M h
def w_Machine_calls_j181 (this : Nat) (Q : Mem → Prop)  (M : Mem) : Prop :=
  w_Machine_fail this (18 : Int32) (58 : Int32) (fun M6 => Q M6) M
def w_Machine_calls_L286 (this : Nat) (Q : Mem → Prop) : Nat → Int32 → Int32 → Int32 → Int32 → Int32 → Mem → Prop
  | 0, _, _, _, _, _, _ => False
  | n + 1, v1, v7, v8, v9, v10, M => if v7 ≤ v10 then (∃ i17, (mR M 6 this 2) = some (7, i17) ∧ vp_in v1 (mL M 91 i17) ∧ Q (sI M 91 i17 v1.toNatClampNeg ((mI M 6 this 34) - v7))) else (∃ i19, (mR M 6 this 2) = some (7, i19) ∧ vp_in (v9 + v10) (mL M 94 i19) ∧ ∃ i21, (mR M 6 this 2) = some (7, i21) ∧ vp_in (v9 + v10) (mL M 514 i21) ∧ w_Machine_set this (v8 + v10) (mI M 94 i19 (v9 + v10).toNatClampNeg) (mI M 514 i21 (v9 + v10).toNatClampNeg) (fun M23 => (w_Machine_calls_L286 this Q n) v1 v7 v8 v9 (v10 + (1 : Int32)) M23) M)
def w_Machine_calls_j202 (this : Nat) (Q : Mem → Prop) (v1 : Int32) (v5 : Int32) (s0 : Int32) (s1 : Int32) (M : Mem) : Prop :=
  vp_in v5 (mL M 55 this) ∧ if (21 : Int32) ≤ (mI M 55 this v5.toNatClampNeg) then (w_Machine_enter this v5 (fun r13 M12 => if r13 = 0 then (Q M12) else (∃ x15 : Int32, x15 = ((((mI M12 6 this 33) + (20 : Int32)) + (mI M12 6 this 34)) - (s1 + s0)) ∧ ∃ n24 : Nat, w_Machine_calls_L286 this Q n24 v1 (s1 + s0) ((40 : Int32) * (v1 + (1 : Int32))) x15 (0 : Int32) M12)) M) else (∃ i25, (mR (sI M 6 this 34 ((mI M 6 this 34) - (s1 + s0))) 6 this 2) = some (7, i25) ∧ vp_in v1 (mL (sI M 6 this 34 ((mI M 6 this 34) - (s1 + s0))) 90 i25) ∧ w_Machine_goesTo this v1 ((mI (sI M 6 this 34 ((mI M 6 this 34) - (s1 + s0))) 90 i25 v1.toNatClampNeg) + (1 : Int32)) (fun M27 => Q M27) (sI M 6 this 34 ((mI M 6 this 34) - (s1 + s0))))
def w_Machine_calls_j160 (this : Nat) (Q : Mem → Prop) (v1 : Int32) (v4 : Int32) (v5 : Int32) (v6 : Int32) (M : Mem) : Prop :=
  if v5 < 0 then (w_Machine_calls_j181 this Q  M) else (vp_in v5 (mL M 57 this) ∧ if ((mI M 57 this v5.toNatClampNeg) &&& (8 : Int32)) = 0 then (if v6 = 0 then (w_Machine_calls_j202 this Q v1 v5 (0 : Int32) v4 M) else (w_Machine_calls_j202 this Q v1 v5 (1 : Int32) v4 M)) else (w_Machine_calls_j181 this Q  M))
def w_Machine_calls_j143 (this : Nat) (Q : Mem → Prop) (v1 : Int32) (v2 : Int32) (v4 : Int32) (v6 : Int32) (v7 : Int32) (M : Mem) : Prop :=
  w_Machine_classOf this v7 (fun r50 M49 => w_World_method this r50 v2 (5 : Int32) (fun r52 M51 => w_Machine_calls_j160 this Q v1 v4 r52 v6 M51) M49) M
def w_Machine_calls_j86 (this : Nat) (Q : Mem → Prop) (v1 : Int32) (v2 : Int32) (v3 : Int32) (v4 : Int32) (v5 : Int32) (v6 : Int32) (v7 : Int32) (s0 : Int32) (M : Mem) : Prop :=
  if s0 = 0 then (w_Machine_calls_j160 this Q v1 v4 v5 v6 M) else (if v3 = (53 : Int32) then (w_Machine_classOf this v7 (fun r38 M37 => w_JMath_max r38 (0 : Int32) (fun r40 M39 => w_World_refClass this v2 (fun r42 M41 => w_World_find this r42 (fun r44 M43 => w_World_isBelow this r40 r44 (fun r46 M45 => if r46 = 0 then (w_Machine_fail this (15 : Int32) (59 : Int32) (fun M48 => Q M48) M45) else (w_Machine_calls_j143 this Q v1 v2 v4 v6 v7 M45)) M43) M41) M39) M37) M) else (w_Machine_calls_j143 this Q v1 v2 v4 v6 v7 M))
def w_Machine_calls_j85 (this : Nat) (Q : Mem → Prop) (v1 : Int32) (v2 : Int32) (v3 : Int32) (v4 : Int32) (v5 : Int32) (v6 : Int32) (v7 : Int32) (M : Mem) : Prop :=
  w_Machine_calls_j86 this Q v1 v2 v3 v4 v5 v6 v7 (0 : Int32) M
def w_Machine_calls_j66 (this : Nat) (Q : Mem → Prop) (v1 : Int32) (v2 : Int32) (v3 : Int32) (v4 : Int32) (v5 : Int32) (v6 : Int32) (v7 : Int32) (M : Mem) : Prop :=
  vp_in v5 (mL M 57 this) ∧ if ((mI M 57 this v5.toNatClampNeg) &&& (4 : Int32)) = 0 then (w_Machine_calls_j86 this Q v1 v2 v3 v4 v5 v6 v7 (1 : Int32) M) else (w_Machine_calls_j85 this Q v1 v2 v3 v4 v5 v6 v7 M)
def w_Machine_calls_j27 (this : Nat) (Q : Mem → Prop) (v1 : Int32) (v2 : Int32) (v3 : Int32) (v4 : Int32) (v5 : Int32) (s0 : Int32) (M : Mem) : Prop :=
  if s0 = 0 then (w_Machine_calls_j160 this Q v1 v4 v5 s0 M) else (w_Machine_number this v4 (fun r29 M28 => if r29 = 0 then (w_Machine_fail this (2 : Int32) (0 : Int32) (fun M31 => Q M31) M28) else (if v3 = (50 : Int32) then (w_Machine_calls_j66 this Q v1 v2 v3 v4 v5 s0 r29 M28) else (if v3 = (53 : Int32) then (w_Machine_calls_j66 this Q v1 v2 v3 v4 v5 s0 r29 M28) else (w_Machine_calls_j85 this Q v1 v2 v3 v4 v5 s0 r29 M28)))) M)
def w_Machine_calls (this : Nat) (a1 : Int32) (a2 : Int32) (a3 : Int32) (Q : Mem → Prop) (M : Mem) : Prop :=
  w_World_refArguments this a2 (fun r2 M1 => if a3 = (52 : Int32) then (w_Machine_calls_j27 this Q a1 a2 a3 r2 (mI M1 6 this 36) (0 : Int32) M1) else (w_Machine_calls_j27 this Q a1 a2 a3 r2 (mI M1 6 this 36) (1 : Int32) M1)) M
set_option maxRecDepth 4096 in
theorem lk_Machine_calls_j181 {γ : Gm} (hγ : Gk γ) (this : Nat) (Q : Mem → Prop)  (M : Mem) (h : w_Machine_calls_j181 this Q  M) : E γ k_Machine_calls 126 181 [some (vr (some (6, this))), none, none, none, none, none, none, none, none, none, none] [] M (Qv Q) := by
  unfold w_Machine_calls_j181 at h
  refine E_blk (lv' := [some (vr (some (6, this))), none, none, none, none, none, none, none, none, none, none]) (st' := [vi (58 : Int32), vi (18 : Int32), vr (some (6, this))]) (M1 := M) (pc' := 186) (tb_Machine hγ) [.aload_n 0, .bipush 18, .bipush 58] (by decide +kernel) rfl rfl trivial ?_
  refine E_callV (κ' := k_Machine_fail) (As := [vi (18 : Int32), vi (58 : Int32)]) (st := []) mv_Machine_fail (Or.inl (tbk_mem (j := 8) (k := 190) rfl)) rfl (by decide +kernel) (Nat.le_of_ble_eq_true rfl) (Nat.le_of_ble_eq_true rfl) rfl (by decide) (lk_Machine_fail hγ this (18 : Int32) (58 : Int32) _ M h) (fun _ _ => Qv_r) (fun v M6 hp => Qv_k (R := fun st => E γ k_Machine_calls 126 189 [some (vr (some (6, this))), none, none, none, none, none, none, none, none, none, none] st M6 (Qv Q)) hp (fun h => ?_))
  exact E_vret rfl (by decide +kernel) h
set_option maxRecDepth 4096 in
theorem lk_Machine_calls_L286 {γ : Gm} (hγ : Gk γ) (this : Nat) (Q : Mem → Prop) : ∀ (n : Nat) (v1 : Int32) (v7 : Int32) (v8 : Int32) (v9 : Int32) (v10 : Int32) (M : Mem), w_Machine_calls_L286 this Q n v1 v7 v8 v9 v10 M → E γ k_Machine_calls 126 286 [some (vr (some (6, this))), some (vi v1), none, none, none, none, none, some (vi v7), some (vi v8), some (vi v9), some (vi v10)] [] M (Qv Q) := by
  intro n
  induction n with
  | zero => intro v1 v7 v8 v9 v10 M h; exact h.elim
  | succ n ih =>
    intro v1 v7 v8 v9 v10 M h
    unfold w_Machine_calls_L286 at h
    refine E_blk (lv' := [some (vr (some (6, this))), some (vi v1), none, none, none, none, none, some (vi v7), some (vi v8), some (vi v9), some (vi v10)]) (st' := [vi v7, vi v10]) (M1 := M) (pc' := 290) (tb_Machine hγ) [.iload 10, .iload 7] (by decide +kernel) rfl rfl trivial ?_
    refine E_icmp_ge (off := 44) (tgt := 334) (by decide +kernel) (by decide) (fun b16 => ?_) (fun b16 => ?_)
    · rw [if_pos b16] at h
      refine E_blk (lv' := [some (vr (some (6, this))), some (vi v1), none, none, none, none, none, some (vi v7), some (vi v8), some (vi v9), some (vi v10)]) (st' := [vr (mR M 6 this 2)]) (M1 := M) (pc' := 338) (tb_Machine hγ) [.aload_n 0, .getfield 24] (by decide +kernel) rfl rfl trivial ?_
      obtain ⟨i17, ei17, h⟩ := h
      rw [ei17]
      obtain ⟨c18, h⟩ := h
      refine E_blk (lv' := [some (vr (some (6, this))), some (vi v1), none, none, none, none, none, some (vi v7), some (vi v8), some (vi v9), some (vi v10)]) (st' := []) (M1 := (sI M 91 i17 v1.toNatClampNeg ((mI M 6 this 34) - v7))) (pc' := 350) (tb_Machine hγ) [.getfield 233, .iload_n 1, .aload_n 0, .getfield 405, .iload 7, .isub, .iastore] (by decide +kernel) rfl rfl ⟨c18, trivial⟩ ?_
      exact E_vret rfl (by decide +kernel) h
    · rw [if_neg b16] at h
      refine E_blk (lv' := [some (vr (some (6, this))), some (vi v1), none, none, none, none, none, some (vi v7), some (vi v8), some (vi v9), some (vi v10)]) (st' := [vr (mR M 6 this 2), vi (v8 + v10), vr (some (6, this))]) (M1 := M) (pc' := 303) (tb_Machine hγ) [.aload_n 0, .iload 8, .iload 10, .iadd, .aload_n 0, .getfield 24] (by decide +kernel) rfl rfl trivial ?_
      obtain ⟨i19, ei19, h⟩ := h
      rw [ei19]
      obtain ⟨c20, h⟩ := h
      refine E_blk (lv' := [some (vr (some (6, this))), some (vi v1), none, none, none, none, none, some (vi v7), some (vi v8), some (vi v9), some (vi v10)]) (st' := [vr (mR M 6 this 2), vi (mI M 94 i19 (v9 + v10).toNatClampNeg), vi (v8 + v10), vr (some (6, this))]) (M1 := M) (pc' := 316) (tb_Machine hγ) [.getfield 218, .iload 9, .iload 10, .iadd, .iaload, .aload_n 0, .getfield 24] (by decide +kernel) rfl rfl ⟨c20, trivial⟩ ?_
      obtain ⟨i21, ei21, h⟩ := h
      rw [ei21]
      obtain ⟨c22, h⟩ := h
      refine E_blk (lv' := [some (vr (some (6, this))), some (vi v1), none, none, none, none, none, some (vi v7), some (vi v8), some (vi v9), some (vi v10)]) (st' := [vi (mI M 514 i21 (v9 + v10).toNatClampNeg), vi (mI M 94 i19 (v9 + v10).toNatClampNeg), vi (v8 + v10), vr (some (6, this))]) (M1 := M) (pc' := 325) (tb_Machine hγ) [.getfield 221, .iload 9, .iload 10, .iadd, .baload] (by decide +kernel) rfl rfl ⟨c22, trivial⟩ ?_
      refine E_callV (κ' := k_Machine_set) (As := [vi (v8 + v10), vi (mI M 94 i19 (v9 + v10).toNatClampNeg), vi (mI M 514 i21 (v9 + v10).toNatClampNeg)]) (st := []) mv_Machine_set (Or.inl (tbk_mem (j := 8) (k := 219) rfl)) rfl (by decide +kernel) (Nat.le_of_ble_eq_true rfl) (Nat.le_of_ble_eq_true rfl) rfl (by decide) (lk_Machine_set hγ this (v8 + v10) (mI M 94 i19 (v9 + v10).toNatClampNeg) (mI M 514 i21 (v9 + v10).toNatClampNeg) _ M h) (fun _ _ => Qv_r) (fun v M23 hp => Qv_k (R := fun st => E γ k_Machine_calls 126 328 [some (vr (some (6, this))), some (vi v1), none, none, none, none, none, some (vi v7), some (vi v8), some (vi v9), some (vi v10)] st M23 (Qv Q)) hp (fun h => ?_))
      refine E_blk (lv' := [some (vr (some (6, this))), some (vi v1), none, none, none, none, none, some (vi v7), some (vi v8), some (vi v9), some (vi (v10 + (1 : Int32)))]) (st' := []) (M1 := M23) (pc' := 331) (tb_Machine hγ) [.iinc 10 1] (by decide +kernel) rfl rfl trivial ?_
      refine E_goto (off := -45) (tgt := 286) (by decide +kernel) (by decide) ?_
      refine E_mask [true, true, false, false, false, false, false, true, true, true, true] rfl ?_
      exact ih v1 v7 v8 v9 (v10 + (1 : Int32)) M23 h
set_option maxRecDepth 4096 in
theorem lk_Machine_calls_j202 {γ : Gm} (hγ : Gk γ) (this : Nat) (Q : Mem → Prop) (v1 : Int32) (v5 : Int32) (s0 : Int32) (s1 : Int32) (M : Mem) (h : w_Machine_calls_j202 this Q v1 v5 s0 s1 M) : E γ k_Machine_calls 126 202 [some (vr (some (6, this))), some (vi v1), none, none, none, some (vi v5), none, none, none, none, none] [vi s0, vi s1] M (Qv Q) := by
  unfold w_Machine_calls_j202 at h
  obtain ⟨c10, h⟩ := h
  refine E_blk (lv' := [some (vr (some (6, this))), some (vi v1), none, none, none, some (vi v5), none, some (vi (s1 + s0)), none, none, none]) (st' := [vi (21 : Int32), vi (mI M 55 this v5.toNatClampNeg)]) (M1 := M) (pc' := 217) (tb_Machine hγ) [.iadd, .istore 7, .aload_n 0, .getfield 84, .getfield 142, .iload 5, .iaload, .bipush 21] (by decide +kernel) rfl rfl ⟨c10, trivial⟩ ?_
  refine E_icmp_ge (off := 31) (tgt := 248) (by decide +kernel) (by decide) (fun b11 => ?_) (fun b11 => ?_)
  · rw [if_pos b11] at h
    refine E_blk (lv' := [some (vr (some (6, this))), some (vi v1), none, none, none, some (vi v5), none, some (vi (s1 + s0)), none, none, none]) (st' := [vi v5, vr (some (6, this))]) (M1 := M) (pc' := 251) (tb_Machine hγ) [.aload_n 0, .iload 5] (by decide +kernel) rfl rfl trivial ?_
    refine E_callV (κ' := k_Machine_enter) (As := [vi v5]) (st := []) mv_Machine_enter (Or.inl (tbk_mem (j := 9) (k := 3) rfl)) rfl (by decide +kernel) (Nat.le_of_ble_eq_true rfl) (Nat.le_of_ble_eq_true rfl) rfl (by decide) (lk_Machine_enter hγ this v5 _ M h) (fun _ _ => Qi_r) (fun v M12 hp => Qi_k (R := fun st => E γ k_Machine_calls 126 254 [some (vr (some (6, this))), some (vi v1), none, none, none, some (vi v5), none, some (vi (s1 + s0)), none, none, none] st M12 (Qv Q)) hp (fun r13 h => ?_))
    refine E_if_ne (off := 4) (tgt := 258) (by decide +kernel) (by decide) (fun b14 => ?_) (fun b14 => ?_)
    · rw [if_pos b14] at h
      exact E_vret rfl (by decide +kernel) h
    · rw [if_neg b14] at h
      refine E_blk (lv' := [some (vr (some (6, this))), some (vi v1), none, none, none, some (vi v5), none, some (vi (s1 + s0)), some (vi ((40 : Int32) * (v1 + (1 : Int32)))), some (vi ((((mI M12 6 this 33) + (20 : Int32)) + (mI M12 6 this 34)) - (s1 + s0))), none]) (st' := []) (M1 := M12) (pc' := 283) (tb_Machine hγ) [.bipush 40, .iload_n 1, .iconst 1, .iadd, .imul, .istore 8, .aload_n 0, .getfield 402, .bipush 20, .iadd, .aload_n 0, .getfield 405, .iadd, .iload 7, .isub, .istore 9] (by decide +kernel) rfl rfl trivial ?_
      obtain ⟨x15, ex15, h⟩ := h
      rw [← ex15]
      refine E_blk (lv' := [some (vr (some (6, this))), some (vi v1), none, none, none, some (vi v5), none, some (vi (s1 + s0)), some (vi ((40 : Int32) * (v1 + (1 : Int32)))), some (vi x15), some (vi (0 : Int32))]) (st' := []) (M1 := M12) (pc' := 286) (tb_Machine hγ) [.iconst 0, .istore 10] (by decide +kernel) rfl rfl trivial ?_
      obtain ⟨n24, h⟩ := h
      refine E_mask [true, true, false, false, false, false, false, true, true, true, true] rfl ?_
      exact lk_Machine_calls_L286 hγ this Q n24 v1 (s1 + s0) ((40 : Int32) * (v1 + (1 : Int32))) x15 (0 : Int32) M12 h
  · rw [if_neg b11] at h
    refine E_blk (lv' := [some (vr (some (6, this))), some (vi v1), none, none, none, some (vi v5), none, some (vi (s1 + s0)), none, none, none]) (st' := [vr (mR (sI M 6 this 34 ((mI M 6 this 34) - (s1 + s0))) 6 this 2), vi v1, vr (some (6, this))]) (M1 := (sI M 6 this 34 ((mI M 6 this 34) - (s1 + s0)))) (pc' := 237) (tb_Machine hγ) [.aload_n 0, .dup, .getfield 405, .iload 7, .isub, .putfield 405, .aload_n 0, .iload_n 1, .aload_n 0, .getfield 24] (by decide +kernel) rfl rfl trivial ?_
    obtain ⟨i25, ei25, h⟩ := h
    rw [ei25]
    obtain ⟨c26, h⟩ := h
    refine E_blk (lv' := [some (vr (some (6, this))), some (vi v1), none, none, none, some (vi v5), none, some (vi (s1 + s0)), none, none, none]) (st' := [vi ((mI (sI M 6 this 34 ((mI M 6 this 34) - (s1 + s0))) 90 i25 v1.toNatClampNeg) + (1 : Int32)), vi v1, vr (some (6, this))]) (M1 := (sI M 6 this 34 ((mI M 6 this 34) - (s1 + s0)))) (pc' := 244) (tb_Machine hγ) [.getfield 230, .iload_n 1, .iaload, .iconst 1, .iadd] (by decide +kernel) rfl rfl ⟨c26, trivial⟩ ?_
    refine E_callV (κ' := k_Machine_goesTo) (As := [vi v1, vi ((mI (sI M 6 this 34 ((mI M 6 this 34) - (s1 + s0))) 90 i25 v1.toNatClampNeg) + (1 : Int32))]) (st := []) mv_Machine_goesTo (Or.inl (tbk_mem (j := 9) (k := 70) rfl)) rfl (by decide +kernel) (Nat.le_of_ble_eq_true rfl) (Nat.le_of_ble_eq_true rfl) rfl (by decide) (lk_Machine_goesTo hγ this v1 ((mI (sI M 6 this 34 ((mI M 6 this 34) - (s1 + s0))) 90 i25 v1.toNatClampNeg) + (1 : Int32)) _ (sI M 6 this 34 ((mI M 6 this 34) - (s1 + s0))) h) (fun _ _ => Qv_r) (fun v M27 hp => Qv_k (R := fun st => E γ k_Machine_calls 126 247 [some (vr (some (6, this))), some (vi v1), none, none, none, some (vi v5), none, some (vi (s1 + s0)), none, none, none] st M27 (Qv Q)) hp (fun h => ?_))
    exact E_vret rfl (by decide +kernel) h
set_option maxRecDepth 4096 in
theorem lk_Machine_calls_j160 {γ : Gm} (hγ : Gk γ) (this : Nat) (Q : Mem → Prop) (v1 : Int32) (v4 : Int32) (v5 : Int32) (v6 : Int32) (M : Mem) (h : w_Machine_calls_j160 this Q v1 v4 v5 v6 M) : E γ k_Machine_calls 126 160 [some (vr (some (6, this))), some (vi v1), none, none, some (vi v4), some (vi v5), some (vi v6), none, none, none, none] [] M (Qv Q) := by
  unfold w_Machine_calls_j160 at h
  refine E_blk (lv' := [some (vr (some (6, this))), some (vi v1), none, none, some (vi v4), some (vi v5), some (vi v6), none, none, none, none]) (st' := [vi v5]) (M1 := M) (pc' := 162) (tb_Machine hγ) [.iload 5] (by decide +kernel) rfl rfl trivial ?_
  refine E_if_lt (off := 19) (tgt := 181) (by decide +kernel) (by decide) (fun b5 => ?_) (fun b5 => ?_)
  · rw [if_pos b5] at h
    refine E_mask [true, false, false, false, false, false, false, false, false, false, false] rfl ?_
    exact lk_Machine_calls_j181 hγ this Q  M h
  · rw [if_neg b5] at h
    obtain ⟨c7, h⟩ := h
    refine E_blk (lv' := [some (vr (some (6, this))), some (vi v1), none, none, some (vi v4), some (vi v5), some (vi v6), none, none, none, none]) (st' := [vi ((mI M 57 this v5.toNatClampNeg) &&& (8 : Int32))]) (M1 := M) (pc' := 178) (tb_Machine hγ) [.aload_n 0, .getfield 84, .getfield 386, .iload 5, .iaload, .bipush 8, .iand] (by decide +kernel) rfl rfl ⟨c7, trivial⟩ ?_
    refine E_if_eq (off := 12) (tgt := 190) (by decide +kernel) (by decide) (fun b8 => ?_) (fun b8 => ?_)
    · rw [if_pos b8] at h
      refine E_blk (lv' := [some (vr (some (6, this))), some (vi v1), none, none, some (vi v4), some (vi v5), some (vi v6), none, none, none, none]) (st' := [vi v6, vi v4]) (M1 := M) (pc' := 194) (tb_Machine hγ) [.iload 4, .iload 6] (by decide +kernel) rfl rfl trivial ?_
      refine E_if_eq (off := 7) (tgt := 201) (by decide +kernel) (by decide) (fun b9 => ?_) (fun b9 => ?_)
      · rw [if_pos b9] at h
        refine E_blk (lv' := [some (vr (some (6, this))), some (vi v1), none, none, some (vi v4), some (vi v5), some (vi v6), none, none, none, none]) (st' := [vi (0 : Int32), vi v4]) (M1 := M) (pc' := 202) (tb_Machine hγ) [.iconst 0] (by decide +kernel) rfl rfl trivial ?_
        refine E_mask [true, true, false, false, false, true, false, false, false, false, false] rfl ?_
        exact lk_Machine_calls_j202 hγ this Q v1 v5 (0 : Int32) v4 M h
      · rw [if_neg b9] at h
        refine E_blk (lv' := [some (vr (some (6, this))), some (vi v1), none, none, some (vi v4), some (vi v5), some (vi v6), none, none, none, none]) (st' := [vi (1 : Int32), vi v4]) (M1 := M) (pc' := 198) (tb_Machine hγ) [.iconst 1] (by decide +kernel) rfl rfl trivial ?_
        refine E_goto (off := 4) (tgt := 202) (by decide +kernel) (by decide) ?_
        refine E_mask [true, true, false, false, false, true, false, false, false, false, false] rfl ?_
        exact lk_Machine_calls_j202 hγ this Q v1 v5 (1 : Int32) v4 M h
    · rw [if_neg b8] at h
      refine E_mask [true, false, false, false, false, false, false, false, false, false, false] rfl ?_
      exact lk_Machine_calls_j181 hγ this Q  M h
set_option maxRecDepth 4096 in
theorem lk_Machine_calls_j143 {γ : Gm} (hγ : Gk γ) (this : Nat) (Q : Mem → Prop) (v1 : Int32) (v2 : Int32) (v4 : Int32) (v6 : Int32) (v7 : Int32) (M : Mem) (h : w_Machine_calls_j143 this Q v1 v2 v4 v6 v7 M) : E γ k_Machine_calls 126 143 [some (vr (some (6, this))), some (vi v1), some (vi v2), none, some (vi v4), none, some (vi v6), some (vi v7), none, none, none] [] M (Qv Q) := by
  unfold w_Machine_calls_j143 at h
  refine E_blk (lv' := [some (vr (some (6, this))), some (vi v1), some (vi v2), none, some (vi v4), none, some (vi v6), some (vi v7), none, none, none]) (st' := [vi v7, vr (some (6, this)), vr (some (5, this))]) (M1 := M) (pc' := 150) (tb_Machine hγ) [.aload_n 0, .getfield 84, .aload_n 0, .iload 7] (by decide +kernel) rfl rfl trivial ?_
  refine E_callV (κ' := k_Machine_classOf) (As := [vi v7]) (st := [vr (some (5, this))]) mv_Machine_classOf (Or.inl (tbk_mem (j := 8) (k := 207) rfl)) rfl (by decide +kernel) (Nat.le_of_ble_eq_true rfl) (Nat.le_of_ble_eq_true rfl) rfl (by decide) (lk_Machine_classOf hγ this v7 _ M h) (fun _ _ => Qi_r) (fun v M49 hp => Qi_k (R := fun st => E γ k_Machine_calls 126 153 [some (vr (some (6, this))), some (vi v1), some (vi v2), none, some (vi v4), none, some (vi v6), some (vi v7), none, none, none] st M49 (Qv Q)) hp (fun r50 h => ?_))
  refine E_blk (lv' := [some (vr (some (6, this))), some (vi v1), some (vi v2), none, some (vi v4), none, some (vi v6), some (vi v7), none, none, none]) (st' := [vi (5 : Int32), vi v2, vi r50, vr (some (5, this))]) (M1 := M49) (pc' := 155) (tb_Machine hγ) [.iload_n 2, .iconst 5] (by decide +kernel) rfl rfl trivial ?_
  refine E_callV (κ' := k_World_method) (As := [vi r50, vi v2, vi (5 : Int32)]) (st := []) mv_World_method (Or.inl (tbk_mem (j := 8) (k := 171) rfl)) rfl (by decide +kernel) (Nat.le_of_ble_eq_true rfl) (Nat.le_of_ble_eq_true rfl) rfl (by decide) (lk_World_method hγ this r50 v2 (5 : Int32) _ M49 h) (fun _ _ => Qi_r) (fun v M51 hp => Qi_k (R := fun st => E γ k_Machine_calls 126 158 [some (vr (some (6, this))), some (vi v1), some (vi v2), none, some (vi v4), none, some (vi v6), some (vi v7), none, none, none] st M51 (Qv Q)) hp (fun r52 h => ?_))
  refine E_blk (lv' := [some (vr (some (6, this))), some (vi v1), some (vi v2), none, some (vi v4), some (vi r52), some (vi v6), some (vi v7), none, none, none]) (st' := []) (M1 := M51) (pc' := 160) (tb_Machine hγ) [.istore 5] (by decide +kernel) rfl rfl trivial ?_
  refine E_mask [true, true, false, false, true, true, true, false, false, false, false] rfl ?_
  exact lk_Machine_calls_j160 hγ this Q v1 v4 r52 v6 M51 h
set_option maxRecDepth 4096 in
theorem lk_Machine_calls_j86 {γ : Gm} (hγ : Gk γ) (this : Nat) (Q : Mem → Prop) (v1 : Int32) (v2 : Int32) (v3 : Int32) (v4 : Int32) (v5 : Int32) (v6 : Int32) (v7 : Int32) (s0 : Int32) (M : Mem) (h : w_Machine_calls_j86 this Q v1 v2 v3 v4 v5 v6 v7 s0 M) : E γ k_Machine_calls 126 86 [some (vr (some (6, this))), some (vi v1), some (vi v2), some (vi v3), some (vi v4), some (vi v5), some (vi v6), some (vi v7), none, none, none] [vi s0] M (Qv Q) := by
  unfold w_Machine_calls_j86 at h
  refine E_blk (lv' := [some (vr (some (6, this))), some (vi v1), some (vi v2), some (vi v3), some (vi v4), some (vi v5), some (vi v6), some (vi v7), some (vi s0), none, none]) (st' := [vi s0]) (M1 := M) (pc' := 90) (tb_Machine hγ) [.istore 8, .iload 8] (by decide +kernel) rfl rfl trivial ?_
  refine E_if_eq (off := 70) (tgt := 160) (by decide +kernel) (by decide) (fun b35 => ?_) (fun b35 => ?_)
  · rw [if_pos b35] at h
    refine E_mask [true, true, false, false, true, true, true, false, false, false, false] rfl ?_
    exact lk_Machine_calls_j160 hγ this Q v1 v4 v5 v6 M h
  · rw [if_neg b35] at h
    refine E_blk (lv' := [some (vr (some (6, this))), some (vi v1), some (vi v2), some (vi v3), some (vi v4), some (vi v5), some (vi v6), some (vi v7), some (vi s0), none, none]) (st' := [vi (53 : Int32), vi v3]) (M1 := M) (pc' := 96) (tb_Machine hγ) [.iload_n 3, .bipush 53] (by decide +kernel) rfl rfl trivial ?_
    refine E_icmp_ne (off := 47) (tgt := 143) (by decide +kernel) (by decide) (fun b36 => ?_) (fun b36 => ?_)
    · rw [if_pos b36] at h
      refine E_blk (lv' := [some (vr (some (6, this))), some (vi v1), some (vi v2), some (vi v3), some (vi v4), some (vi v5), some (vi v6), some (vi v7), some (vi s0), none, none]) (st' := [vi v7, vr (some (6, this)), vr (some (5, this))]) (M1 := M) (pc' := 106) (tb_Machine hγ) [.aload_n 0, .getfield 84, .aload_n 0, .iload 7] (by decide +kernel) rfl rfl trivial ?_
      refine E_callV (κ' := k_Machine_classOf) (As := [vi v7]) (st := [vr (some (5, this))]) mv_Machine_classOf (Or.inl (tbk_mem (j := 8) (k := 207) rfl)) rfl (by decide +kernel) (Nat.le_of_ble_eq_true rfl) (Nat.le_of_ble_eq_true rfl) rfl (by decide) (lk_Machine_classOf hγ this v7 _ M h) (fun _ _ => Qi_r) (fun v M37 hp => Qi_k (R := fun st => E γ k_Machine_calls 126 109 [some (vr (some (6, this))), some (vi v1), some (vi v2), some (vi v3), some (vi v4), some (vi v5), some (vi v6), some (vi v7), some (vi s0), none, none] st M37 (Qv Q)) hp (fun r38 h => ?_))
      refine E_blk (lv' := [some (vr (some (6, this))), some (vi v1), some (vi v2), some (vi v3), some (vi v4), some (vi v5), some (vi v6), some (vi v7), some (vi s0), none, none]) (st' := [vi (0 : Int32), vi r38, vr (some (5, this))]) (M1 := M37) (pc' := 110) (tb_Machine hγ) [.iconst 0] (by decide +kernel) rfl rfl trivial ?_
      refine E_callS (κ' := k_JMath_max) (As := [vi r38, vi (0 : Int32)]) (st := [vr (some (5, this))]) ms_JMath_max (Or.inl (tbk_mem (j := 9) (k := 90) rfl)) rfl (by decide +kernel) (Nat.le_of_ble_eq_true rfl) (Nat.le_of_ble_eq_true rfl) rfl (by decide) (lk_JMath_max hγ r38 (0 : Int32) _ M37 h) (fun _ _ => Qi_r) (fun v M39 hp => Qi_k (R := fun st => E γ k_Machine_calls 126 113 [some (vr (some (6, this))), some (vi v1), some (vi v2), some (vi v3), some (vi v4), some (vi v5), some (vi v6), some (vi v7), some (vi s0), none, none] st M39 (Qv Q)) hp (fun r40 h => ?_))
      refine E_blk (lv' := [some (vr (some (6, this))), some (vi v1), some (vi v2), some (vi v3), some (vi v4), some (vi v5), some (vi v6), some (vi v7), some (vi s0), none, none]) (st' := [vi v2, vr (some (5, this)), vr (some (5, this)), vi r40, vr (some (5, this))]) (M1 := M39) (pc' := 122) (tb_Machine hγ) [.aload_n 0, .getfield 84, .aload_n 0, .getfield 84, .iload_n 2] (by decide +kernel) rfl rfl trivial ?_
      refine E_callV (κ' := k_World_refClass) (As := [vi v2]) (st := [vr (some (5, this)), vi r40, vr (some (5, this))]) mv_World_refClass (Or.inl (tbk_mem (j := 8) (k := 139) rfl)) rfl (by decide +kernel) (Nat.le_of_ble_eq_true rfl) (Nat.le_of_ble_eq_true rfl) rfl (by decide) (lk_World_refClass hγ this v2 _ M39 h) (fun _ _ => Qi_r) (fun v M41 hp => Qi_k (R := fun st => E γ k_Machine_calls 126 125 [some (vr (some (6, this))), some (vi v1), some (vi v2), some (vi v3), some (vi v4), some (vi v5), some (vi v6), some (vi v7), some (vi s0), none, none] st M41 (Qv Q)) hp (fun r42 h => ?_))
      refine E_callV (κ' := k_World_find) (As := [vi r42]) (st := [vi r40, vr (some (5, this))]) mv_World_find (Or.inl (tbk_mem (j := 8) (k := 148) rfl)) rfl (by decide +kernel) (Nat.le_of_ble_eq_true rfl) (Nat.le_of_ble_eq_true rfl) rfl (by decide) (lk_World_find hγ this r42 _ M41 h) (fun _ _ => Qi_r) (fun v M43 hp => Qi_k (R := fun st => E γ k_Machine_calls 126 128 [some (vr (some (6, this))), some (vi v1), some (vi v2), some (vi v3), some (vi v4), some (vi v5), some (vi v6), some (vi v7), some (vi s0), none, none] st M43 (Qv Q)) hp (fun r44 h => ?_))
      refine E_callV (κ' := k_World_isBelow) (As := [vi r40, vi r44]) (st := []) mv_World_isBelow (Or.inl (tbk_mem (j := 8) (k := 211) rfl)) rfl (by decide +kernel) (Nat.le_of_ble_eq_true rfl) (Nat.le_of_ble_eq_true rfl) rfl (by decide) (lk_World_isBelow hγ this r40 r44 _ M43 h) (fun _ _ => Qi_r) (fun v M45 hp => Qi_k (R := fun st => E γ k_Machine_calls 126 131 [some (vr (some (6, this))), some (vi v1), some (vi v2), some (vi v3), some (vi v4), some (vi v5), some (vi v6), some (vi v7), some (vi s0), none, none] st M45 (Qv Q)) hp (fun r46 h => ?_))
      refine E_if_ne (off := 12) (tgt := 143) (by decide +kernel) (by decide) (fun b47 => ?_) (fun b47 => ?_)
      · rw [if_pos b47] at h
        refine E_blk (lv' := [some (vr (some (6, this))), some (vi v1), some (vi v2), some (vi v3), some (vi v4), some (vi v5), some (vi v6), some (vi v7), some (vi s0), none, none]) (st' := [vi (59 : Int32), vi (15 : Int32), vr (some (6, this))]) (M1 := M45) (pc' := 139) (tb_Machine hγ) [.aload_n 0, .bipush 15, .bipush 59] (by decide +kernel) rfl rfl trivial ?_
        refine E_callV (κ' := k_Machine_fail) (As := [vi (15 : Int32), vi (59 : Int32)]) (st := []) mv_Machine_fail (Or.inl (tbk_mem (j := 8) (k := 190) rfl)) rfl (by decide +kernel) (Nat.le_of_ble_eq_true rfl) (Nat.le_of_ble_eq_true rfl) rfl (by decide) (lk_Machine_fail hγ this (15 : Int32) (59 : Int32) _ M45 h) (fun _ _ => Qv_r) (fun v M48 hp => Qv_k (R := fun st => E γ k_Machine_calls 126 142 [some (vr (some (6, this))), some (vi v1), some (vi v2), some (vi v3), some (vi v4), some (vi v5), some (vi v6), some (vi v7), some (vi s0), none, none] st M48 (Qv Q)) hp (fun h => ?_))
        exact E_vret rfl (by decide +kernel) h
      · rw [if_neg b47] at h
        refine E_mask [true, true, true, false, true, false, true, true, false, false, false] rfl ?_
        exact lk_Machine_calls_j143 hγ this Q v1 v2 v4 v6 v7 M45 h
    · rw [if_neg b36] at h
      refine E_mask [true, true, true, false, true, false, true, true, false, false, false] rfl ?_
      exact lk_Machine_calls_j143 hγ this Q v1 v2 v4 v6 v7 M h
set_option maxRecDepth 4096 in
theorem lk_Machine_calls_j85 {γ : Gm} (hγ : Gk γ) (this : Nat) (Q : Mem → Prop) (v1 : Int32) (v2 : Int32) (v3 : Int32) (v4 : Int32) (v5 : Int32) (v6 : Int32) (v7 : Int32) (M : Mem) (h : w_Machine_calls_j85 this Q v1 v2 v3 v4 v5 v6 v7 M) : E γ k_Machine_calls 126 85 [some (vr (some (6, this))), some (vi v1), some (vi v2), some (vi v3), some (vi v4), some (vi v5), some (vi v6), some (vi v7), none, none, none] [] M (Qv Q) := by
  unfold w_Machine_calls_j85 at h
  refine E_blk (lv' := [some (vr (some (6, this))), some (vi v1), some (vi v2), some (vi v3), some (vi v4), some (vi v5), some (vi v6), some (vi v7), none, none, none]) (st' := [vi (0 : Int32)]) (M1 := M) (pc' := 86) (tb_Machine hγ) [.iconst 0] (by decide +kernel) rfl rfl trivial ?_
  refine E_mask [true, true, true, true, true, true, true, true, false, false, false] rfl ?_
  exact lk_Machine_calls_j86 hγ this Q v1 v2 v3 v4 v5 v6 v7 (0 : Int32) M h
set_option maxRecDepth 4096 in
theorem lk_Machine_calls_j66 {γ : Gm} (hγ : Gk γ) (this : Nat) (Q : Mem → Prop) (v1 : Int32) (v2 : Int32) (v3 : Int32) (v4 : Int32) (v5 : Int32) (v6 : Int32) (v7 : Int32) (M : Mem) (h : w_Machine_calls_j66 this Q v1 v2 v3 v4 v5 v6 v7 M) : E γ k_Machine_calls 126 66 [some (vr (some (6, this))), some (vi v1), some (vi v2), some (vi v3), some (vi v4), some (vi v5), some (vi v6), some (vi v7), none, none, none] [] M (Qv Q) := by
  unfold w_Machine_calls_j66 at h
  obtain ⟨c33, h⟩ := h
  refine E_blk (lv' := [some (vr (some (6, this))), some (vi v1), some (vi v2), some (vi v3), some (vi v4), some (vi v5), some (vi v6), some (vi v7), none, none, none]) (st' := [vi ((mI M 57 this v5.toNatClampNeg) &&& (4 : Int32))]) (M1 := M) (pc' := 78) (tb_Machine hγ) [.aload_n 0, .getfield 84, .getfield 386, .iload 5, .iaload, .iconst 4, .iand] (by decide +kernel) rfl rfl ⟨c33, trivial⟩ ?_
  refine E_if_ne (off := 7) (tgt := 85) (by decide +kernel) (by decide) (fun b34 => ?_) (fun b34 => ?_)
  · rw [if_pos b34] at h
    refine E_blk (lv' := [some (vr (some (6, this))), some (vi v1), some (vi v2), some (vi v3), some (vi v4), some (vi v5), some (vi v6), some (vi v7), none, none, none]) (st' := [vi (1 : Int32)]) (M1 := M) (pc' := 82) (tb_Machine hγ) [.iconst 1] (by decide +kernel) rfl rfl trivial ?_
    refine E_goto (off := 4) (tgt := 86) (by decide +kernel) (by decide) ?_
    refine E_mask [true, true, true, true, true, true, true, true, false, false, false] rfl ?_
    exact lk_Machine_calls_j86 hγ this Q v1 v2 v3 v4 v5 v6 v7 (1 : Int32) M h
  · rw [if_neg b34] at h
    refine E_mask [true, true, true, true, true, true, true, true, false, false, false] rfl ?_
    exact lk_Machine_calls_j85 hγ this Q v1 v2 v3 v4 v5 v6 v7 M h
set_option maxRecDepth 4096 in
theorem lk_Machine_calls_j27 {γ : Gm} (hγ : Gk γ) (this : Nat) (Q : Mem → Prop) (v1 : Int32) (v2 : Int32) (v3 : Int32) (v4 : Int32) (v5 : Int32) (s0 : Int32) (M : Mem) (h : w_Machine_calls_j27 this Q v1 v2 v3 v4 v5 s0 M) : E γ k_Machine_calls 126 27 [some (vr (some (6, this))), some (vi v1), some (vi v2), some (vi v3), some (vi v4), some (vi v5), none, none, none, none, none] [vi s0] M (Qv Q) := by
  unfold w_Machine_calls_j27 at h
  refine E_blk (lv' := [some (vr (some (6, this))), some (vi v1), some (vi v2), some (vi v3), some (vi v4), some (vi v5), some (vi s0), none, none, none, none]) (st' := [vi s0]) (M1 := M) (pc' := 31) (tb_Machine hγ) [.istore 6, .iload 6] (by decide +kernel) rfl rfl trivial ?_
  refine E_if_eq (off := 129) (tgt := 160) (by decide +kernel) (by decide) (fun b4 => ?_) (fun b4 => ?_)
  · rw [if_pos b4] at h
    refine E_mask [true, true, false, false, true, true, true, false, false, false, false] rfl ?_
    exact lk_Machine_calls_j160 hγ this Q v1 v4 v5 s0 M h
  · rw [if_neg b4] at h
    refine E_blk (lv' := [some (vr (some (6, this))), some (vi v1), some (vi v2), some (vi v3), some (vi v4), some (vi v5), some (vi s0), none, none, none, none]) (st' := [vi v4, vr (some (6, this))]) (M1 := M) (pc' := 37) (tb_Machine hγ) [.aload_n 0, .iload 4] (by decide +kernel) rfl rfl trivial ?_
    refine E_callV (κ' := k_Machine_number) (As := [vi v4]) (st := []) mv_Machine_number (Or.inl (tbk_mem (j := 9) (k := 46) rfl)) rfl (by decide +kernel) (Nat.le_of_ble_eq_true rfl) (Nat.le_of_ble_eq_true rfl) rfl (by decide) (lk_Machine_number hγ this v4 _ M h) (fun _ _ => Qi_r) (fun v M28 hp => Qi_k (R := fun st => E γ k_Machine_calls 126 40 [some (vr (some (6, this))), some (vi v1), some (vi v2), some (vi v3), some (vi v4), some (vi v5), some (vi s0), none, none, none, none] st M28 (Qv Q)) hp (fun r29 h => ?_))
    refine E_blk (lv' := [some (vr (some (6, this))), some (vi v1), some (vi v2), some (vi v3), some (vi v4), some (vi v5), some (vi s0), some (vi r29), none, none, none]) (st' := [vi r29]) (M1 := M28) (pc' := 44) (tb_Machine hγ) [.istore 7, .iload 7] (by decide +kernel) rfl rfl trivial ?_
    refine E_if_ne (off := 10) (tgt := 54) (by decide +kernel) (by decide) (fun b30 => ?_) (fun b30 => ?_)
    · rw [if_pos b30] at h
      refine E_blk (lv' := [some (vr (some (6, this))), some (vi v1), some (vi v2), some (vi v3), some (vi v4), some (vi v5), some (vi s0), some (vi r29), none, none, none]) (st' := [vi (0 : Int32), vi (2 : Int32), vr (some (6, this))]) (M1 := M28) (pc' := 50) (tb_Machine hγ) [.aload_n 0, .iconst 2, .iconst 0] (by decide +kernel) rfl rfl trivial ?_
      refine E_callV (κ' := k_Machine_fail) (As := [vi (2 : Int32), vi (0 : Int32)]) (st := []) mv_Machine_fail (Or.inl (tbk_mem (j := 8) (k := 190) rfl)) rfl (by decide +kernel) (Nat.le_of_ble_eq_true rfl) (Nat.le_of_ble_eq_true rfl) rfl (by decide) (lk_Machine_fail hγ this (2 : Int32) (0 : Int32) _ M28 h) (fun _ _ => Qv_r) (fun v M31 hp => Qv_k (R := fun st => E γ k_Machine_calls 126 53 [some (vr (some (6, this))), some (vi v1), some (vi v2), some (vi v3), some (vi v4), some (vi v5), some (vi s0), some (vi r29), none, none, none] st M31 (Qv Q)) hp (fun h => ?_))
      exact E_vret rfl (by decide +kernel) h
    · rw [if_neg b30] at h
      refine E_blk (lv' := [some (vr (some (6, this))), some (vi v1), some (vi v2), some (vi v3), some (vi v4), some (vi v5), some (vi s0), some (vi r29), none, none, none]) (st' := [vi (50 : Int32), vi v3]) (M1 := M28) (pc' := 57) (tb_Machine hγ) [.iload_n 3, .bipush 50] (by decide +kernel) rfl rfl trivial ?_
      refine E_icmp_eq (off := 9) (tgt := 66) (by decide +kernel) (by decide) (fun b32 => ?_) (fun b32 => ?_)
      · rw [if_pos b32] at h
        refine E_mask [true, true, true, true, true, true, true, true, false, false, false] rfl ?_
        exact lk_Machine_calls_j66 hγ this Q v1 v2 v3 v4 v5 s0 r29 M28 h
      · rw [if_neg b32] at h
        refine E_blk (lv' := [some (vr (some (6, this))), some (vi v1), some (vi v2), some (vi v3), some (vi v4), some (vi v5), some (vi s0), some (vi r29), none, none, none]) (st' := [vi (53 : Int32), vi v3]) (M1 := M28) (pc' := 63) (tb_Machine hγ) [.iload_n 3, .bipush 53] (by decide +kernel) rfl rfl trivial ?_
        refine E_icmp_ne (off := 22) (tgt := 85) (by decide +kernel) (by decide) (fun b53 => ?_) (fun b53 => ?_)
        · rw [if_pos b53] at h
          refine E_mask [true, true, true, true, true, true, true, true, false, false, false] rfl ?_
          exact lk_Machine_calls_j66 hγ this Q v1 v2 v3 v4 v5 s0 r29 M28 h
        · rw [if_neg b53] at h
          refine E_mask [true, true, true, true, true, true, true, true, false, false, false] rfl ?_
          exact lk_Machine_calls_j85 hγ this Q v1 v2 v3 v4 v5 s0 r29 M28 h
set_option maxRecDepth 4096 in
theorem lk_Machine_calls {γ : Gm} (hγ : Gk γ) (this : Nat) (a1 : Int32) (a2 : Int32) (a3 : Int32) (Q : Mem → Prop) (M : Mem) (h : w_Machine_calls this a1 a2 a3 Q M) : E γ k_Machine_calls 126 0 [some (vr (some (6, this))), some (vi a1), some (vi a2), some (vi a3), none, none, none, none, none, none, none] [] M (Qv Q) := by
  unfold w_Machine_calls at h
  refine E_blk (lv' := [some (vr (some (6, this))), some (vi a1), some (vi a2), some (vi a3), none, none, none, none, none, none, none]) (st' := [vi a2, vr (some (5, this))]) (M1 := M) (pc' := 5) (tb_Machine hγ) [.aload_n 0, .getfield 84, .iload_n 2] (by decide +kernel) rfl rfl trivial ?_
  refine E_callV (κ' := k_World_refArguments) (As := [vi a2]) (st := []) mv_World_refArguments (Or.inl (tbk_mem (j := 9) (k := 103) rfl)) rfl (by decide +kernel) (Nat.le_of_ble_eq_true rfl) (Nat.le_of_ble_eq_true rfl) rfl (by decide) (lk_World_refArguments hγ this a2 _ M h) (fun _ _ => Qi_r) (fun v M1 hp => Qi_k (R := fun st => E γ k_Machine_calls 126 8 [some (vr (some (6, this))), some (vi a1), some (vi a2), some (vi a3), none, none, none, none, none, none, none] st M1 (Qv Q)) hp (fun r2 h => ?_))
  refine E_blk (lv' := [some (vr (some (6, this))), some (vi a1), some (vi a2), some (vi a3), some (vi r2), some (vi (mI M1 6 this 36)), none, none, none, none, none]) (st' := [vi (52 : Int32), vi a3]) (M1 := M1) (pc' := 19) (tb_Machine hγ) [.istore 4, .aload_n 0, .getfield 418, .istore 5, .iload_n 3, .bipush 52] (by decide +kernel) rfl rfl trivial ?_
  refine E_icmp_eq (off := 7) (tgt := 26) (by decide +kernel) (by decide) (fun b3 => ?_) (fun b3 => ?_)
  · rw [if_pos b3] at h
    refine E_blk (lv' := [some (vr (some (6, this))), some (vi a1), some (vi a2), some (vi a3), some (vi r2), some (vi (mI M1 6 this 36)), none, none, none, none, none]) (st' := [vi (0 : Int32)]) (M1 := M1) (pc' := 27) (tb_Machine hγ) [.iconst 0] (by decide +kernel) rfl rfl trivial ?_
    refine E_mask [true, true, true, true, true, true, false, false, false, false, false] rfl ?_
    exact lk_Machine_calls_j27 hγ this Q a1 a2 a3 r2 (mI M1 6 this 36) (0 : Int32) M1 h
  · rw [if_neg b3] at h
    refine E_blk (lv' := [some (vr (some (6, this))), some (vi a1), some (vi a2), some (vi a3), some (vi r2), some (vi (mI M1 6 this 36)), none, none, none, none, none]) (st' := [vi (1 : Int32)]) (M1 := M1) (pc' := 23) (tb_Machine hγ) [.iconst 1] (by decide +kernel) rfl rfl trivial ?_
    refine E_goto (off := 4) (tgt := 27) (by decide +kernel) (by decide) ?_
    refine E_mask [true, true, true, true, true, true, false, false, false, false, false] rfl ?_
    exact lk_Machine_calls_j27 hγ this Q a1 a2 a3 r2 (mI M1 6 this 36) (1 : Int32) M1 h
def w_Machine_turn (this : Nat) (a1 : Int32) (Q : Mem → Prop) (M : Mem) : Prop :=
  ∃ i1, (mR M 6 this 2) = some (7, i1) ∧ vp_in ((((mI M 6 this 33) + (20 : Int32)) + (mI M 6 this 34)) - (1 : Int32)) (mL M 94 i1) ∧ ∃ x3 : Int32, x3 = (mI M 94 i1 ((((mI M 6 this 33) + (20 : Int32)) + (mI M 6 this 34)) - (1 : Int32)).toNatClampNeg) ∧ ∃ i4, (mR M 6 this 2) = some (7, i4) ∧ vp_in ((((mI M 6 this 33) + (20 : Int32)) + (mI M 6 this 34)) - (1 : Int32)) (mL M 514 i4) ∧ ∃ x6 : Int32, x6 = (mI M 514 i4 ((((mI M 6 this 33) + (20 : Int32)) + (mI M 6 this 34)) - (1 : Int32)).toNatClampNeg) ∧ ∃ i7, (mR M 6 this 2) = some (7, i7) ∧ vp_in ((((mI M 6 this 33) + (20 : Int32)) + (mI M 6 this 34)) - (2 : Int32)) (mL M 94 i7) ∧ ∃ x9 : Int32, x9 = (mI M 94 i7 ((((mI M 6 this 33) + (20 : Int32)) + (mI M 6 this 34)) - (2 : Int32)).toNatClampNeg) ∧ ∃ i10, (mR M 6 this 2) = some (7, i10) ∧ vp_in ((((mI M 6 this 33) + (20 : Int32)) + (mI M 6 this 34)) - (2 : Int32)) (mL M 514 i10) ∧ ∃ x12 : Int32, x12 = (mI M 514 i10 ((((mI M 6 this 33) + (20 : Int32)) + (mI M 6 this 34)) - (2 : Int32)).toNatClampNeg) ∧ w_Machine_set this ((((mI M 6 this 33) + (20 : Int32)) + (mI M 6 this 34)) - (2 : Int32)) x3 x6 (fun M13 => w_Machine_set this ((((mI M 6 this 33) + (20 : Int32)) + (mI M 6 this 34)) - (1 : Int32)) x9 x12 (fun M14 => if a1 = (21 : Int32) then (w_Machine_push this x3 x6 (fun M16 => Q M16) M14) else (Q M14)) M13) M
set_option maxRecDepth 4096 in
theorem lk_Machine_turn {γ : Gm} (hγ : Gk γ) (this : Nat) (a1 : Int32) (Q : Mem → Prop) (M : Mem) (h : w_Machine_turn this a1 Q M) : E γ k_Machine_turn 2 0 [some (vr (some (6, this))), some (vi a1), none, none, none, none, none] [] M (Qv Q) := by
  unfold w_Machine_turn at h
  refine E_blk (lv' := [some (vr (some (6, this))), some (vi a1), some (vi (((mI M 6 this 33) + (20 : Int32)) + (mI M 6 this 34))), none, none, none, none]) (st' := [vr (mR M 6 this 2)]) (M1 := M) (pc' := 17) (tb_Machine hγ) [.aload_n 0, .getfield 402, .bipush 20, .iadd, .aload_n 0, .getfield 405, .iadd, .istore_n 2, .aload_n 0, .getfield 24] (by decide +kernel) rfl rfl trivial ?_
  obtain ⟨i1, ei1, h⟩ := h
  rw [ei1]
  obtain ⟨c2, h⟩ := h
  refine E_blk (lv' := [some (vr (some (6, this))), some (vi a1), some (vi (((mI M 6 this 33) + (20 : Int32)) + (mI M 6 this 34))), some (vi (mI M 94 i1 ((((mI M 6 this 33) + (20 : Int32)) + (mI M 6 this 34)) - (1 : Int32)).toNatClampNeg)), none, none, none]) (st' := []) (M1 := M) (pc' := 25) (tb_Machine hγ) [.getfield 218, .iload_n 2, .iconst 1, .isub, .iaload, .istore_n 3] (by decide +kernel) rfl rfl ⟨c2, trivial⟩ ?_
  obtain ⟨x3, ex3, h⟩ := h
  rw [← ex3]
  refine E_blk (lv' := [some (vr (some (6, this))), some (vi a1), some (vi (((mI M 6 this 33) + (20 : Int32)) + (mI M 6 this 34))), some (vi x3), none, none, none]) (st' := [vr (mR M 6 this 2)]) (M1 := M) (pc' := 29) (tb_Machine hγ) [.aload_n 0, .getfield 24] (by decide +kernel) rfl rfl trivial ?_
  obtain ⟨i4, ei4, h⟩ := h
  rw [ei4]
  obtain ⟨c5, h⟩ := h
  refine E_blk (lv' := [some (vr (some (6, this))), some (vi a1), some (vi (((mI M 6 this 33) + (20 : Int32)) + (mI M 6 this 34))), some (vi x3), some (vi (mI M 514 i4 ((((mI M 6 this 33) + (20 : Int32)) + (mI M 6 this 34)) - (1 : Int32)).toNatClampNeg)), none, none]) (st' := []) (M1 := M) (pc' := 38) (tb_Machine hγ) [.getfield 221, .iload_n 2, .iconst 1, .isub, .baload, .istore 4] (by decide +kernel) rfl rfl ⟨c5, trivial⟩ ?_
  obtain ⟨x6, ex6, h⟩ := h
  rw [← ex6]
  refine E_blk (lv' := [some (vr (some (6, this))), some (vi a1), some (vi (((mI M 6 this 33) + (20 : Int32)) + (mI M 6 this 34))), some (vi x3), some (vi x6), none, none]) (st' := [vr (mR M 6 this 2)]) (M1 := M) (pc' := 42) (tb_Machine hγ) [.aload_n 0, .getfield 24] (by decide +kernel) rfl rfl trivial ?_
  obtain ⟨i7, ei7, h⟩ := h
  rw [ei7]
  obtain ⟨c8, h⟩ := h
  refine E_blk (lv' := [some (vr (some (6, this))), some (vi a1), some (vi (((mI M 6 this 33) + (20 : Int32)) + (mI M 6 this 34))), some (vi x3), some (vi x6), some (vi (mI M 94 i7 ((((mI M 6 this 33) + (20 : Int32)) + (mI M 6 this 34)) - (2 : Int32)).toNatClampNeg)), none]) (st' := []) (M1 := M) (pc' := 51) (tb_Machine hγ) [.getfield 218, .iload_n 2, .iconst 2, .isub, .iaload, .istore 5] (by decide +kernel) rfl rfl ⟨c8, trivial⟩ ?_
  obtain ⟨x9, ex9, h⟩ := h
  rw [← ex9]
  refine E_blk (lv' := [some (vr (some (6, this))), some (vi a1), some (vi (((mI M 6 this 33) + (20 : Int32)) + (mI M 6 this 34))), some (vi x3), some (vi x6), some (vi x9), none]) (st' := [vr (mR M 6 this 2)]) (M1 := M) (pc' := 55) (tb_Machine hγ) [.aload_n 0, .getfield 24] (by decide +kernel) rfl rfl trivial ?_
  obtain ⟨i10, ei10, h⟩ := h
  rw [ei10]
  obtain ⟨c11, h⟩ := h
  refine E_blk (lv' := [some (vr (some (6, this))), some (vi a1), some (vi (((mI M 6 this 33) + (20 : Int32)) + (mI M 6 this 34))), some (vi x3), some (vi x6), some (vi x9), some (vi (mI M 514 i10 ((((mI M 6 this 33) + (20 : Int32)) + (mI M 6 this 34)) - (2 : Int32)).toNatClampNeg))]) (st' := []) (M1 := M) (pc' := 64) (tb_Machine hγ) [.getfield 221, .iload_n 2, .iconst 2, .isub, .baload, .istore 6] (by decide +kernel) rfl rfl ⟨c11, trivial⟩ ?_
  obtain ⟨x12, ex12, h⟩ := h
  rw [← ex12]
  refine E_blk (lv' := [some (vr (some (6, this))), some (vi a1), some (vi (((mI M 6 this 33) + (20 : Int32)) + (mI M 6 this 34))), some (vi x3), some (vi x6), some (vi x9), some (vi x12)]) (st' := [vi x6, vi x3, vi ((((mI M 6 this 33) + (20 : Int32)) + (mI M 6 this 34)) - (2 : Int32)), vr (some (6, this))]) (M1 := M) (pc' := 71) (tb_Machine hγ) [.aload_n 0, .iload_n 2, .iconst 2, .isub, .iload_n 3, .iload 4] (by decide +kernel) rfl rfl trivial ?_
  refine E_callV (κ' := k_Machine_set) (As := [vi ((((mI M 6 this 33) + (20 : Int32)) + (mI M 6 this 34)) - (2 : Int32)), vi x3, vi x6]) (st := []) mv_Machine_set (Or.inl (tbk_mem (j := 8) (k := 219) rfl)) rfl (by decide +kernel) (Nat.le_of_ble_eq_true rfl) (Nat.le_of_ble_eq_true rfl) rfl (by decide) (lk_Machine_set hγ this ((((mI M 6 this 33) + (20 : Int32)) + (mI M 6 this 34)) - (2 : Int32)) x3 x6 _ M h) (fun _ _ => Qv_r) (fun v M13 hp => Qv_k (R := fun st => E γ k_Machine_turn 2 74 [some (vr (some (6, this))), some (vi a1), some (vi (((mI M 6 this 33) + (20 : Int32)) + (mI M 6 this 34))), some (vi x3), some (vi x6), some (vi x9), some (vi x12)] st M13 (Qv Q)) hp (fun h => ?_))
  refine E_blk (lv' := [some (vr (some (6, this))), some (vi a1), some (vi (((mI M 6 this 33) + (20 : Int32)) + (mI M 6 this 34))), some (vi x3), some (vi x6), some (vi x9), some (vi x12)]) (st' := [vi x12, vi x9, vi ((((mI M 6 this 33) + (20 : Int32)) + (mI M 6 this 34)) - (1 : Int32)), vr (some (6, this))]) (M1 := M13) (pc' := 82) (tb_Machine hγ) [.aload_n 0, .iload_n 2, .iconst 1, .isub, .iload 5, .iload 6] (by decide +kernel) rfl rfl trivial ?_
  refine E_callV (κ' := k_Machine_set) (As := [vi ((((mI M 6 this 33) + (20 : Int32)) + (mI M 6 this 34)) - (1 : Int32)), vi x9, vi x12]) (st := []) mv_Machine_set (Or.inl (tbk_mem (j := 8) (k := 219) rfl)) rfl (by decide +kernel) (Nat.le_of_ble_eq_true rfl) (Nat.le_of_ble_eq_true rfl) rfl (by decide) (lk_Machine_set hγ this ((((mI M 6 this 33) + (20 : Int32)) + (mI M 6 this 34)) - (1 : Int32)) x9 x12 _ M13 h) (fun _ _ => Qv_r) (fun v M14 hp => Qv_k (R := fun st => E γ k_Machine_turn 2 85 [some (vr (some (6, this))), some (vi a1), some (vi (((mI M 6 this 33) + (20 : Int32)) + (mI M 6 this 34))), some (vi x3), some (vi x6), some (vi x9), some (vi x12)] st M14 (Qv Q)) hp (fun h => ?_))
  refine E_blk (lv' := [some (vr (some (6, this))), some (vi a1), some (vi (((mI M 6 this 33) + (20 : Int32)) + (mI M 6 this 34))), some (vi x3), some (vi x6), some (vi x9), some (vi x12)]) (st' := [vi (21 : Int32), vi a1]) (M1 := M14) (pc' := 88) (tb_Machine hγ) [.iload_n 1, .bipush 21] (by decide +kernel) rfl rfl trivial ?_
  refine E_icmp_ne (off := 10) (tgt := 98) (by decide +kernel) (by decide) (fun b15 => ?_) (fun b15 => ?_)
  · rw [if_pos b15] at h
    refine E_blk (lv' := [some (vr (some (6, this))), some (vi a1), some (vi (((mI M 6 this 33) + (20 : Int32)) + (mI M 6 this 34))), some (vi x3), some (vi x6), some (vi x9), some (vi x12)]) (st' := [vi x6, vi x3, vr (some (6, this))]) (M1 := M14) (pc' := 95) (tb_Machine hγ) [.aload_n 0, .iload_n 3, .iload 4] (by decide +kernel) rfl rfl trivial ?_
    refine E_callV (κ' := k_Machine_push) (As := [vi x3, vi x6]) (st := []) mv_Machine_push (Or.inl (tbk_mem (j := 9) (k := 66) rfl)) rfl (by decide +kernel) (Nat.le_of_ble_eq_true rfl) (Nat.le_of_ble_eq_true rfl) rfl (by decide) (lk_Machine_push hγ this x3 x6 _ M14 h) (fun _ _ => Qv_r) (fun v M16 hp => Qv_k (R := fun st => E γ k_Machine_turn 2 98 [some (vr (some (6, this))), some (vi a1), some (vi (((mI M 6 this 33) + (20 : Int32)) + (mI M 6 this 34))), some (vi x3), some (vi x6), some (vi x9), some (vi x12)] st M16 (Qv Q)) hp (fun h => ?_))
    exact E_vret rfl (by decide +kernel) h
  · rw [if_neg b15] at h
    exact E_vret rfl (by decide +kernel) h
def w_Machine_isRow (this : Nat) (a1 : Int32) (Q : Int32 → Mem → Prop) (M : Mem) : Prop :=
  if (800 : Int32) < a1 then (Q (0 : Int32) M) else (vp_in a1 (mL M 79 this) ∧ if 0 ≤ (mI M 79 this a1.toNatClampNeg) then (Q (0 : Int32) M) else (Q (1 : Int32) M))
set_option maxRecDepth 4096 in
theorem lk_Machine_isRow {γ : Gm} (hγ : Gk γ) (this : Nat) (a1 : Int32) (Q : Int32 → Mem → Prop) (M : Mem) (h : w_Machine_isRow this a1 Q M) : E γ k_Machine_isRow 0 0 [some (vr (some (6, this))), some (vi a1)] [] M (Qi Q) := by
  unfold w_Machine_isRow at h
  refine E_blk (lv' := [some (vr (some (6, this))), some (vi a1)]) (st' := [vi (800 : Int32), vi a1]) (M1 := M) (pc' := 4) (tb_Machine hγ) [.iload_n 1, .sipush 800] (by decide +kernel) rfl rfl trivial ?_
  refine E_icmp_gt (off := 16) (tgt := 20) (by decide +kernel) (by decide) (fun b1 => ?_) (fun b1 => ?_)
  · rw [if_pos b1] at h
    refine E_blk (lv' := [some (vr (some (6, this))), some (vi a1)]) (st' := [vi (0 : Int32)]) (M1 := M) (pc' := 21) (tb_Machine hγ) [.iconst 0] (by decide +kernel) rfl rfl trivial ?_
    exact E_zret rfl (Or.inl rfl) (by decide +kernel) h
  · rw [if_neg b1] at h
    obtain ⟨c2, h⟩ := h
    refine E_blk (lv' := [some (vr (some (6, this))), some (vi a1)]) (st' := [vi (mI M 79 this a1.toNatClampNeg)]) (M1 := M) (pc' := 13) (tb_Machine hγ) [.aload_n 0, .getfield 28, .iload_n 1, .iaload] (by decide +kernel) rfl rfl ⟨c2, trivial⟩ ?_
    refine E_if_ge (off := 7) (tgt := 20) (by decide +kernel) (by decide) (fun b3 => ?_) (fun b3 => ?_)
    · rw [if_pos b3] at h
      refine E_blk (lv' := [some (vr (some (6, this))), some (vi a1)]) (st' := [vi (0 : Int32)]) (M1 := M) (pc' := 21) (tb_Machine hγ) [.iconst 0] (by decide +kernel) rfl rfl trivial ?_
      exact E_zret rfl (Or.inl rfl) (by decide +kernel) h
    · rw [if_neg b3] at h
      refine E_blk (lv' := [some (vr (some (6, this))), some (vi a1)]) (st' := [vi (1 : Int32)]) (M1 := M) (pc' := 17) (tb_Machine hγ) [.iconst 1] (by decide +kernel) rfl rfl trivial ?_
      refine E_goto (off := 4) (tgt := 21) (by decide +kernel) (by decide) ?_
      exact E_zret rfl (Or.inr rfl) (by decide +kernel) h
def w_Machine_isOf_j100 (this : Nat) (Q : Int32 → Mem → Prop) (s0 : Int32) (s1 : Int32) (M : Mem) : Prop :=
  w_Machine_comes this s1 s0 (0 : Int32) (fun M18 => Q (1 : Int32) M18) M
def w_Machine_isOf_j80 (this : Nat) (Q : Int32 → Mem → Prop) (v2 : Int32) (s0 : Int32) (M : Mem) : Prop :=
  if v2 = (55 : Int32) then (if s0 = 0 then (w_Machine_isOf_j100 this Q (0 : Int32) (1 : Int32) M) else (w_Machine_isOf_j100 this Q (1 : Int32) (1 : Int32) M)) else (if s0 = 0 then (w_Machine_fail this (6 : Int32) (0 : Int32) (fun M20 => (s0 = 0 ∨ s0 = 1) ∧ Q s0 M20) M) else ((s0 = 0 ∨ s0 = 1) ∧ Q s0 M))
def w_Machine_isOf (this : Nat) (a1 : Int32) (a2 : Int32) (Q : Int32 → Mem → Prop) (M : Mem) : Prop :=
  w_Machine_number this (0 : Int32) (fun r2 M1 => if r2 = 0 then (if a2 = (55 : Int32) then (w_Machine_comes this (1 : Int32) (0 : Int32) (0 : Int32) (fun M5 => Q (1 : Int32) M5) M1) else (Q (1 : Int32) M1)) else (w_Machine_findClass this a1 (fun r7 M6 => if 0 ≤ r7 then (w_Machine_isRow this r2 (fun r10 M9 => if r10 = 0 then (w_Machine_classOf this r2 (fun r13 M12 => w_World_isBelow this r13 r7 (fun r15 M14 => w_Machine_isOf_j80 this Q a2 r15 M14) M12) M9) else (if r7 = 0 then (w_Machine_isOf_j80 this Q a2 (1 : Int32) M9) else (w_Machine_isOf_j80 this Q a2 (0 : Int32) M9))) M6) else (w_Machine_fails this r7 (fun M22 => Q (0 : Int32) M22) M6)) M1)) M
set_option maxRecDepth 4096 in
theorem lk_Machine_isOf_j100 {γ : Gm} (hγ : Gk γ) (this : Nat) (Q : Int32 → Mem → Prop) (s0 : Int32) (s1 : Int32) (M : Mem) (h : w_Machine_isOf_j100 this Q s0 s1 M) : E γ k_Machine_isOf 126 100 [none, none, none, none, none, none] [vi s0, vi s1, vr (some (6, this))] M (Qi Q) := by
  unfold w_Machine_isOf_j100 at h
  refine E_blk (lv' := [none, none, none, none, none, none]) (st' := [vi (0 : Int32), vi s0, vi s1, vr (some (6, this))]) (M1 := M) (pc' := 101) (tb_Machine hγ) [.iconst 0] (by decide +kernel) rfl rfl trivial ?_
  refine E_callV (κ' := k_Machine_comes) (As := [vi s1, vi s0, vi (0 : Int32)]) (st := []) mv_Machine_comes (Or.inl (tbk_mem (j := 9) (k := 62) rfl)) rfl (by decide +kernel) (Nat.le_of_ble_eq_true rfl) (Nat.le_of_ble_eq_true rfl) rfl (by decide) (lk_Machine_comes hγ this s1 s0 (0 : Int32) _ M h) (fun _ _ => Qv_r) (fun v M18 hp => Qv_k (R := fun st => E γ k_Machine_isOf 126 104 [none, none, none, none, none, none] st M18 (Qi Q)) hp (fun h => ?_))
  refine E_blk (lv' := [none, none, none, none, none, none]) (st' := [vi (1 : Int32)]) (M1 := M18) (pc' := 105) (tb_Machine hγ) [.iconst 1] (by decide +kernel) rfl rfl trivial ?_
  exact E_zret rfl (Or.inr rfl) (by decide +kernel) h
set_option maxRecDepth 4096 in
theorem lk_Machine_isOf_j80 {γ : Gm} (hγ : Gk γ) (this : Nat) (Q : Int32 → Mem → Prop) (v2 : Int32) (s0 : Int32) (M : Mem) (h : w_Machine_isOf_j80 this Q v2 s0 M) : E γ k_Machine_isOf 126 80 [some (vr (some (6, this))), none, some (vi v2), none, none, none] [vi s0] M (Qi Q) := by
  unfold w_Machine_isOf_j80 at h
  refine E_blk (lv' := [some (vr (some (6, this))), none, some (vi v2), none, none, some (vi s0)]) (st' := [vi (55 : Int32), vi v2]) (M1 := M) (pc' := 85) (tb_Machine hγ) [.istore 5, .iload_n 2, .bipush 55] (by decide +kernel) rfl rfl trivial ?_
  refine E_icmp_ne (off := 21) (tgt := 106) (by decide +kernel) (by decide) (fun b16 => ?_) (fun b16 => ?_)
  · rw [if_pos b16] at h
    refine E_blk (lv' := [some (vr (some (6, this))), none, some (vi v2), none, none, some (vi s0)]) (st' := [vi s0, vi (1 : Int32), vr (some (6, this))]) (M1 := M) (pc' := 92) (tb_Machine hγ) [.aload_n 0, .iconst 1, .iload 5] (by decide +kernel) rfl rfl trivial ?_
    refine E_if_eq (off := 7) (tgt := 99) (by decide +kernel) (by decide) (fun b17 => ?_) (fun b17 => ?_)
    · rw [if_pos b17] at h
      refine E_blk (lv' := [some (vr (some (6, this))), none, some (vi v2), none, none, some (vi s0)]) (st' := [vi (0 : Int32), vi (1 : Int32), vr (some (6, this))]) (M1 := M) (pc' := 100) (tb_Machine hγ) [.iconst 0] (by decide +kernel) rfl rfl trivial ?_
      refine E_mask [false, false, false, false, false, false] rfl ?_
      exact lk_Machine_isOf_j100 hγ this Q (0 : Int32) (1 : Int32) M h
    · rw [if_neg b17] at h
      refine E_blk (lv' := [some (vr (some (6, this))), none, some (vi v2), none, none, some (vi s0)]) (st' := [vi (1 : Int32), vi (1 : Int32), vr (some (6, this))]) (M1 := M) (pc' := 96) (tb_Machine hγ) [.iconst 1] (by decide +kernel) rfl rfl trivial ?_
      refine E_goto (off := 4) (tgt := 100) (by decide +kernel) (by decide) ?_
      refine E_mask [false, false, false, false, false, false] rfl ?_
      exact lk_Machine_isOf_j100 hγ this Q (1 : Int32) (1 : Int32) M h
  · rw [if_neg b16] at h
    refine E_blk (lv' := [some (vr (some (6, this))), none, some (vi v2), none, none, some (vi s0)]) (st' := [vi s0]) (M1 := M) (pc' := 108) (tb_Machine hγ) [.iload 5] (by decide +kernel) rfl rfl trivial ?_
    refine E_if_ne (off := 10) (tgt := 118) (by decide +kernel) (by decide) (fun b19 => ?_) (fun b19 => ?_)
    · rw [if_pos b19] at h
      refine E_blk (lv' := [some (vr (some (6, this))), none, some (vi v2), none, none, some (vi s0)]) (st' := [vi (0 : Int32), vi (6 : Int32), vr (some (6, this))]) (M1 := M) (pc' := 115) (tb_Machine hγ) [.aload_n 0, .bipush 6, .iconst 0] (by decide +kernel) rfl rfl trivial ?_
      refine E_callV (κ' := k_Machine_fail) (As := [vi (6 : Int32), vi (0 : Int32)]) (st := []) mv_Machine_fail (Or.inl (tbk_mem (j := 8) (k := 190) rfl)) rfl (by decide +kernel) (Nat.le_of_ble_eq_true rfl) (Nat.le_of_ble_eq_true rfl) rfl (by decide) (lk_Machine_fail hγ this (6 : Int32) (0 : Int32) _ M h) (fun _ _ => Qv_r) (fun v M20 hp => Qv_k (R := fun st => E γ k_Machine_isOf 126 118 [some (vr (some (6, this))), none, some (vi v2), none, none, some (vi s0)] st M20 (Qi Q)) hp (fun h => ?_))
      refine E_blk (lv' := [some (vr (some (6, this))), none, some (vi v2), none, none, some (vi s0)]) (st' := [vi s0]) (M1 := M20) (pc' := 120) (tb_Machine hγ) [.iload 5] (by decide +kernel) rfl rfl trivial ?_
      exact E_zret rfl h.1 (by decide +kernel) h.2
    · rw [if_neg b19] at h
      refine E_blk (lv' := [some (vr (some (6, this))), none, some (vi v2), none, none, some (vi s0)]) (st' := [vi s0]) (M1 := M) (pc' := 120) (tb_Machine hγ) [.iload 5] (by decide +kernel) rfl rfl trivial ?_
      exact E_zret rfl h.1 (by decide +kernel) h.2
set_option maxRecDepth 4096 in
theorem lk_Machine_isOf {γ : Gm} (hγ : Gk γ) (this : Nat) (a1 : Int32) (a2 : Int32) (Q : Int32 → Mem → Prop) (M : Mem) (h : w_Machine_isOf this a1 a2 Q M) : E γ k_Machine_isOf 126 0 [some (vr (some (6, this))), some (vi a1), some (vi a2), none, none, none] [] M (Qi Q) := by
  unfold w_Machine_isOf at h
  refine E_blk (lv' := [some (vr (some (6, this))), some (vi a1), some (vi a2), none, none, none]) (st' := [vi (0 : Int32), vr (some (6, this))]) (M1 := M) (pc' := 2) (tb_Machine hγ) [.aload_n 0, .iconst 0] (by decide +kernel) rfl rfl trivial ?_
  refine E_callV (κ' := k_Machine_number) (As := [vi (0 : Int32)]) (st := []) mv_Machine_number (Or.inl (tbk_mem (j := 9) (k := 46) rfl)) rfl (by decide +kernel) (Nat.le_of_ble_eq_true rfl) (Nat.le_of_ble_eq_true rfl) rfl (by decide) (lk_Machine_number hγ this (0 : Int32) _ M h) (fun _ _ => Qi_r) (fun v M1 hp => Qi_k (R := fun st => E γ k_Machine_isOf 126 5 [some (vr (some (6, this))), some (vi a1), some (vi a2), none, none, none] st M1 (Qi Q)) hp (fun r2 h => ?_))
  refine E_blk (lv' := [some (vr (some (6, this))), some (vi a1), some (vi a2), some (vi r2), none, none]) (st' := [vi r2]) (M1 := M1) (pc' := 7) (tb_Machine hγ) [.istore_n 3, .iload_n 3] (by decide +kernel) rfl rfl trivial ?_
  refine E_if_ne (off := 18) (tgt := 25) (by decide +kernel) (by decide) (fun b3 => ?_) (fun b3 => ?_)
  · rw [if_pos b3] at h
    refine E_blk (lv' := [some (vr (some (6, this))), some (vi a1), some (vi a2), some (vi r2), none, none]) (st' := [vi (55 : Int32), vi a2]) (M1 := M1) (pc' := 13) (tb_Machine hγ) [.iload_n 2, .bipush 55] (by decide +kernel) rfl rfl trivial ?_
    refine E_icmp_ne (off := 10) (tgt := 23) (by decide +kernel) (by decide) (fun b4 => ?_) (fun b4 => ?_)
    · rw [if_pos b4] at h
      refine E_blk (lv' := [some (vr (some (6, this))), some (vi a1), some (vi a2), some (vi r2), none, none]) (st' := [vi (0 : Int32), vi (0 : Int32), vi (1 : Int32), vr (some (6, this))]) (M1 := M1) (pc' := 20) (tb_Machine hγ) [.aload_n 0, .iconst 1, .iconst 0, .iconst 0] (by decide +kernel) rfl rfl trivial ?_
      refine E_callV (κ' := k_Machine_comes) (As := [vi (1 : Int32), vi (0 : Int32), vi (0 : Int32)]) (st := []) mv_Machine_comes (Or.inl (tbk_mem (j := 9) (k := 62) rfl)) rfl (by decide +kernel) (Nat.le_of_ble_eq_true rfl) (Nat.le_of_ble_eq_true rfl) rfl (by decide) (lk_Machine_comes hγ this (1 : Int32) (0 : Int32) (0 : Int32) _ M1 h) (fun _ _ => Qv_r) (fun v M5 hp => Qv_k (R := fun st => E γ k_Machine_isOf 126 23 [some (vr (some (6, this))), some (vi a1), some (vi a2), some (vi r2), none, none] st M5 (Qi Q)) hp (fun h => ?_))
      refine E_blk (lv' := [some (vr (some (6, this))), some (vi a1), some (vi a2), some (vi r2), none, none]) (st' := [vi (1 : Int32)]) (M1 := M5) (pc' := 24) (tb_Machine hγ) [.iconst 1] (by decide +kernel) rfl rfl trivial ?_
      exact E_zret rfl (Or.inr rfl) (by decide +kernel) h
    · rw [if_neg b4] at h
      refine E_blk (lv' := [some (vr (some (6, this))), some (vi a1), some (vi a2), some (vi r2), none, none]) (st' := [vi (1 : Int32)]) (M1 := M1) (pc' := 24) (tb_Machine hγ) [.iconst 1] (by decide +kernel) rfl rfl trivial ?_
      exact E_zret rfl (Or.inr rfl) (by decide +kernel) h
  · rw [if_neg b3] at h
    refine E_blk (lv' := [some (vr (some (6, this))), some (vi a1), some (vi a2), some (vi r2), none, none]) (st' := [vi a1, vr (some (6, this))]) (M1 := M1) (pc' := 27) (tb_Machine hγ) [.aload_n 0, .iload_n 1] (by decide +kernel) rfl rfl trivial ?_
    refine E_callV (κ' := k_Machine_findClass) (As := [vi a1]) (st := []) mv_Machine_findClass (Or.inl (tbk_mem (j := 8) (k := 144) rfl)) rfl (by decide +kernel) (Nat.le_of_ble_eq_true rfl) (Nat.le_of_ble_eq_true rfl) rfl (by decide) (lk_Machine_findClass hγ this a1 _ M1 h) (fun _ _ => Qi_r) (fun v M6 hp => Qi_k (R := fun st => E γ k_Machine_isOf 126 30 [some (vr (some (6, this))), some (vi a1), some (vi a2), some (vi r2), none, none] st M6 (Qi Q)) hp (fun r7 h => ?_))
    refine E_blk (lv' := [some (vr (some (6, this))), some (vi a1), some (vi a2), some (vi r2), some (vi r7), none]) (st' := [vi r7]) (M1 := M6) (pc' := 34) (tb_Machine hγ) [.istore 4, .iload 4] (by decide +kernel) rfl rfl trivial ?_
    refine E_if_ge (off := 11) (tgt := 45) (by decide +kernel) (by decide) (fun b8 => ?_) (fun b8 => ?_)
    · rw [if_pos b8] at h
      refine E_blk (lv' := [some (vr (some (6, this))), some (vi a1), some (vi a2), some (vi r2), some (vi r7), none]) (st' := [vi r2, vr (some (6, this))]) (M1 := M6) (pc' := 47) (tb_Machine hγ) [.aload_n 0, .iload_n 3] (by decide +kernel) rfl rfl trivial ?_
      refine E_callV (κ' := k_Machine_isRow) (As := [vi r2]) (st := []) mv_Machine_isRow (Or.inl (tbk_mem (j := 9) (k := 112) rfl)) rfl (by decide +kernel) (Nat.le_of_ble_eq_true rfl) (Nat.le_of_ble_eq_true rfl) rfl (by decide) (lk_Machine_isRow hγ this r2 _ M6 h) (fun _ _ => Qi_r) (fun v M9 hp => Qi_k (R := fun st => E γ k_Machine_isOf 126 50 [some (vr (some (6, this))), some (vi a1), some (vi a2), some (vi r2), some (vi r7), none] st M9 (Qi Q)) hp (fun r10 h => ?_))
      refine E_if_eq (off := 16) (tgt := 66) (by decide +kernel) (by decide) (fun b11 => ?_) (fun b11 => ?_)
      · rw [if_pos b11] at h
        refine E_blk (lv' := [some (vr (some (6, this))), some (vi a1), some (vi a2), some (vi r2), some (vi r7), none]) (st' := [vi r2, vr (some (6, this)), vr (some (5, this))]) (M1 := M9) (pc' := 72) (tb_Machine hγ) [.aload_n 0, .getfield 84, .aload_n 0, .iload_n 3] (by decide +kernel) rfl rfl trivial ?_
        refine E_callV (κ' := k_Machine_classOf) (As := [vi r2]) (st := [vr (some (5, this))]) mv_Machine_classOf (Or.inl (tbk_mem (j := 8) (k := 207) rfl)) rfl (by decide +kernel) (Nat.le_of_ble_eq_true rfl) (Nat.le_of_ble_eq_true rfl) rfl (by decide) (lk_Machine_classOf hγ this r2 _ M9 h) (fun _ _ => Qi_r) (fun v M12 hp => Qi_k (R := fun st => E γ k_Machine_isOf 126 75 [some (vr (some (6, this))), some (vi a1), some (vi a2), some (vi r2), some (vi r7), none] st M12 (Qi Q)) hp (fun r13 h => ?_))
        refine E_blk (lv' := [some (vr (some (6, this))), some (vi a1), some (vi a2), some (vi r2), some (vi r7), none]) (st' := [vi r7, vi r13, vr (some (5, this))]) (M1 := M12) (pc' := 77) (tb_Machine hγ) [.iload 4] (by decide +kernel) rfl rfl trivial ?_
        refine E_callV (κ' := k_World_isBelow) (As := [vi r13, vi r7]) (st := []) mv_World_isBelow (Or.inl (tbk_mem (j := 8) (k := 211) rfl)) rfl (by decide +kernel) (Nat.le_of_ble_eq_true rfl) (Nat.le_of_ble_eq_true rfl) rfl (by decide) (lk_World_isBelow hγ this r13 r7 _ M12 h) (fun _ _ => Qi_r) (fun v M14 hp => Qi_k (R := fun st => E γ k_Machine_isOf 126 80 [some (vr (some (6, this))), some (vi a1), some (vi a2), some (vi r2), some (vi r7), none] st M14 (Qi Q)) hp (fun r15 h => ?_))
        refine E_mask [true, false, true, false, false, false] rfl ?_
        exact lk_Machine_isOf_j80 hγ this Q a2 r15 M14 h
      · rw [if_neg b11] at h
        refine E_blk (lv' := [some (vr (some (6, this))), some (vi a1), some (vi a2), some (vi r2), some (vi r7), none]) (st' := [vi r7]) (M1 := M9) (pc' := 55) (tb_Machine hγ) [.iload 4] (by decide +kernel) rfl rfl trivial ?_
        refine E_if_ne (off := 7) (tgt := 62) (by decide +kernel) (by decide) (fun b21 => ?_) (fun b21 => ?_)
        · rw [if_pos b21] at h
          refine E_blk (lv' := [some (vr (some (6, this))), some (vi a1), some (vi a2), some (vi r2), some (vi r7), none]) (st' := [vi (1 : Int32)]) (M1 := M9) (pc' := 59) (tb_Machine hγ) [.iconst 1] (by decide +kernel) rfl rfl trivial ?_
          refine E_goto (off := 21) (tgt := 80) (by decide +kernel) (by decide) ?_
          refine E_mask [true, false, true, false, false, false] rfl ?_
          exact lk_Machine_isOf_j80 hγ this Q a2 (1 : Int32) M9 h
        · rw [if_neg b21] at h
          refine E_blk (lv' := [some (vr (some (6, this))), some (vi a1), some (vi a2), some (vi r2), some (vi r7), none]) (st' := [vi (0 : Int32)]) (M1 := M9) (pc' := 63) (tb_Machine hγ) [.iconst 0] (by decide +kernel) rfl rfl trivial ?_
          refine E_goto (off := 17) (tgt := 80) (by decide +kernel) (by decide) ?_
          refine E_mask [true, false, true, false, false, false] rfl ?_
          exact lk_Machine_isOf_j80 hγ this Q a2 (0 : Int32) M9 h
    · rw [if_neg b8] at h
      refine E_blk (lv' := [some (vr (some (6, this))), some (vi a1), some (vi a2), some (vi r2), some (vi r7), none]) (st' := [vi r7, vr (some (6, this))]) (M1 := M6) (pc' := 40) (tb_Machine hγ) [.aload_n 0, .iload 4] (by decide +kernel) rfl rfl trivial ?_
      refine E_callV (κ' := k_Machine_fails) (As := [vi r7]) (st := []) mv_Machine_fails (Or.inl (tbk_mem (j := 8) (k := 186) rfl)) rfl (by decide +kernel) (Nat.le_of_ble_eq_true rfl) (Nat.le_of_ble_eq_true rfl) rfl (by decide) (lk_Machine_fails hγ this r7 _ M6 h) (fun _ _ => Qv_r) (fun v M22 hp => Qv_k (R := fun st => E γ k_Machine_isOf 126 43 [some (vr (some (6, this))), some (vi a1), some (vi a2), some (vi r2), some (vi r7), none] st M22 (Qi Q)) hp (fun h => ?_))
      refine E_blk (lv' := [some (vr (some (6, this))), some (vi a1), some (vi a2), some (vi r2), some (vi r7), none]) (st' := [vi (0 : Int32)]) (M1 := M22) (pc' := 44) (tb_Machine hγ) [.iconst 0] (by decide +kernel) rfl rfl trivial ?_
      exact E_zret rfl (Or.inl rfl) (by decide +kernel) h
def w_Machine_leave_j144 (this : Nat) (Q : Mem → Prop) (v4 : Int32) (s0 : Int32) (s1 : Nat) (M : Mem) : Prop :=
  ∃ i14, (mR (sI M 7 s1 14 s0) 6 this 2) = some (7, i14) ∧ if (mI (sI M 7 s1 14 s0) 7 i14 13) = (4 : Int32) then (∃ i16, (mR (sI M 7 s1 14 s0) 6 this 2) = some (7, i16) ∧ w_Machine_classOf this v4 (fun r18 M17 => Q (sI M17 7 i16 15 r18)) (sI M 7 s1 14 s0)) else (Q (sI M 7 s1 14 s0))
def w_Machine_leave_j126 (this : Nat) (Q : Mem → Prop) (v4 : Int32) (v5 : Int32) (s0 : Int32) (s1 : Nat) (M : Mem) : Prop :=
  ∃ i12, (mR (sI M 7 s1 13 s0) 6 this 2) = some (7, i12) ∧ if v5 = 0 then (w_Machine_leave_j144 this Q v4 v4 i12 (sI M 7 s1 13 s0)) else (w_Machine_leave_j144 this Q v4 (0 : Int32) i12 (sI M 7 s1 13 s0))
def w_Machine_leave_j248 (this : Nat) (Q : Mem → Prop) (v6 : Int32) (M : Mem) : Prop :=
  ∃ i32, (mR M 6 this 2) = some (7, i32) ∧ vp_in v6 (mL M 90 i32) ∧ w_Machine_goesTo this v6 ((mI M 90 i32 v6.toNatClampNeg) + (1 : Int32)) (fun M34 => Q M34) M
def w_Machine_leave_j28 (this : Nat) (Q : Mem → Prop) (v2 : Int32) (v3 : Int32) (v4 : Int32) (s0 : Int32) (M : Mem) : Prop :=
  w_Machine_methodEvent this (2 : Int32) v3 (fun M3 => ∃ i4, (mR M3 6 this 2) = some (7, i4) ∧ ∃ i5, (mR (sI M3 7 i4 1 ((mI M3 7 i4 1) - (1 : Int32))) 6 this 2) = some (7, i5) ∧ ∃ M6, M6 = (sI (sI M3 7 i4 1 ((mI M3 7 i4 1) - (1 : Int32))) 7 i5 2 ((mI (sI M3 7 i4 1 ((mI M3 7 i4 1) - (1 : Int32))) 7 i5 2) - (1 : Int32))) ∧ ∃ i7, (mR M6 6 this 2) = some (7, i7) ∧ if (mI M6 7 i7 1) = 0 then (∃ i9, (mR M6 6 this 2) = some (7, i9) ∧ ∃ i10, (mR (sI M6 7 i9 11 (0 : Int32)) 6 this 2) = some (7, i10) ∧ if v2 = (57 : Int32) then (w_Machine_leave_j126 this Q v4 s0 (0 : Int32) i10 (sI M6 7 i9 11 (0 : Int32))) else (if s0 = 0 then (w_Machine_leave_j126 this Q v4 s0 (1 : Int32) i10 (sI M6 7 i9 11 (0 : Int32))) else (if v4 = 0 then (w_Machine_leave_j126 this Q v4 s0 (2 : Int32) i10 (sI M6 7 i9 11 (0 : Int32))) else (w_Machine_isRow this v4 (fun r22 M21 => if r22 = 0 then (w_Machine_leave_j126 this Q v4 s0 (4 : Int32) i10 M21) else (w_Machine_leave_j126 this Q v4 s0 (3 : Int32) i10 M21)) (sI M6 7 i9 11 (0 : Int32)))))) else (∃ i24, (mR M6 6 this 2) = some (7, i24) ∧ ∃ i25, (mR M6 6 this 2) = some (7, i25) ∧ vp_in ((mI M6 7 i24 1) - (1 : Int32)) (mL M6 92 i25) ∧ if (mI M6 92 i25 ((mI M6 7 i24 1) - (1 : Int32)).toNatClampNeg) < 0 then (∃ i28, (mR (sI M6 6 this 33 ((40 : Int32) * ((mI M6 7 i24 1) - (1 : Int32)))) 6 this 2) = some (7, i28) ∧ vp_in ((mI M6 7 i24 1) - (1 : Int32)) (mL (sI M6 6 this 33 ((40 : Int32) * ((mI M6 7 i24 1) - (1 : Int32)))) 91 i28) ∧ ∃ M30, M30 = (sI (sI M6 6 this 33 ((40 : Int32) * ((mI M6 7 i24 1) - (1 : Int32)))) 6 this 34 (mI (sI M6 6 this 33 ((40 : Int32) * ((mI M6 7 i24 1) - (1 : Int32)))) 91 i28 ((mI M6 7 i24 1) - (1 : Int32)).toNatClampNeg)) ∧ if v2 = (57 : Int32) then (w_Machine_leave_j248 this Q ((mI M6 7 i24 1) - (1 : Int32)) M30) else (w_Machine_push this v4 s0 (fun M35 => w_Machine_leave_j248 this Q ((mI M6 7 i24 1) - (1 : Int32)) M35) M30)) else (∃ i36, (mR M6 6 this 2) = some (7, i36) ∧ vp_in ((mI M6 7 i24 1) - (1 : Int32)) (mL M6 92 i36) ∧ w_Machine_startEnds this (mI M6 92 i36 ((mI M6 7 i24 1) - (1 : Int32)).toNatClampNeg) (fun M38 => Q M38) M6))) M
def w_Machine_leave_j15 (this : Nat) (Q : Mem → Prop) (v2 : Int32) (v3 : Int32) (s0 : Int32) (M : Mem) : Prop :=
  if v2 = (59 : Int32) then (w_Machine_leave_j28 this Q v2 v3 s0 (1 : Int32) M) else (w_Machine_leave_j28 this Q v2 v3 s0 (0 : Int32) M)
def w_Machine_leave (this : Nat) (a1 : Int32) (a2 : Int32) (a3 : Int32) (Q : Mem → Prop) (M : Mem) : Prop :=
  if a2 = (57 : Int32) then (w_Machine_leave_j15 this Q a2 a3 (0 : Int32) M) else (w_Machine_number this (0 : Int32) (fun r40 M39 => w_Machine_leave_j15 this Q a2 a3 r40 M39) M)
set_option maxRecDepth 4096 in
theorem lk_Machine_leave_j144 {γ : Gm} (hγ : Gk γ) (this : Nat) (Q : Mem → Prop) (v4 : Int32) (s0 : Int32) (s1 : Nat) (M : Mem) (h : w_Machine_leave_j144 this Q v4 s0 s1 M) : E γ k_Machine_leave 2 144 [some (vr (some (6, this))), none, none, none, some (vi v4), none, none] [vi s0, vr (some (7, s1))] M (Qv Q) := by
  unfold w_Machine_leave_j144 at h
  refine E_blk (lv' := [some (vr (some (6, this))), none, none, none, some (vi v4), none, none]) (st' := [vr (mR (sI M 7 s1 14 s0) 6 this 2)]) (M1 := (sI M 7 s1 14 s0)) (pc' := 151) (tb_Machine hγ) [.putfield 503, .aload_n 0, .getfield 24] (by decide +kernel) rfl rfl trivial ?_
  obtain ⟨i14, ei14, h⟩ := h
  rw [ei14]
  refine E_blk (lv' := [some (vr (some (6, this))), none, none, none, some (vi v4), none, none]) (st' := [vi (4 : Int32), vi (mI (sI M 7 s1 14 s0) 7 i14 13)]) (M1 := (sI M 7 s1 14 s0)) (pc' := 155) (tb_Machine hγ) [.getfield 500, .iconst 4] (by decide +kernel) rfl rfl trivial ?_
  refine E_icmp_ne (off := 16) (tgt := 171) (by decide +kernel) (by decide) (fun b15 => ?_) (fun b15 => ?_)
  · rw [if_pos b15] at h
    refine E_blk (lv' := [some (vr (some (6, this))), none, none, none, some (vi v4), none, none]) (st' := [vr (mR (sI M 7 s1 14 s0) 6 this 2)]) (M1 := (sI M 7 s1 14 s0)) (pc' := 162) (tb_Machine hγ) [.aload_n 0, .getfield 24] (by decide +kernel) rfl rfl trivial ?_
    obtain ⟨i16, ei16, h⟩ := h
    rw [ei16]
    refine E_blk (lv' := [some (vr (some (6, this))), none, none, none, some (vi v4), none, none]) (st' := [vi v4, vr (some (6, this)), vr (some (7, i16))]) (M1 := (sI M 7 s1 14 s0)) (pc' := 165) (tb_Machine hγ) [.aload_n 0, .iload 4] (by decide +kernel) rfl rfl trivial ?_
    refine E_callV (κ' := k_Machine_classOf) (As := [vi v4]) (st := [vr (some (7, i16))]) mv_Machine_classOf (Or.inl (tbk_mem (j := 8) (k := 207) rfl)) rfl (by decide +kernel) (Nat.le_of_ble_eq_true rfl) (Nat.le_of_ble_eq_true rfl) rfl (by decide) (lk_Machine_classOf hγ this v4 _ (sI M 7 s1 14 s0) h) (fun _ _ => Qi_r) (fun v M17 hp => Qi_k (R := fun st => E γ k_Machine_leave 2 168 [some (vr (some (6, this))), none, none, none, some (vi v4), none, none] st M17 (Qv Q)) hp (fun r18 h => ?_))
    refine E_blk (lv' := [some (vr (some (6, this))), none, none, none, some (vi v4), none, none]) (st' := []) (M1 := (sI M17 7 i16 15 r18)) (pc' := 171) (tb_Machine hγ) [.putfield 333] (by decide +kernel) rfl rfl trivial ?_
    exact E_vret rfl (by decide +kernel) h
  · rw [if_neg b15] at h
    exact E_vret rfl (by decide +kernel) h
set_option maxRecDepth 4096 in
theorem lk_Machine_leave_j126 {γ : Gm} (hγ : Gk γ) (this : Nat) (Q : Mem → Prop) (v4 : Int32) (v5 : Int32) (s0 : Int32) (s1 : Nat) (M : Mem) (h : w_Machine_leave_j126 this Q v4 v5 s0 s1 M) : E γ k_Machine_leave 2 126 [some (vr (some (6, this))), none, none, none, some (vi v4), some (vi v5), none] [vi s0, vr (some (7, s1))] M (Qv Q) := by
  unfold w_Machine_leave_j126 at h
  refine E_blk (lv' := [some (vr (some (6, this))), none, none, none, some (vi v4), some (vi v5), none]) (st' := [vr (mR (sI M 7 s1 13 s0) 6 this 2)]) (M1 := (sI M 7 s1 13 s0)) (pc' := 133) (tb_Machine hγ) [.putfield 500, .aload_n 0, .getfield 24] (by decide +kernel) rfl rfl trivial ?_
  obtain ⟨i12, ei12, h⟩ := h
  rw [ei12]
  refine E_blk (lv' := [some (vr (some (6, this))), none, none, none, some (vi v4), some (vi v5), none]) (st' := [vi v5, vr (some (7, i12))]) (M1 := (sI M 7 s1 13 s0)) (pc' := 135) (tb_Machine hγ) [.iload 5] (by decide +kernel) rfl rfl trivial ?_
  refine E_if_eq (off := 7) (tgt := 142) (by decide +kernel) (by decide) (fun b13 => ?_) (fun b13 => ?_)
  · rw [if_pos b13] at h
    refine E_blk (lv' := [some (vr (some (6, this))), none, none, none, some (vi v4), some (vi v5), none]) (st' := [vi v4, vr (some (7, i12))]) (M1 := (sI M 7 s1 13 s0)) (pc' := 144) (tb_Machine hγ) [.iload 4] (by decide +kernel) rfl rfl trivial ?_
    refine E_mask [true, false, false, false, true, false, false] rfl ?_
    exact lk_Machine_leave_j144 hγ this Q v4 v4 i12 (sI M 7 s1 13 s0) h
  · rw [if_neg b13] at h
    refine E_blk (lv' := [some (vr (some (6, this))), none, none, none, some (vi v4), some (vi v5), none]) (st' := [vi (0 : Int32), vr (some (7, i12))]) (M1 := (sI M 7 s1 13 s0)) (pc' := 139) (tb_Machine hγ) [.iconst 0] (by decide +kernel) rfl rfl trivial ?_
    refine E_goto (off := 5) (tgt := 144) (by decide +kernel) (by decide) ?_
    refine E_mask [true, false, false, false, true, false, false] rfl ?_
    exact lk_Machine_leave_j144 hγ this Q v4 (0 : Int32) i12 (sI M 7 s1 13 s0) h
set_option maxRecDepth 4096 in
theorem lk_Machine_leave_j248 {γ : Gm} (hγ : Gk γ) (this : Nat) (Q : Mem → Prop) (v6 : Int32) (M : Mem) (h : w_Machine_leave_j248 this Q v6 M) : E γ k_Machine_leave 2 248 [some (vr (some (6, this))), none, none, none, none, none, some (vi v6)] [] M (Qv Q) := by
  unfold w_Machine_leave_j248 at h
  refine E_blk (lv' := [some (vr (some (6, this))), none, none, none, none, none, some (vi v6)]) (st' := [vr (mR M 6 this 2), vi v6, vr (some (6, this))]) (M1 := M) (pc' := 255) (tb_Machine hγ) [.aload_n 0, .iload 6, .aload_n 0, .getfield 24] (by decide +kernel) rfl rfl trivial ?_
  obtain ⟨i32, ei32, h⟩ := h
  rw [ei32]
  obtain ⟨c33, h⟩ := h
  refine E_blk (lv' := [some (vr (some (6, this))), none, none, none, none, none, some (vi v6)]) (st' := [vi ((mI M 90 i32 v6.toNatClampNeg) + (1 : Int32)), vi v6, vr (some (6, this))]) (M1 := M) (pc' := 263) (tb_Machine hγ) [.getfield 230, .iload 6, .iaload, .iconst 1, .iadd] (by decide +kernel) rfl rfl ⟨c33, trivial⟩ ?_
  refine E_callV (κ' := k_Machine_goesTo) (As := [vi v6, vi ((mI M 90 i32 v6.toNatClampNeg) + (1 : Int32))]) (st := []) mv_Machine_goesTo (Or.inl (tbk_mem (j := 9) (k := 70) rfl)) rfl (by decide +kernel) (Nat.le_of_ble_eq_true rfl) (Nat.le_of_ble_eq_true rfl) rfl (by decide) (lk_Machine_goesTo hγ this v6 ((mI M 90 i32 v6.toNatClampNeg) + (1 : Int32)) _ M h) (fun _ _ => Qv_r) (fun v M34 hp => Qv_k (R := fun st => E γ k_Machine_leave 2 266 [some (vr (some (6, this))), none, none, none, none, none, some (vi v6)] st M34 (Qv Q)) hp (fun h => ?_))
  exact E_vret rfl (by decide +kernel) h
set_option maxRecDepth 4096 in
theorem lk_Machine_leave_j28 {γ : Gm} (hγ : Gk γ) (this : Nat) (Q : Mem → Prop) (v2 : Int32) (v3 : Int32) (v4 : Int32) (s0 : Int32) (M : Mem) (h : w_Machine_leave_j28 this Q v2 v3 v4 s0 M) : E γ k_Machine_leave 2 28 [some (vr (some (6, this))), none, some (vi v2), some (vi v3), some (vi v4), none, none] [vi s0] M (Qv Q) := by
  unfold w_Machine_leave_j28 at h
  refine E_blk (lv' := [some (vr (some (6, this))), none, some (vi v2), some (vi v3), some (vi v4), some (vi s0), none]) (st' := [vi v3, vi (2 : Int32), vr (some (6, this))]) (M1 := M) (pc' := 33) (tb_Machine hγ) [.istore 5, .aload_n 0, .iconst 2, .iload_n 3] (by decide +kernel) rfl rfl trivial ?_
  refine E_callV (κ' := k_Machine_methodEvent) (As := [vi (2 : Int32), vi v3]) (st := []) mv_Machine_methodEvent (Or.inl (tbk_mem (j := 8) (k := 223) rfl)) rfl (by decide +kernel) (Nat.le_of_ble_eq_true rfl) (Nat.le_of_ble_eq_true rfl) rfl (by decide) (lk_Machine_methodEvent hγ this (2 : Int32) v3 _ M h) (fun _ _ => Qv_r) (fun v M3 hp => Qv_k (R := fun st => E γ k_Machine_leave 2 36 [some (vr (some (6, this))), none, some (vi v2), some (vi v3), some (vi v4), some (vi s0), none] st M3 (Qv Q)) hp (fun h => ?_))
  refine E_blk (lv' := [some (vr (some (6, this))), none, some (vi v2), some (vi v3), some (vi v4), some (vi s0), none]) (st' := [vr (mR M3 6 this 2)]) (M1 := M3) (pc' := 40) (tb_Machine hγ) [.aload_n 0, .getfield 24] (by decide +kernel) rfl rfl trivial ?_
  obtain ⟨i4, ei4, h⟩ := h
  rw [ei4]
  refine E_blk (lv' := [some (vr (some (6, this))), none, some (vi v2), some (vi v3), some (vi v4), some (vi s0), none]) (st' := [vr (mR (sI M3 7 i4 1 ((mI M3 7 i4 1) - (1 : Int32))) 6 this 2)]) (M1 := (sI M3 7 i4 1 ((mI M3 7 i4 1) - (1 : Int32)))) (pc' := 53) (tb_Machine hγ) [.dup, .getfield 152, .iconst 1, .isub, .putfield 152, .aload_n 0, .getfield 24] (by decide +kernel) rfl rfl trivial ?_
  obtain ⟨i5, ei5, h⟩ := h
  rw [ei5]
  refine E_blk (lv' := [some (vr (some (6, this))), none, some (vi v2), some (vi v3), some (vi v4), some (vi s0), none]) (st' := []) (M1 := (sI (sI M3 7 i4 1 ((mI M3 7 i4 1) - (1 : Int32))) 7 i5 2 ((mI (sI M3 7 i4 1 ((mI M3 7 i4 1) - (1 : Int32))) 7 i5 2) - (1 : Int32)))) (pc' := 62) (tb_Machine hγ) [.dup, .getfield 224, .iconst 1, .isub, .putfield 224] (by decide +kernel) rfl rfl trivial ?_
  obtain ⟨M6, eM6, h⟩ := h
  rw [← eM6]
  refine E_blk (lv' := [some (vr (some (6, this))), none, some (vi v2), some (vi v3), some (vi v4), some (vi s0), none]) (st' := [vr (mR M6 6 this 2)]) (M1 := M6) (pc' := 66) (tb_Machine hγ) [.aload_n 0, .getfield 24] (by decide +kernel) rfl rfl trivial ?_
  obtain ⟨i7, ei7, h⟩ := h
  rw [ei7]
  refine E_blk (lv' := [some (vr (some (6, this))), none, some (vi v2), some (vi v3), some (vi v4), some (vi s0), none]) (st' := [vi (mI M6 7 i7 1)]) (M1 := M6) (pc' := 69) (tb_Machine hγ) [.getfield 152] (by decide +kernel) rfl rfl trivial ?_
  refine E_if_ne (off := 103) (tgt := 172) (by decide +kernel) (by decide) (fun b8 => ?_) (fun b8 => ?_)
  · rw [if_pos b8] at h
    refine E_blk (lv' := [some (vr (some (6, this))), none, some (vi v2), some (vi v3), some (vi v4), some (vi s0), none]) (st' := [vr (mR M6 6 this 2)]) (M1 := M6) (pc' := 76) (tb_Machine hγ) [.aload_n 0, .getfield 24] (by decide +kernel) rfl rfl trivial ?_
    obtain ⟨i9, ei9, h⟩ := h
    rw [ei9]
    refine E_blk (lv' := [some (vr (some (6, this))), none, some (vi v2), some (vi v3), some (vi v4), some (vi s0), none]) (st' := [vr (mR (sI M6 7 i9 11 (0 : Int32)) 6 this 2)]) (M1 := (sI M6 7 i9 11 (0 : Int32))) (pc' := 84) (tb_Machine hγ) [.iconst 0, .putfield 149, .aload_n 0, .getfield 24] (by decide +kernel) rfl rfl trivial ?_
    obtain ⟨i10, ei10, h⟩ := h
    rw [ei10]
    refine E_blk (lv' := [some (vr (some (6, this))), none, some (vi v2), some (vi v3), some (vi v4), some (vi s0), none]) (st' := [vi (57 : Int32), vi v2, vr (some (7, i10))]) (M1 := (sI M6 7 i9 11 (0 : Int32))) (pc' := 87) (tb_Machine hγ) [.iload_n 2, .bipush 57] (by decide +kernel) rfl rfl trivial ?_
    refine E_icmp_ne (off := 7) (tgt := 94) (by decide +kernel) (by decide) (fun b11 => ?_) (fun b11 => ?_)
    · rw [if_pos b11] at h
      refine E_blk (lv' := [some (vr (some (6, this))), none, some (vi v2), some (vi v3), some (vi v4), some (vi s0), none]) (st' := [vi (0 : Int32), vr (some (7, i10))]) (M1 := (sI M6 7 i9 11 (0 : Int32))) (pc' := 91) (tb_Machine hγ) [.iconst 0] (by decide +kernel) rfl rfl trivial ?_
      refine E_goto (off := 35) (tgt := 126) (by decide +kernel) (by decide) ?_
      refine E_mask [true, false, false, false, true, true, false] rfl ?_
      exact lk_Machine_leave_j126 hγ this Q v4 s0 (0 : Int32) i10 (sI M6 7 i9 11 (0 : Int32)) h
    · rw [if_neg b11] at h
      refine E_blk (lv' := [some (vr (some (6, this))), none, some (vi v2), some (vi v3), some (vi v4), some (vi s0), none]) (st' := [vi s0, vr (some (7, i10))]) (M1 := (sI M6 7 i9 11 (0 : Int32))) (pc' := 96) (tb_Machine hγ) [.iload 5] (by decide +kernel) rfl rfl trivial ?_
      refine E_if_ne (off := 7) (tgt := 103) (by decide +kernel) (by decide) (fun b19 => ?_) (fun b19 => ?_)
      · rw [if_pos b19] at h
        refine E_blk (lv' := [some (vr (some (6, this))), none, some (vi v2), some (vi v3), some (vi v4), some (vi s0), none]) (st' := [vi (1 : Int32), vr (some (7, i10))]) (M1 := (sI M6 7 i9 11 (0 : Int32))) (pc' := 100) (tb_Machine hγ) [.iconst 1] (by decide +kernel) rfl rfl trivial ?_
        refine E_goto (off := 26) (tgt := 126) (by decide +kernel) (by decide) ?_
        refine E_mask [true, false, false, false, true, true, false] rfl ?_
        exact lk_Machine_leave_j126 hγ this Q v4 s0 (1 : Int32) i10 (sI M6 7 i9 11 (0 : Int32)) h
      · rw [if_neg b19] at h
        refine E_blk (lv' := [some (vr (some (6, this))), none, some (vi v2), some (vi v3), some (vi v4), some (vi s0), none]) (st' := [vi v4, vr (some (7, i10))]) (M1 := (sI M6 7 i9 11 (0 : Int32))) (pc' := 105) (tb_Machine hγ) [.iload 4] (by decide +kernel) rfl rfl trivial ?_
        refine E_if_ne (off := 7) (tgt := 112) (by decide +kernel) (by decide) (fun b20 => ?_) (fun b20 => ?_)
        · rw [if_pos b20] at h
          refine E_blk (lv' := [some (vr (some (6, this))), none, some (vi v2), some (vi v3), some (vi v4), some (vi s0), none]) (st' := [vi (2 : Int32), vr (some (7, i10))]) (M1 := (sI M6 7 i9 11 (0 : Int32))) (pc' := 109) (tb_Machine hγ) [.iconst 2] (by decide +kernel) rfl rfl trivial ?_
          refine E_goto (off := 17) (tgt := 126) (by decide +kernel) (by decide) ?_
          refine E_mask [true, false, false, false, true, true, false] rfl ?_
          exact lk_Machine_leave_j126 hγ this Q v4 s0 (2 : Int32) i10 (sI M6 7 i9 11 (0 : Int32)) h
        · rw [if_neg b20] at h
          refine E_blk (lv' := [some (vr (some (6, this))), none, some (vi v2), some (vi v3), some (vi v4), some (vi s0), none]) (st' := [vi v4, vr (some (6, this)), vr (some (7, i10))]) (M1 := (sI M6 7 i9 11 (0 : Int32))) (pc' := 115) (tb_Machine hγ) [.aload_n 0, .iload 4] (by decide +kernel) rfl rfl trivial ?_
          refine E_callV (κ' := k_Machine_isRow) (As := [vi v4]) (st := [vr (some (7, i10))]) mv_Machine_isRow (Or.inl (tbk_mem (j := 9) (k := 112) rfl)) rfl (by decide +kernel) (Nat.le_of_ble_eq_true rfl) (Nat.le_of_ble_eq_true rfl) rfl (by decide) (lk_Machine_isRow hγ this v4 _ (sI M6 7 i9 11 (0 : Int32)) h) (fun _ _ => Qi_r) (fun v M21 hp => Qi_k (R := fun st => E γ k_Machine_leave 2 118 [some (vr (some (6, this))), none, some (vi v2), some (vi v3), some (vi v4), some (vi s0), none] st M21 (Qv Q)) hp (fun r22 h => ?_))
          refine E_if_eq (off := 7) (tgt := 125) (by decide +kernel) (by decide) (fun b23 => ?_) (fun b23 => ?_)
          · rw [if_pos b23] at h
            refine E_blk (lv' := [some (vr (some (6, this))), none, some (vi v2), some (vi v3), some (vi v4), some (vi s0), none]) (st' := [vi (4 : Int32), vr (some (7, i10))]) (M1 := M21) (pc' := 126) (tb_Machine hγ) [.iconst 4] (by decide +kernel) rfl rfl trivial ?_
            refine E_mask [true, false, false, false, true, true, false] rfl ?_
            exact lk_Machine_leave_j126 hγ this Q v4 s0 (4 : Int32) i10 M21 h
          · rw [if_neg b23] at h
            refine E_blk (lv' := [some (vr (some (6, this))), none, some (vi v2), some (vi v3), some (vi v4), some (vi s0), none]) (st' := [vi (3 : Int32), vr (some (7, i10))]) (M1 := M21) (pc' := 122) (tb_Machine hγ) [.iconst 3] (by decide +kernel) rfl rfl trivial ?_
            refine E_goto (off := 4) (tgt := 126) (by decide +kernel) (by decide) ?_
            refine E_mask [true, false, false, false, true, true, false] rfl ?_
            exact lk_Machine_leave_j126 hγ this Q v4 s0 (3 : Int32) i10 M21 h
  · rw [if_neg b8] at h
    refine E_blk (lv' := [some (vr (some (6, this))), none, some (vi v2), some (vi v3), some (vi v4), some (vi s0), none]) (st' := [vr (mR M6 6 this 2)]) (M1 := M6) (pc' := 176) (tb_Machine hγ) [.aload_n 0, .getfield 24] (by decide +kernel) rfl rfl trivial ?_
    obtain ⟨i24, ei24, h⟩ := h
    rw [ei24]
    refine E_blk (lv' := [some (vr (some (6, this))), none, some (vi v2), some (vi v3), some (vi v4), some (vi s0), some (vi ((mI M6 7 i24 1) - (1 : Int32)))]) (st' := [vr (mR M6 6 this 2)]) (M1 := M6) (pc' := 187) (tb_Machine hγ) [.getfield 152, .iconst 1, .isub, .istore 6, .aload_n 0, .getfield 24] (by decide +kernel) rfl rfl trivial ?_
    obtain ⟨i25, ei25, h⟩ := h
    rw [ei25]
    obtain ⟨c26, h⟩ := h
    refine E_blk (lv' := [some (vr (some (6, this))), none, some (vi v2), some (vi v3), some (vi v4), some (vi s0), some (vi ((mI M6 7 i24 1) - (1 : Int32)))]) (st' := [vi (mI M6 92 i25 ((mI M6 7 i24 1) - (1 : Int32)).toNatClampNeg)]) (M1 := M6) (pc' := 193) (tb_Machine hγ) [.getfield 155, .iload 6, .iaload] (by decide +kernel) rfl rfl ⟨c26, trivial⟩ ?_
    refine E_if_lt (off := 18) (tgt := 211) (by decide +kernel) (by decide) (fun b27 => ?_) (fun b27 => ?_)
    · rw [if_pos b27] at h
      refine E_blk (lv' := [some (vr (some (6, this))), none, some (vi v2), some (vi v3), some (vi v4), some (vi s0), some (vi ((mI M6 7 i24 1) - (1 : Int32)))]) (st' := [vr (mR (sI M6 6 this 33 ((40 : Int32) * ((mI M6 7 i24 1) - (1 : Int32)))) 6 this 2), vr (some (6, this))]) (M1 := (sI M6 6 this 33 ((40 : Int32) * ((mI M6 7 i24 1) - (1 : Int32))))) (pc' := 225) (tb_Machine hγ) [.aload_n 0, .bipush 40, .iload 6, .imul, .putfield 402, .aload_n 0, .aload_n 0, .getfield 24] (by decide +kernel) rfl rfl trivial ?_
      obtain ⟨i28, ei28, h⟩ := h
      rw [ei28]
      obtain ⟨c29, h⟩ := h
      refine E_blk (lv' := [some (vr (some (6, this))), none, some (vi v2), some (vi v3), some (vi v4), some (vi s0), some (vi ((mI M6 7 i24 1) - (1 : Int32)))]) (st' := []) (M1 := (sI (sI M6 6 this 33 ((40 : Int32) * ((mI M6 7 i24 1) - (1 : Int32)))) 6 this 34 (mI (sI M6 6 this 33 ((40 : Int32) * ((mI M6 7 i24 1) - (1 : Int32)))) 91 i28 ((mI M6 7 i24 1) - (1 : Int32)).toNatClampNeg))) (pc' := 234) (tb_Machine hγ) [.getfield 233, .iload 6, .iaload, .putfield 405] (by decide +kernel) rfl rfl ⟨c29, trivial⟩ ?_
      obtain ⟨M30, eM30, h⟩ := h
      rw [← eM30]
      refine E_blk (lv' := [some (vr (some (6, this))), none, some (vi v2), some (vi v3), some (vi v4), some (vi s0), some (vi ((mI M6 7 i24 1) - (1 : Int32)))]) (st' := [vi (57 : Int32), vi v2]) (M1 := M30) (pc' := 237) (tb_Machine hγ) [.iload_n 2, .bipush 57] (by decide +kernel) rfl rfl trivial ?_
      refine E_icmp_eq (off := 11) (tgt := 248) (by decide +kernel) (by decide) (fun b31 => ?_) (fun b31 => ?_)
      · rw [if_pos b31] at h
        refine E_mask [true, false, false, false, false, false, true] rfl ?_
        exact lk_Machine_leave_j248 hγ this Q ((mI M6 7 i24 1) - (1 : Int32)) M30 h
      · rw [if_neg b31] at h
        refine E_blk (lv' := [some (vr (some (6, this))), none, some (vi v2), some (vi v3), some (vi v4), some (vi s0), some (vi ((mI M6 7 i24 1) - (1 : Int32)))]) (st' := [vi s0, vi v4, vr (some (6, this))]) (M1 := M30) (pc' := 245) (tb_Machine hγ) [.aload_n 0, .iload 4, .iload 5] (by decide +kernel) rfl rfl trivial ?_
        refine E_callV (κ' := k_Machine_push) (As := [vi v4, vi s0]) (st := []) mv_Machine_push (Or.inl (tbk_mem (j := 9) (k := 66) rfl)) rfl (by decide +kernel) (Nat.le_of_ble_eq_true rfl) (Nat.le_of_ble_eq_true rfl) rfl (by decide) (lk_Machine_push hγ this v4 s0 _ M30 h) (fun _ _ => Qv_r) (fun v M35 hp => Qv_k (R := fun st => E γ k_Machine_leave 2 248 [some (vr (some (6, this))), none, some (vi v2), some (vi v3), some (vi v4), some (vi s0), some (vi ((mI M6 7 i24 1) - (1 : Int32)))] st M35 (Qv Q)) hp (fun h => ?_))
        refine E_mask [true, false, false, false, false, false, true] rfl ?_
        exact lk_Machine_leave_j248 hγ this Q ((mI M6 7 i24 1) - (1 : Int32)) M35 h
    · rw [if_neg b27] at h
      refine E_blk (lv' := [some (vr (some (6, this))), none, some (vi v2), some (vi v3), some (vi v4), some (vi s0), some (vi ((mI M6 7 i24 1) - (1 : Int32)))]) (st' := [vr (mR M6 6 this 2), vr (some (6, this))]) (M1 := M6) (pc' := 201) (tb_Machine hγ) [.aload_n 0, .aload_n 0, .getfield 24] (by decide +kernel) rfl rfl trivial ?_
      obtain ⟨i36, ei36, h⟩ := h
      rw [ei36]
      obtain ⟨c37, h⟩ := h
      refine E_blk (lv' := [some (vr (some (6, this))), none, some (vi v2), some (vi v3), some (vi v4), some (vi s0), some (vi ((mI M6 7 i24 1) - (1 : Int32)))]) (st' := [vi (mI M6 92 i36 ((mI M6 7 i24 1) - (1 : Int32)).toNatClampNeg), vr (some (6, this))]) (M1 := M6) (pc' := 207) (tb_Machine hγ) [.getfield 155, .iload 6, .iaload] (by decide +kernel) rfl rfl ⟨c37, trivial⟩ ?_
      refine E_callV (κ' := k_Machine_startEnds) (As := [vi (mI M6 92 i36 ((mI M6 7 i24 1) - (1 : Int32)).toNatClampNeg)]) (st := []) mv_Machine_startEnds (Or.inl (tbk_mem (j := 9) (k := 16) rfl)) rfl (by decide +kernel) (Nat.le_of_ble_eq_true rfl) (Nat.le_of_ble_eq_true rfl) rfl (by decide) (lk_Machine_startEnds hγ this (mI M6 92 i36 ((mI M6 7 i24 1) - (1 : Int32)).toNatClampNeg) _ M6 h) (fun _ _ => Qv_r) (fun v M38 hp => Qv_k (R := fun st => E γ k_Machine_leave 2 210 [some (vr (some (6, this))), none, some (vi v2), some (vi v3), some (vi v4), some (vi s0), some (vi ((mI M6 7 i24 1) - (1 : Int32)))] st M38 (Qv Q)) hp (fun h => ?_))
      exact E_vret rfl (by decide +kernel) h
set_option maxRecDepth 4096 in
theorem lk_Machine_leave_j15 {γ : Gm} (hγ : Gk γ) (this : Nat) (Q : Mem → Prop) (v2 : Int32) (v3 : Int32) (s0 : Int32) (M : Mem) (h : w_Machine_leave_j15 this Q v2 v3 s0 M) : E γ k_Machine_leave 2 15 [some (vr (some (6, this))), none, some (vi v2), some (vi v3), none, none, none] [vi s0] M (Qv Q) := by
  unfold w_Machine_leave_j15 at h
  refine E_blk (lv' := [some (vr (some (6, this))), none, some (vi v2), some (vi v3), some (vi s0), none, none]) (st' := [vi (59 : Int32), vi v2]) (M1 := M) (pc' := 20) (tb_Machine hγ) [.istore 4, .iload_n 2, .bipush 59] (by decide +kernel) rfl rfl trivial ?_
  refine E_icmp_ne (off := 7) (tgt := 27) (by decide +kernel) (by decide) (fun b2 => ?_) (fun b2 => ?_)
  · rw [if_pos b2] at h
    refine E_blk (lv' := [some (vr (some (6, this))), none, some (vi v2), some (vi v3), some (vi s0), none, none]) (st' := [vi (1 : Int32)]) (M1 := M) (pc' := 24) (tb_Machine hγ) [.iconst 1] (by decide +kernel) rfl rfl trivial ?_
    refine E_goto (off := 4) (tgt := 28) (by decide +kernel) (by decide) ?_
    refine E_mask [true, false, true, true, true, false, false] rfl ?_
    exact lk_Machine_leave_j28 hγ this Q v2 v3 s0 (1 : Int32) M h
  · rw [if_neg b2] at h
    refine E_blk (lv' := [some (vr (some (6, this))), none, some (vi v2), some (vi v3), some (vi s0), none, none]) (st' := [vi (0 : Int32)]) (M1 := M) (pc' := 28) (tb_Machine hγ) [.iconst 0] (by decide +kernel) rfl rfl trivial ?_
    refine E_mask [true, false, true, true, true, false, false] rfl ?_
    exact lk_Machine_leave_j28 hγ this Q v2 v3 s0 (0 : Int32) M h
set_option maxRecDepth 4096 in
theorem lk_Machine_leave {γ : Gm} (hγ : Gk γ) (this : Nat) (a1 : Int32) (a2 : Int32) (a3 : Int32) (Q : Mem → Prop) (M : Mem) (h : w_Machine_leave this a1 a2 a3 Q M) : E γ k_Machine_leave 2 0 [some (vr (some (6, this))), some (vi a1), some (vi a2), some (vi a3), none, none, none] [] M (Qv Q) := by
  unfold w_Machine_leave at h
  refine E_blk (lv' := [some (vr (some (6, this))), some (vi a1), some (vi a2), some (vi a3), none, none, none]) (st' := [vi (57 : Int32), vi a2]) (M1 := M) (pc' := 3) (tb_Machine hγ) [.iload_n 2, .bipush 57] (by decide +kernel) rfl rfl trivial ?_
  refine E_icmp_ne (off := 7) (tgt := 10) (by decide +kernel) (by decide) (fun b1 => ?_) (fun b1 => ?_)
  · rw [if_pos b1] at h
    refine E_blk (lv' := [some (vr (some (6, this))), some (vi a1), some (vi a2), some (vi a3), none, none, none]) (st' := [vi (0 : Int32)]) (M1 := M) (pc' := 7) (tb_Machine hγ) [.iconst 0] (by decide +kernel) rfl rfl trivial ?_
    refine E_goto (off := 8) (tgt := 15) (by decide +kernel) (by decide) ?_
    refine E_mask [true, false, true, true, false, false, false] rfl ?_
    exact lk_Machine_leave_j15 hγ this Q a2 a3 (0 : Int32) M h
  · rw [if_neg b1] at h
    refine E_blk (lv' := [some (vr (some (6, this))), some (vi a1), some (vi a2), some (vi a3), none, none, none]) (st' := [vi (0 : Int32), vr (some (6, this))]) (M1 := M) (pc' := 12) (tb_Machine hγ) [.aload_n 0, .iconst 0] (by decide +kernel) rfl rfl trivial ?_
    refine E_callV (κ' := k_Machine_number) (As := [vi (0 : Int32)]) (st := []) mv_Machine_number (Or.inl (tbk_mem (j := 9) (k := 46) rfl)) rfl (by decide +kernel) (Nat.le_of_ble_eq_true rfl) (Nat.le_of_ble_eq_true rfl) rfl (by decide) (lk_Machine_number hγ this (0 : Int32) _ M h) (fun _ _ => Qi_r) (fun v M39 hp => Qi_k (R := fun st => E γ k_Machine_leave 2 15 [some (vr (some (6, this))), some (vi a1), some (vi a2), some (vi a3), none, none, none] st M39 (Qv Q)) hp (fun r40 h => ?_))
    refine E_mask [true, false, true, true, false, false, false] rfl ?_
    exact lk_Machine_leave_j15 hγ this Q a2 a3 r40 M39 h
def w_Machine_act_j642 (this : Nat) (Q : Mem → Prop) (v1 : Int32) (v6 : Int32) (M : Mem) : Prop :=
  w_Machine_goesTo this v1 v6 (fun M19 => Q M19) M
def w_Machine_act_j486 (this : Nat) (Q : Mem → Prop) (v1 : Int32) (v6 : Int32) (s0 : Int32) (s1 : Int32) (s2 : Int32) (M : Mem) : Prop :=
  w_Machine_set this s2 s1 s0 (fun M111 => w_Machine_act_j642 this Q v1 v6 M111) M
def w_Machine_act_j430 (this : Nat) (Q : Mem → Prop) (v1 : Int32) (v6 : Int32) (s0 : Int32) (s1 : Int32) (M : Mem) : Prop :=
  w_Machine_push this s1 s0 (fun M118 => w_Machine_act_j642 this Q v1 v6 M118) M
def w_Machine_act_j100 (this : Nat) (Q : Mem → Prop) (v1 : Int32) (v3 : Int32) (v4 : Int32) (v6 : Int32) (M : Mem) : Prop :=
  w_Machine_things this v1 v3 v4 v6 (fun M125 => Q M125) M
def w_Machine_act_j53 (this : Nat) (Q : Mem → Prop) (v1 : Int32) (v2 : Int32) (v3 : Int32) (v4 : Int32) (v5 : Int32) (v6 : Int32) (M : Mem) : Prop :=
  w_Works_isIn v4 (23 : Int32) (40 : Int32) (fun r8 M7 => if r8 = 0 then (w_Works_isIn v4 (41 : Int32) (49 : Int32) (fun r11 M10 => if r11 = 0 then (w_Works_isIn v4 (60 : Int32) (61 : Int32) (fun r14 M13 => if r14 = 0 then (w_Works_isIn v4 (50 : Int32) (53 : Int32) (fun r17 M16 => if r17 = 0 then (if v4 = (1 : Int32) then (w_Machine_push this v5 (0 : Int32) (fun M123 => w_Machine_act_j642 this Q v1 v6 M123) M16) else (if v4 = (2 : Int32) then (w_Machine_push this (0 : Int32) (1 : Int32) (fun M122 => w_Machine_act_j642 this Q v1 v6 M122) M16) else (if v4 = (3 : Int32) then (∃ i119, (mR M16 6 this 2) = some (7, i119) ∧ vp_in ((mI M16 6 this 33) + v5) (mL M16 94 i119) ∧ if v4 = (4 : Int32) then (w_Machine_act_j430 this Q v1 v6 (1 : Int32) (mI M16 94 i119 ((mI M16 6 this 33) + v5).toNatClampNeg) M16) else (w_Machine_act_j430 this Q v1 v6 (0 : Int32) (mI M16 94 i119 ((mI M16 6 this 33) + v5).toNatClampNeg) M16)) else (if v4 = (4 : Int32) then (∃ i115, (mR M16 6 this 2) = some (7, i115) ∧ vp_in ((mI M16 6 this 33) + v5) (mL M16 94 i115) ∧ if v4 = (4 : Int32) then (w_Machine_act_j430 this Q v1 v6 (1 : Int32) (mI M16 94 i115 ((mI M16 6 this 33) + v5).toNatClampNeg) M16) else (w_Machine_act_j430 this Q v1 v6 (0 : Int32) (mI M16 94 i115 ((mI M16 6 this 33) + v5).toNatClampNeg) M16)) else (if v4 = (5 : Int32) then (∃ i112, (mR (sI M16 6 this 34 ((mI M16 6 this 34) - (1 : Int32))) 6 this 2) = some (7, i112) ∧ vp_in (((mI (sI M16 6 this 34 ((mI M16 6 this 34) - (1 : Int32))) 6 this 33) + (20 : Int32)) + (mI (sI M16 6 this 34 ((mI M16 6 this 34) - (1 : Int32))) 6 this 34)) (mL (sI M16 6 this 34 ((mI M16 6 this 34) - (1 : Int32))) 94 i112) ∧ if v4 = (6 : Int32) then (w_Machine_act_j486 this Q v1 v6 (1 : Int32) (mI (sI M16 6 this 34 ((mI M16 6 this 34) - (1 : Int32))) 94 i112 (((mI (sI M16 6 this 34 ((mI M16 6 this 34) - (1 : Int32))) 6 this 33) + (20 : Int32)) + (mI (sI M16 6 this 34 ((mI M16 6 this 34) - (1 : Int32))) 6 this 34)).toNatClampNeg) ((mI (sI M16 6 this 34 ((mI M16 6 this 34) - (1 : Int32))) 6 this 33) + v5) (sI M16 6 this 34 ((mI M16 6 this 34) - (1 : Int32)))) else (w_Machine_act_j486 this Q v1 v6 (0 : Int32) (mI (sI M16 6 this 34 ((mI M16 6 this 34) - (1 : Int32))) 94 i112 (((mI (sI M16 6 this 34 ((mI M16 6 this 34) - (1 : Int32))) 6 this 33) + (20 : Int32)) + (mI (sI M16 6 this 34 ((mI M16 6 this 34) - (1 : Int32))) 6 this 34)).toNatClampNeg) ((mI (sI M16 6 this 34 ((mI M16 6 this 34) - (1 : Int32))) 6 this 33) + v5) (sI M16 6 this 34 ((mI M16 6 this 34) - (1 : Int32))))) else (if v4 = (6 : Int32) then (∃ i108, (mR (sI M16 6 this 34 ((mI M16 6 this 34) - (1 : Int32))) 6 this 2) = some (7, i108) ∧ vp_in (((mI (sI M16 6 this 34 ((mI M16 6 this 34) - (1 : Int32))) 6 this 33) + (20 : Int32)) + (mI (sI M16 6 this 34 ((mI M16 6 this 34) - (1 : Int32))) 6 this 34)) (mL (sI M16 6 this 34 ((mI M16 6 this 34) - (1 : Int32))) 94 i108) ∧ if v4 = (6 : Int32) then (w_Machine_act_j486 this Q v1 v6 (1 : Int32) (mI (sI M16 6 this 34 ((mI M16 6 this 34) - (1 : Int32))) 94 i108 (((mI (sI M16 6 this 34 ((mI M16 6 this 34) - (1 : Int32))) 6 this 33) + (20 : Int32)) + (mI (sI M16 6 this 34 ((mI M16 6 this 34) - (1 : Int32))) 6 this 34)).toNatClampNeg) ((mI (sI M16 6 this 34 ((mI M16 6 this 34) - (1 : Int32))) 6 this 33) + v5) (sI M16 6 this 34 ((mI M16 6 this 34) - (1 : Int32)))) else (w_Machine_act_j486 this Q v1 v6 (0 : Int32) (mI (sI M16 6 this 34 ((mI M16 6 this 34) - (1 : Int32))) 94 i108 (((mI (sI M16 6 this 34 ((mI M16 6 this 34) - (1 : Int32))) 6 this 33) + (20 : Int32)) + (mI (sI M16 6 this 34 ((mI M16 6 this 34) - (1 : Int32))) 6 this 34)).toNatClampNeg) ((mI (sI M16 6 this 34 ((mI M16 6 this 34) - (1 : Int32))) 6 this 33) + v5) (sI M16 6 this 34 ((mI M16 6 this 34) - (1 : Int32))))) else (if v4 = (7 : Int32) then (∃ i103, (mR M16 6 this 2) = some (7, i103) ∧ vp_in ((mI M16 6 this 33) + v5) (mL M16 94 i103) ∧ vp_in v3 (mL M16 68 this) ∧ vp_in ((mI M16 6 this 33) + v5) (mL M16 94 i103) ∧ ∃ M107, M107 = (sI M16 94 i103 ((mI M16 6 this 33) + v5).toNatClampNeg ((mI M16 94 i103 ((mI M16 6 this 33) + v5).toNatClampNeg) + (mI M16 68 this v3.toNatClampNeg))) ∧ w_Machine_act_j642 this Q v1 v6 M107) else (if v4 = (8 : Int32) then (w_Machine_act_j642 this Q v1 v6 M16) else (if v4 = (9 : Int32) then (w_Machine_act_j642 this Q v1 v6 M16) else (if v4 = (10 : Int32) then (w_Machine_act_j642 this Q v1 v6 M16) else (if v4 = (11 : Int32) then (w_Machine_act_j642 this Q v1 v6 M16) else (if v4 = (12 : Int32) then (w_Machine_act_j642 this Q v1 v6 M16) else (if v4 = (13 : Int32) then (w_Machine_number this (0 : Int32) (fun r101 M100 => w_Machine_comes this (1 : Int32) (-r101) (0 : Int32) (fun M102 => w_Machine_act_j642 this Q v1 v6 M102) M100) M16) else (if v4 = (14 : Int32) then (w_Machine_act_j642 this Q v1 v6 M16) else (if v4 = (15 : Int32) then (w_Machine_act_j642 this Q v1 v6 M16) else (if v4 = (16 : Int32) then (w_Machine_act_j642 this Q v1 v6 M16) else (if v4 = (17 : Int32) then (w_Machine_act_j642 this Q v1 v6 M16) else (if v4 = (18 : Int32) then (w_Machine_act_j642 this Q v1 v6 M16) else (if v4 = (19 : Int32) then (w_Machine_act_j642 this Q v1 v6 (sI M16 6 this 34 ((mI M16 6 this 34) - (1 : Int32)))) else (if v4 = (20 : Int32) then (w_Machine_number this (0 : Int32) (fun r96 M95 => ∃ i97, (mR M95 6 this 2) = some (7, i97) ∧ vp_in ((((mI M95 6 this 33) + (20 : Int32)) + (mI M95 6 this 34)) - (1 : Int32)) (mL M95 514 i97) ∧ w_Machine_push this r96 (mI M95 514 i97 ((((mI M95 6 this 33) + (20 : Int32)) + (mI M95 6 this 34)) - (1 : Int32)).toNatClampNeg) (fun M99 => w_Machine_act_j642 this Q v1 v6 M99) M95) M16) else (if v4 = (21 : Int32) then (w_Machine_turn this v4 (fun M94 => w_Machine_act_j642 this Q v1 v6 M94) M16) else (if v4 = (22 : Int32) then (w_Machine_turn this v4 (fun M93 => w_Machine_act_j642 this Q v1 v6 M93) M16) else (if v4 = (23 : Int32) then (w_Machine_act_j642 this Q v1 v6 M16) else (if v4 = (24 : Int32) then (w_Machine_act_j642 this Q v1 v6 M16) else (if v4 = (25 : Int32) then (w_Machine_act_j642 this Q v1 v6 M16) else (if v4 = (26 : Int32) then (w_Machine_act_j642 this Q v1 v6 M16) else (if v4 = (27 : Int32) then (w_Machine_act_j642 this Q v1 v6 M16) else (if v4 = (28 : Int32) then (w_Machine_act_j642 this Q v1 v6 M16) else (if v4 = (29 : Int32) then (w_Machine_act_j642 this Q v1 v6 M16) else (if v4 = (30 : Int32) then (w_Machine_act_j642 this Q v1 v6 M16) else (if v4 = (31 : Int32) then (w_Machine_act_j642 this Q v1 v6 M16) else (if v4 = (32 : Int32) then (w_Machine_act_j642 this Q v1 v6 M16) else (if v4 = (33 : Int32) then (w_Machine_act_j642 this Q v1 v6 M16) else (if v4 = (34 : Int32) then (w_Machine_act_j642 this Q v1 v6 M16) else (if v4 = (35 : Int32) then (w_Machine_act_j642 this Q v1 v6 M16) else (if v4 = (36 : Int32) then (w_Machine_act_j642 this Q v1 v6 M16) else (if v4 = (37 : Int32) then (w_Machine_act_j642 this Q v1 v6 M16) else (if v4 = (38 : Int32) then (w_Machine_act_j642 this Q v1 v6 M16) else (if v4 = (39 : Int32) then (w_Machine_act_j642 this Q v1 v6 M16) else (if v4 = (40 : Int32) then (w_Machine_act_j642 this Q v1 v6 M16) else (if v4 = (41 : Int32) then (w_Machine_act_j642 this Q v1 v6 M16) else (if v4 = (42 : Int32) then (w_Machine_act_j642 this Q v1 v6 M16) else (if v4 = (43 : Int32) then (w_Machine_act_j642 this Q v1 v6 M16) else (if v4 = (44 : Int32) then (w_Machine_act_j642 this Q v1 v6 M16) else (if v4 = (45 : Int32) then (w_Machine_act_j642 this Q v1 v6 M16) else (if v4 = (46 : Int32) then (w_Machine_act_j642 this Q v1 v6 M16) else (if v4 = (47 : Int32) then (w_Machine_act_j642 this Q v1 v6 M16) else (if v4 = (48 : Int32) then (w_Machine_act_j642 this Q v1 v6 M16) else (if v4 = (49 : Int32) then (w_Machine_act_j642 this Q v1 v6 M16) else (if v4 = (50 : Int32) then (w_Machine_act_j642 this Q v1 v6 M16) else (if v4 = (51 : Int32) then (w_Machine_act_j642 this Q v1 v6 M16) else (if v4 = (52 : Int32) then (w_Machine_act_j642 this Q v1 v6 M16) else (if v4 = (53 : Int32) then (w_Machine_act_j642 this Q v1 v6 M16) else (if v4 = (54 : Int32) then (w_Machine_isOf this v5 v4 (fun r91 M90 => if r91 = 0 then (Q M90) else (w_Machine_act_j642 this Q v1 v6 M90)) M16) else (if v4 = (55 : Int32) then (w_Machine_isOf this v5 v4 (fun r88 M87 => if r88 = 0 then (Q M87) else (w_Machine_act_j642 this Q v1 v6 M87)) M16) else (if v4 = (56 : Int32) then (w_Machine_number this (0 : Int32) (fun r83 M82 => if r83 = 0 then (w_Machine_fail this (2 : Int32) (0 : Int32) (fun M85 => Q M85) M82) else (w_Machine_throwOne this r83 (fun M86 => Q M86) M82)) M16) else (if v4 = (57 : Int32) then (w_Machine_leave this v1 v4 v2 (fun M81 => Q M81) M16) else (if v4 = (58 : Int32) then (w_Machine_leave this v1 v4 v2 (fun M80 => Q M80) M16) else (if v4 = (59 : Int32) then (w_Machine_leave this v1 v4 v2 (fun M79 => Q M79) M16) else (w_Machine_act_j642 this Q v1 v6 M16)))))))))))))))))))))))))))))))))))))))))))))))))))))))))))) else (w_Machine_calls this v1 v5 v4 (fun M124 => Q M124) M16)) M13) else (w_Machine_act_j100 this Q v1 v3 v4 v6 M13)) M10) else (w_Machine_act_j100 this Q v1 v3 v4 v6 M10)) M7) else (w_Machine_jump this v1 v3 v4 v6 (fun M126 => Q M126) M7)) M
def w_Machine_act (this : Nat) (a1 : Int32) (a2 : Int32) (a3 : Int32) (a4 : Int32) (Q : Mem → Prop) (M : Mem) : Prop :=
  vp_in a3 (mL M 67 this) ∧ ∃ i2, (mR M 6 this 2) = some (7, i2) ∧ vp_in a1 (mL M 90 i2) ∧ w_Works_isIn a4 (8 : Int32) (18 : Int32) (fun r5 M4 => if r5 = 0 then (w_Machine_act_j53 this Q a1 a2 a3 a4 (mI M 67 this a3.toNatClampNeg) ((mI M 90 i2 a1.toNatClampNeg) + (1 : Int32)) M4) else (if a4 = (13 : Int32) then (w_Machine_act_j53 this Q a1 a2 a3 a4 (mI M 67 this a3.toNatClampNeg) ((mI M 90 i2 a1.toNatClampNeg) + (1 : Int32)) M4) else (w_Machine_reckon this a1 a4 ((mI M 90 i2 a1.toNatClampNeg) + (1 : Int32)) (fun M128 => Q M128) M4))) M
set_option maxRecDepth 4096 in
theorem lk_Machine_act_j642 {γ : Gm} (hγ : Gk γ) (this : Nat) (Q : Mem → Prop) (v1 : Int32) (v6 : Int32) (M : Mem) (h : w_Machine_act_j642 this Q v1 v6 M) : E γ k_Machine_act 128 642 [some (vr (some (6, this))), some (vi v1), none, none, none, none, some (vi v6), none] [] M (Qv Q) := by
  unfold w_Machine_act_j642 at h
  refine E_blk (lv' := [some (vr (some (6, this))), some (vi v1), none, none, none, none, some (vi v6), none]) (st' := [vi v6, vi v1, vr (some (6, this))]) (M1 := M) (pc' := 646) (tb_Machine hγ) [.aload_n 0, .iload_n 1, .iload 6] (by decide +kernel) rfl rfl trivial ?_
  refine E_callV (κ' := k_Machine_goesTo) (As := [vi v1, vi v6]) (st := []) mv_Machine_goesTo (Or.inl (tbk_mem (j := 9) (k := 70) rfl)) rfl (by decide +kernel) (Nat.le_of_ble_eq_true rfl) (Nat.le_of_ble_eq_true rfl) rfl (by decide) (lk_Machine_goesTo hγ this v1 v6 _ M h) (fun _ _ => Qv_r) (fun v M19 hp => Qv_k (R := fun st => E γ k_Machine_act 128 649 [some (vr (some (6, this))), some (vi v1), none, none, none, none, some (vi v6), none] st M19 (Qv Q)) hp (fun h => ?_))
  exact E_vret rfl (by decide +kernel) h
set_option maxRecDepth 4096 in
theorem lk_Machine_act_j486 {γ : Gm} (hγ : Gk γ) (this : Nat) (Q : Mem → Prop) (v1 : Int32) (v6 : Int32) (s0 : Int32) (s1 : Int32) (s2 : Int32) (M : Mem) (h : w_Machine_act_j486 this Q v1 v6 s0 s1 s2 M) : E γ k_Machine_act 128 486 [some (vr (some (6, this))), some (vi v1), none, none, none, none, some (vi v6), none] [vi s0, vi s1, vi s2, vr (some (6, this))] M (Qv Q) := by
  unfold w_Machine_act_j486 at h
  refine E_callV (κ' := k_Machine_set) (As := [vi s2, vi s1, vi s0]) (st := []) mv_Machine_set (Or.inl (tbk_mem (j := 8) (k := 219) rfl)) rfl (by decide +kernel) (Nat.le_of_ble_eq_true rfl) (Nat.le_of_ble_eq_true rfl) rfl (by decide) (lk_Machine_set hγ this s2 s1 s0 _ M h) (fun _ _ => Qv_r) (fun v M111 hp => Qv_k (R := fun st => E γ k_Machine_act 128 489 [some (vr (some (6, this))), some (vi v1), none, none, none, none, some (vi v6), none] st M111 (Qv Q)) hp (fun h => ?_))
  refine E_goto (off := 153) (tgt := 642) (by decide +kernel) (by decide) ?_
  refine E_mask [true, true, false, false, false, false, true, false] rfl ?_
  exact lk_Machine_act_j642 hγ this Q v1 v6 M111 h
set_option maxRecDepth 4096 in
theorem lk_Machine_act_j430 {γ : Gm} (hγ : Gk γ) (this : Nat) (Q : Mem → Prop) (v1 : Int32) (v6 : Int32) (s0 : Int32) (s1 : Int32) (M : Mem) (h : w_Machine_act_j430 this Q v1 v6 s0 s1 M) : E γ k_Machine_act 128 430 [some (vr (some (6, this))), some (vi v1), none, none, none, none, some (vi v6), none] [vi s0, vi s1, vr (some (6, this))] M (Qv Q) := by
  unfold w_Machine_act_j430 at h
  refine E_callV (κ' := k_Machine_push) (As := [vi s1, vi s0]) (st := []) mv_Machine_push (Or.inl (tbk_mem (j := 9) (k := 66) rfl)) rfl (by decide +kernel) (Nat.le_of_ble_eq_true rfl) (Nat.le_of_ble_eq_true rfl) rfl (by decide) (lk_Machine_push hγ this s1 s0 _ M h) (fun _ _ => Qv_r) (fun v M118 hp => Qv_k (R := fun st => E γ k_Machine_act 128 433 [some (vr (some (6, this))), some (vi v1), none, none, none, none, some (vi v6), none] st M118 (Qv Q)) hp (fun h => ?_))
  refine E_goto (off := 209) (tgt := 642) (by decide +kernel) (by decide) ?_
  refine E_mask [true, true, false, false, false, false, true, false] rfl ?_
  exact lk_Machine_act_j642 hγ this Q v1 v6 M118 h
set_option maxRecDepth 4096 in
theorem lk_Machine_act_j100 {γ : Gm} (hγ : Gk γ) (this : Nat) (Q : Mem → Prop) (v1 : Int32) (v3 : Int32) (v4 : Int32) (v6 : Int32) (M : Mem) (h : w_Machine_act_j100 this Q v1 v3 v4 v6 M) : E γ k_Machine_act 128 100 [some (vr (some (6, this))), some (vi v1), none, some (vi v3), some (vi v4), none, some (vi v6), none] [] M (Qv Q) := by
  unfold w_Machine_act_j100 at h
  refine E_blk (lv' := [some (vr (some (6, this))), some (vi v1), none, some (vi v3), some (vi v4), none, some (vi v6), none]) (st' := [vi v6, vi v4, vi v3, vi v1, vr (some (6, this))]) (M1 := M) (pc' := 107) (tb_Machine hγ) [.aload_n 0, .iload_n 1, .iload_n 3, .iload 4, .iload 6] (by decide +kernel) rfl rfl trivial ?_
  refine E_callV (κ' := k_Machine_things) (As := [vi v1, vi v3, vi v4, vi v6]) (st := []) mv_Machine_things (Or.inl (tbk_mem (j := 9) (k := 82) rfl)) rfl (by decide +kernel) (Nat.le_of_ble_eq_true rfl) (Nat.le_of_ble_eq_true rfl) rfl (by decide) (lk_Machine_things hγ this v1 v3 v4 v6 _ M h) (fun _ _ => Qv_r) (fun v M125 hp => Qv_k (R := fun st => E γ k_Machine_act 128 110 [some (vr (some (6, this))), some (vi v1), none, some (vi v3), some (vi v4), none, some (vi v6), none] st M125 (Qv Q)) hp (fun h => ?_))
  exact E_vret rfl (by decide +kernel) h
set_option maxRecDepth 4096 in
theorem lk_Machine_act_j53 {γ : Gm} (hγ : Gk γ) (this : Nat) (Q : Mem → Prop) (v1 : Int32) (v2 : Int32) (v3 : Int32) (v4 : Int32) (v5 : Int32) (v6 : Int32) (M : Mem) (h : w_Machine_act_j53 this Q v1 v2 v3 v4 v5 v6 M) : E γ k_Machine_act 128 53 [some (vr (some (6, this))), some (vi v1), some (vi v2), some (vi v3), some (vi v4), some (vi v5), some (vi v6), none] [] M (Qv Q) := by
  unfold w_Machine_act_j53 at h
  refine E_blk (lv' := [some (vr (some (6, this))), some (vi v1), some (vi v2), some (vi v3), some (vi v4), some (vi v5), some (vi v6), none]) (st' := [vi (40 : Int32), vi (23 : Int32), vi v4]) (M1 := M) (pc' := 59) (tb_Machine hγ) [.iload 4, .bipush 23, .bipush 40] (by decide +kernel) rfl rfl trivial ?_
  refine E_callS (κ' := k_Works_isIn) (As := [vi v4, vi (23 : Int32), vi (40 : Int32)]) (st := []) ms_Works_isIn (Or.inr ⟨"ClassWorks", (tbk_mem (j := 9) (k := 28) rfl)⟩) rfl (by decide +kernel) (Nat.le_of_ble_eq_true rfl) (Nat.le_of_ble_eq_true rfl) rfl (by decide) (lk_Works_isIn hγ v4 (23 : Int32) (40 : Int32) _ M h) (fun _ _ => Qi_r) (fun v M7 hp => Qi_k (R := fun st => E γ k_Machine_act 128 62 [some (vr (some (6, this))), some (vi v1), some (vi v2), some (vi v3), some (vi v4), some (vi v5), some (vi v6), none] st M7 (Qv Q)) hp (fun r8 h => ?_))
  refine E_if_eq (off := 14) (tgt := 76) (by decide +kernel) (by decide) (fun b9 => ?_) (fun b9 => ?_)
  · rw [if_pos b9] at h
    refine E_blk (lv' := [some (vr (some (6, this))), some (vi v1), some (vi v2), some (vi v3), some (vi v4), some (vi v5), some (vi v6), none]) (st' := [vi (49 : Int32), vi (41 : Int32), vi v4]) (M1 := M7) (pc' := 82) (tb_Machine hγ) [.iload 4, .bipush 41, .bipush 49] (by decide +kernel) rfl rfl trivial ?_
    refine E_callS (κ' := k_Works_isIn) (As := [vi v4, vi (41 : Int32), vi (49 : Int32)]) (st := []) ms_Works_isIn (Or.inr ⟨"ClassWorks", (tbk_mem (j := 9) (k := 28) rfl)⟩) rfl (by decide +kernel) (Nat.le_of_ble_eq_true rfl) (Nat.le_of_ble_eq_true rfl) rfl (by decide) (lk_Works_isIn hγ v4 (41 : Int32) (49 : Int32) _ M7 h) (fun _ _ => Qi_r) (fun v M10 hp => Qi_k (R := fun st => E γ k_Machine_act 128 85 [some (vr (some (6, this))), some (vi v1), some (vi v2), some (vi v3), some (vi v4), some (vi v5), some (vi v6), none] st M10 (Qv Q)) hp (fun r11 h => ?_))
    refine E_if_ne (off := 15) (tgt := 100) (by decide +kernel) (by decide) (fun b12 => ?_) (fun b12 => ?_)
    · rw [if_pos b12] at h
      refine E_blk (lv' := [some (vr (some (6, this))), some (vi v1), some (vi v2), some (vi v3), some (vi v4), some (vi v5), some (vi v6), none]) (st' := [vi (61 : Int32), vi (60 : Int32), vi v4]) (M1 := M10) (pc' := 94) (tb_Machine hγ) [.iload 4, .bipush 60, .bipush 61] (by decide +kernel) rfl rfl trivial ?_
      refine E_callS (κ' := k_Works_isIn) (As := [vi v4, vi (60 : Int32), vi (61 : Int32)]) (st := []) ms_Works_isIn (Or.inr ⟨"ClassWorks", (tbk_mem (j := 9) (k := 28) rfl)⟩) rfl (by decide +kernel) (Nat.le_of_ble_eq_true rfl) (Nat.le_of_ble_eq_true rfl) rfl (by decide) (lk_Works_isIn hγ v4 (60 : Int32) (61 : Int32) _ M10 h) (fun _ _ => Qi_r) (fun v M13 hp => Qi_k (R := fun st => E γ k_Machine_act 128 97 [some (vr (some (6, this))), some (vi v1), some (vi v2), some (vi v3), some (vi v4), some (vi v5), some (vi v6), none] st M13 (Qv Q)) hp (fun r14 h => ?_))
      refine E_if_eq (off := 14) (tgt := 111) (by decide +kernel) (by decide) (fun b15 => ?_) (fun b15 => ?_)
      · rw [if_pos b15] at h
        refine E_blk (lv' := [some (vr (some (6, this))), some (vi v1), some (vi v2), some (vi v3), some (vi v4), some (vi v5), some (vi v6), none]) (st' := [vi (53 : Int32), vi (50 : Int32), vi v4]) (M1 := M13) (pc' := 117) (tb_Machine hγ) [.iload 4, .bipush 50, .bipush 53] (by decide +kernel) rfl rfl trivial ?_
        refine E_callS (κ' := k_Works_isIn) (As := [vi v4, vi (50 : Int32), vi (53 : Int32)]) (st := []) ms_Works_isIn (Or.inr ⟨"ClassWorks", (tbk_mem (j := 9) (k := 28) rfl)⟩) rfl (by decide +kernel) (Nat.le_of_ble_eq_true rfl) (Nat.le_of_ble_eq_true rfl) rfl (by decide) (lk_Works_isIn hγ v4 (50 : Int32) (53 : Int32) _ M13 h) (fun _ _ => Qi_r) (fun v M16 hp => Qi_k (R := fun st => E γ k_Machine_act 128 120 [some (vr (some (6, this))), some (vi v1), some (vi v2), some (vi v3), some (vi v4), some (vi v5), some (vi v6), none] st M16 (Qv Q)) hp (fun r17 h => ?_))
        refine E_if_eq (off := 13) (tgt := 133) (by decide +kernel) (by decide) (fun b18 => ?_) (fun b18 => ?_)
        · rw [if_pos b18] at h
          refine E_blk (lv' := [some (vr (some (6, this))), some (vi v1), some (vi v2), some (vi v3), some (vi v4), some (vi v5), some (vi v6), none]) (st' := [vi v4]) (M1 := M16) (pc' := 135) (tb_Machine hγ) [.iload 4] (by decide +kernel) rfl rfl trivial ?_
          by_cases b20 : v4 = (1 : Int32)
          · rw [if_pos b20] at h
            refine E.up (fun _ _ hJ => J_tswI (len := 249) (dflt := 507) (lo := 1) (hi := 59) (offs := #[249, 259, 268, 268, 301, 301, 357, 507, 507, 507, 507, 507, 387, 507, 507, 507, 507, 507, 402, 415, 449, 449, 507, 507, 507, 507, 507, 507, 507, 507, 507, 507, 507, 507, 507, 507, 507, 507, 507, 507, 507, 507, 507, 507, 507, 507, 507, 507, 507, 507, 507, 507, 507, 458, 458, 470, 498, 498, 498]) (off := 249) (tgt := 384) (by decide +kernel) (by rw [b20]; decide) (by rw [b20]; decide) (by rw [b20]; rfl) (by decide) hJ) ?_
            refine E_blk (lv' := [some (vr (some (6, this))), some (vi v1), some (vi v2), some (vi v3), some (vi v4), some (vi v5), some (vi v6), none]) (st' := [vi (0 : Int32), vi v5, vr (some (6, this))]) (M1 := M16) (pc' := 388) (tb_Machine hγ) [.aload_n 0, .iload 5, .iconst 0] (by decide +kernel) rfl rfl trivial ?_
            refine E_callV (κ' := k_Machine_push) (As := [vi v5, vi (0 : Int32)]) (st := []) mv_Machine_push (Or.inl (tbk_mem (j := 9) (k := 66) rfl)) rfl (by decide +kernel) (Nat.le_of_ble_eq_true rfl) (Nat.le_of_ble_eq_true rfl) rfl (by decide) (lk_Machine_push hγ this v5 (0 : Int32) _ M16 h) (fun _ _ => Qv_r) (fun v M123 hp => Qv_k (R := fun st => E γ k_Machine_act 128 391 [some (vr (some (6, this))), some (vi v1), some (vi v2), some (vi v3), some (vi v4), some (vi v5), some (vi v6), none] st M123 (Qv Q)) hp (fun h => ?_))
            refine E_goto (off := 251) (tgt := 642) (by decide +kernel) (by decide) ?_
            refine E_mask [true, true, false, false, false, false, true, false] rfl ?_
            exact lk_Machine_act_j642 hγ this Q v1 v6 M123 h
          · rw [if_neg b20] at h
            by_cases b21 : v4 = (2 : Int32)
            · rw [if_pos b21] at h
              refine E.up (fun _ _ hJ => J_tswI (len := 249) (dflt := 507) (lo := 1) (hi := 59) (offs := #[249, 259, 268, 268, 301, 301, 357, 507, 507, 507, 507, 507, 387, 507, 507, 507, 507, 507, 402, 415, 449, 449, 507, 507, 507, 507, 507, 507, 507, 507, 507, 507, 507, 507, 507, 507, 507, 507, 507, 507, 507, 507, 507, 507, 507, 507, 507, 507, 507, 507, 507, 507, 507, 458, 458, 470, 498, 498, 498]) (off := 259) (tgt := 394) (by decide +kernel) (by rw [b21]; decide) (by rw [b21]; decide) (by rw [b21]; rfl) (by decide) hJ) ?_
              refine E_blk (lv' := [some (vr (some (6, this))), some (vi v1), some (vi v2), some (vi v3), some (vi v4), some (vi v5), some (vi v6), none]) (st' := [vi (1 : Int32), vi (0 : Int32), vr (some (6, this))]) (M1 := M16) (pc' := 397) (tb_Machine hγ) [.aload_n 0, .iconst 0, .iconst 1] (by decide +kernel) rfl rfl trivial ?_
              refine E_callV (κ' := k_Machine_push) (As := [vi (0 : Int32), vi (1 : Int32)]) (st := []) mv_Machine_push (Or.inl (tbk_mem (j := 9) (k := 66) rfl)) rfl (by decide +kernel) (Nat.le_of_ble_eq_true rfl) (Nat.le_of_ble_eq_true rfl) rfl (by decide) (lk_Machine_push hγ this (0 : Int32) (1 : Int32) _ M16 h) (fun _ _ => Qv_r) (fun v M122 hp => Qv_k (R := fun st => E γ k_Machine_act 128 400 [some (vr (some (6, this))), some (vi v1), some (vi v2), some (vi v3), some (vi v4), some (vi v5), some (vi v6), none] st M122 (Qv Q)) hp (fun h => ?_))
              refine E_goto (off := 242) (tgt := 642) (by decide +kernel) (by decide) ?_
              refine E_mask [true, true, false, false, false, false, true, false] rfl ?_
              exact lk_Machine_act_j642 hγ this Q v1 v6 M122 h
            · rw [if_neg b21] at h
              by_cases b22 : v4 = (3 : Int32)
              · rw [if_pos b22] at h
                refine E.up (fun _ _ hJ => J_tswI (len := 249) (dflt := 507) (lo := 1) (hi := 59) (offs := #[249, 259, 268, 268, 301, 301, 357, 507, 507, 507, 507, 507, 387, 507, 507, 507, 507, 507, 402, 415, 449, 449, 507, 507, 507, 507, 507, 507, 507, 507, 507, 507, 507, 507, 507, 507, 507, 507, 507, 507, 507, 507, 507, 507, 507, 507, 507, 507, 507, 507, 507, 507, 507, 458, 458, 470, 498, 498, 498]) (off := 268) (tgt := 403) (by decide +kernel) (by rw [b22]; decide) (by rw [b22]; decide) (by rw [b22]; rfl) (by decide) hJ) ?_
                refine E_blk (lv' := [some (vr (some (6, this))), some (vi v1), some (vi v2), some (vi v3), some (vi v4), some (vi v5), some (vi v6), none]) (st' := [vr (mR M16 6 this 2), vr (some (6, this))]) (M1 := M16) (pc' := 408) (tb_Machine hγ) [.aload_n 0, .aload_n 0, .getfield 24] (by decide +kernel) rfl rfl trivial ?_
                obtain ⟨i119, ei119, h⟩ := h
                rw [ei119]
                obtain ⟨c120, h⟩ := h
                refine E_blk (lv' := [some (vr (some (6, this))), some (vi v1), some (vi v2), some (vi v3), some (vi v4), some (vi v5), some (vi v6), none]) (st' := [vi (4 : Int32), vi v4, vi (mI M16 94 i119 ((mI M16 6 this 33) + v5).toNatClampNeg), vr (some (6, this))]) (M1 := M16) (pc' := 422) (tb_Machine hγ) [.getfield 218, .aload_n 0, .getfield 402, .iload 5, .iadd, .iaload, .iload 4, .iconst 4] (by decide +kernel) rfl rfl ⟨c120, trivial⟩ ?_
                refine E_icmp_ne (off := 7) (tgt := 429) (by decide +kernel) (by decide) (fun b121 => ?_) (fun b121 => ?_)
                · rw [if_pos b121] at h
                  refine E_blk (lv' := [some (vr (some (6, this))), some (vi v1), some (vi v2), some (vi v3), some (vi v4), some (vi v5), some (vi v6), none]) (st' := [vi (1 : Int32), vi (mI M16 94 i119 ((mI M16 6 this 33) + v5).toNatClampNeg), vr (some (6, this))]) (M1 := M16) (pc' := 426) (tb_Machine hγ) [.iconst 1] (by decide +kernel) rfl rfl trivial ?_
                  refine E_goto (off := 4) (tgt := 430) (by decide +kernel) (by decide) ?_
                  refine E_mask [true, true, false, false, false, false, true, false] rfl ?_
                  exact lk_Machine_act_j430 hγ this Q v1 v6 (1 : Int32) (mI M16 94 i119 ((mI M16 6 this 33) + v5).toNatClampNeg) M16 h
                · rw [if_neg b121] at h
                  refine E_blk (lv' := [some (vr (some (6, this))), some (vi v1), some (vi v2), some (vi v3), some (vi v4), some (vi v5), some (vi v6), none]) (st' := [vi (0 : Int32), vi (mI M16 94 i119 ((mI M16 6 this 33) + v5).toNatClampNeg), vr (some (6, this))]) (M1 := M16) (pc' := 430) (tb_Machine hγ) [.iconst 0] (by decide +kernel) rfl rfl trivial ?_
                  refine E_mask [true, true, false, false, false, false, true, false] rfl ?_
                  exact lk_Machine_act_j430 hγ this Q v1 v6 (0 : Int32) (mI M16 94 i119 ((mI M16 6 this 33) + v5).toNatClampNeg) M16 h
              · rw [if_neg b22] at h
                by_cases b23 : v4 = (4 : Int32)
                · rw [if_pos b23] at h
                  refine E.up (fun _ _ hJ => J_tswI (len := 249) (dflt := 507) (lo := 1) (hi := 59) (offs := #[249, 259, 268, 268, 301, 301, 357, 507, 507, 507, 507, 507, 387, 507, 507, 507, 507, 507, 402, 415, 449, 449, 507, 507, 507, 507, 507, 507, 507, 507, 507, 507, 507, 507, 507, 507, 507, 507, 507, 507, 507, 507, 507, 507, 507, 507, 507, 507, 507, 507, 507, 507, 507, 458, 458, 470, 498, 498, 498]) (off := 268) (tgt := 403) (by decide +kernel) (by rw [b23]; decide) (by rw [b23]; decide) (by rw [b23]; rfl) (by decide) hJ) ?_
                  refine E_blk (lv' := [some (vr (some (6, this))), some (vi v1), some (vi v2), some (vi v3), some (vi v4), some (vi v5), some (vi v6), none]) (st' := [vr (mR M16 6 this 2), vr (some (6, this))]) (M1 := M16) (pc' := 408) (tb_Machine hγ) [.aload_n 0, .aload_n 0, .getfield 24] (by decide +kernel) rfl rfl trivial ?_
                  obtain ⟨i115, ei115, h⟩ := h
                  rw [ei115]
                  obtain ⟨c116, h⟩ := h
                  refine E_blk (lv' := [some (vr (some (6, this))), some (vi v1), some (vi v2), some (vi v3), some (vi v4), some (vi v5), some (vi v6), none]) (st' := [vi (4 : Int32), vi v4, vi (mI M16 94 i115 ((mI M16 6 this 33) + v5).toNatClampNeg), vr (some (6, this))]) (M1 := M16) (pc' := 422) (tb_Machine hγ) [.getfield 218, .aload_n 0, .getfield 402, .iload 5, .iadd, .iaload, .iload 4, .iconst 4] (by decide +kernel) rfl rfl ⟨c116, trivial⟩ ?_
                  refine E_icmp_ne (off := 7) (tgt := 429) (by decide +kernel) (by decide) (fun b117 => ?_) (fun b117 => ?_)
                  · rw [if_pos b117] at h
                    refine E_blk (lv' := [some (vr (some (6, this))), some (vi v1), some (vi v2), some (vi v3), some (vi v4), some (vi v5), some (vi v6), none]) (st' := [vi (1 : Int32), vi (mI M16 94 i115 ((mI M16 6 this 33) + v5).toNatClampNeg), vr (some (6, this))]) (M1 := M16) (pc' := 426) (tb_Machine hγ) [.iconst 1] (by decide +kernel) rfl rfl trivial ?_
                    refine E_goto (off := 4) (tgt := 430) (by decide +kernel) (by decide) ?_
                    refine E_mask [true, true, false, false, false, false, true, false] rfl ?_
                    exact lk_Machine_act_j430 hγ this Q v1 v6 (1 : Int32) (mI M16 94 i115 ((mI M16 6 this 33) + v5).toNatClampNeg) M16 h
                  · rw [if_neg b117] at h
                    refine E_blk (lv' := [some (vr (some (6, this))), some (vi v1), some (vi v2), some (vi v3), some (vi v4), some (vi v5), some (vi v6), none]) (st' := [vi (0 : Int32), vi (mI M16 94 i115 ((mI M16 6 this 33) + v5).toNatClampNeg), vr (some (6, this))]) (M1 := M16) (pc' := 430) (tb_Machine hγ) [.iconst 0] (by decide +kernel) rfl rfl trivial ?_
                    refine E_mask [true, true, false, false, false, false, true, false] rfl ?_
                    exact lk_Machine_act_j430 hγ this Q v1 v6 (0 : Int32) (mI M16 94 i115 ((mI M16 6 this 33) + v5).toNatClampNeg) M16 h
                · rw [if_neg b23] at h
                  by_cases b24 : v4 = (5 : Int32)
                  · rw [if_pos b24] at h
                    refine E.up (fun _ _ hJ => J_tswI (len := 249) (dflt := 507) (lo := 1) (hi := 59) (offs := #[249, 259, 268, 268, 301, 301, 357, 507, 507, 507, 507, 507, 387, 507, 507, 507, 507, 507, 402, 415, 449, 449, 507, 507, 507, 507, 507, 507, 507, 507, 507, 507, 507, 507, 507, 507, 507, 507, 507, 507, 507, 507, 507, 507, 507, 507, 507, 507, 507, 507, 507, 507, 507, 458, 458, 470, 498, 498, 498]) (off := 301) (tgt := 436) (by decide +kernel) (by rw [b24]; decide) (by rw [b24]; decide) (by rw [b24]; rfl) (by decide) hJ) ?_
                    refine E_blk (lv' := [some (vr (some (6, this))), some (vi v1), some (vi v2), some (vi v3), some (vi v4), some (vi v5), some (vi v6), none]) (st' := [vr (mR (sI M16 6 this 34 ((mI M16 6 this 34) - (1 : Int32))) 6 this 2), vi ((mI (sI M16 6 this 34 ((mI M16 6 this 34) - (1 : Int32))) 6 this 33) + v5), vr (some (6, this))]) (M1 := (sI M16 6 this 34 ((mI M16 6 this 34) - (1 : Int32)))) (pc' := 458) (tb_Machine hγ) [.aload_n 0, .dup, .getfield 405, .iconst 1, .isub, .putfield 405, .aload_n 0, .aload_n 0, .getfield 402, .iload 5, .iadd, .aload_n 0, .getfield 24] (by decide +kernel) rfl rfl trivial ?_
                    obtain ⟨i112, ei112, h⟩ := h
                    rw [ei112]
                    obtain ⟨c113, h⟩ := h
                    refine E_blk (lv' := [some (vr (some (6, this))), some (vi v1), some (vi v2), some (vi v3), some (vi v4), some (vi v5), some (vi v6), none]) (st' := [vi (6 : Int32), vi v4, vi (mI (sI M16 6 this 34 ((mI M16 6 this 34) - (1 : Int32))) 94 i112 (((mI (sI M16 6 this 34 ((mI M16 6 this 34) - (1 : Int32))) 6 this 33) + (20 : Int32)) + (mI (sI M16 6 this 34 ((mI M16 6 this 34) - (1 : Int32))) 6 this 34)).toNatClampNeg), vi ((mI (sI M16 6 this 34 ((mI M16 6 this 34) - (1 : Int32))) 6 this 33) + v5), vr (some (6, this))]) (M1 := (sI M16 6 this 34 ((mI M16 6 this 34) - (1 : Int32)))) (pc' := 478) (tb_Machine hγ) [.getfield 218, .aload_n 0, .getfield 402, .bipush 20, .iadd, .aload_n 0, .getfield 405, .iadd, .iaload, .iload 4, .bipush 6] (by decide +kernel) rfl rfl ⟨c113, trivial⟩ ?_
                    refine E_icmp_ne (off := 7) (tgt := 485) (by decide +kernel) (by decide) (fun b114 => ?_) (fun b114 => ?_)
                    · rw [if_pos b114] at h
                      refine E_blk (lv' := [some (vr (some (6, this))), some (vi v1), some (vi v2), some (vi v3), some (vi v4), some (vi v5), some (vi v6), none]) (st' := [vi (1 : Int32), vi (mI (sI M16 6 this 34 ((mI M16 6 this 34) - (1 : Int32))) 94 i112 (((mI (sI M16 6 this 34 ((mI M16 6 this 34) - (1 : Int32))) 6 this 33) + (20 : Int32)) + (mI (sI M16 6 this 34 ((mI M16 6 this 34) - (1 : Int32))) 6 this 34)).toNatClampNeg), vi ((mI (sI M16 6 this 34 ((mI M16 6 this 34) - (1 : Int32))) 6 this 33) + v5), vr (some (6, this))]) (M1 := (sI M16 6 this 34 ((mI M16 6 this 34) - (1 : Int32)))) (pc' := 482) (tb_Machine hγ) [.iconst 1] (by decide +kernel) rfl rfl trivial ?_
                      refine E_goto (off := 4) (tgt := 486) (by decide +kernel) (by decide) ?_
                      refine E_mask [true, true, false, false, false, false, true, false] rfl ?_
                      exact lk_Machine_act_j486 hγ this Q v1 v6 (1 : Int32) (mI (sI M16 6 this 34 ((mI M16 6 this 34) - (1 : Int32))) 94 i112 (((mI (sI M16 6 this 34 ((mI M16 6 this 34) - (1 : Int32))) 6 this 33) + (20 : Int32)) + (mI (sI M16 6 this 34 ((mI M16 6 this 34) - (1 : Int32))) 6 this 34)).toNatClampNeg) ((mI (sI M16 6 this 34 ((mI M16 6 this 34) - (1 : Int32))) 6 this 33) + v5) (sI M16 6 this 34 ((mI M16 6 this 34) - (1 : Int32))) h
                    · rw [if_neg b114] at h
                      refine E_blk (lv' := [some (vr (some (6, this))), some (vi v1), some (vi v2), some (vi v3), some (vi v4), some (vi v5), some (vi v6), none]) (st' := [vi (0 : Int32), vi (mI (sI M16 6 this 34 ((mI M16 6 this 34) - (1 : Int32))) 94 i112 (((mI (sI M16 6 this 34 ((mI M16 6 this 34) - (1 : Int32))) 6 this 33) + (20 : Int32)) + (mI (sI M16 6 this 34 ((mI M16 6 this 34) - (1 : Int32))) 6 this 34)).toNatClampNeg), vi ((mI (sI M16 6 this 34 ((mI M16 6 this 34) - (1 : Int32))) 6 this 33) + v5), vr (some (6, this))]) (M1 := (sI M16 6 this 34 ((mI M16 6 this 34) - (1 : Int32)))) (pc' := 486) (tb_Machine hγ) [.iconst 0] (by decide +kernel) rfl rfl trivial ?_
                      refine E_mask [true, true, false, false, false, false, true, false] rfl ?_
                      exact lk_Machine_act_j486 hγ this Q v1 v6 (0 : Int32) (mI (sI M16 6 this 34 ((mI M16 6 this 34) - (1 : Int32))) 94 i112 (((mI (sI M16 6 this 34 ((mI M16 6 this 34) - (1 : Int32))) 6 this 33) + (20 : Int32)) + (mI (sI M16 6 this 34 ((mI M16 6 this 34) - (1 : Int32))) 6 this 34)).toNatClampNeg) ((mI (sI M16 6 this 34 ((mI M16 6 this 34) - (1 : Int32))) 6 this 33) + v5) (sI M16 6 this 34 ((mI M16 6 this 34) - (1 : Int32))) h
                  · rw [if_neg b24] at h
                    by_cases b25 : v4 = (6 : Int32)
                    · rw [if_pos b25] at h
                      refine E.up (fun _ _ hJ => J_tswI (len := 249) (dflt := 507) (lo := 1) (hi := 59) (offs := #[249, 259, 268, 268, 301, 301, 357, 507, 507, 507, 507, 507, 387, 507, 507, 507, 507, 507, 402, 415, 449, 449, 507, 507, 507, 507, 507, 507, 507, 507, 507, 507, 507, 507, 507, 507, 507, 507, 507, 507, 507, 507, 507, 507, 507, 507, 507, 507, 507, 507, 507, 507, 507, 458, 458, 470, 498, 498, 498]) (off := 301) (tgt := 436) (by decide +kernel) (by rw [b25]; decide) (by rw [b25]; decide) (by rw [b25]; rfl) (by decide) hJ) ?_
                      refine E_blk (lv' := [some (vr (some (6, this))), some (vi v1), some (vi v2), some (vi v3), some (vi v4), some (vi v5), some (vi v6), none]) (st' := [vr (mR (sI M16 6 this 34 ((mI M16 6 this 34) - (1 : Int32))) 6 this 2), vi ((mI (sI M16 6 this 34 ((mI M16 6 this 34) - (1 : Int32))) 6 this 33) + v5), vr (some (6, this))]) (M1 := (sI M16 6 this 34 ((mI M16 6 this 34) - (1 : Int32)))) (pc' := 458) (tb_Machine hγ) [.aload_n 0, .dup, .getfield 405, .iconst 1, .isub, .putfield 405, .aload_n 0, .aload_n 0, .getfield 402, .iload 5, .iadd, .aload_n 0, .getfield 24] (by decide +kernel) rfl rfl trivial ?_
                      obtain ⟨i108, ei108, h⟩ := h
                      rw [ei108]
                      obtain ⟨c109, h⟩ := h
                      refine E_blk (lv' := [some (vr (some (6, this))), some (vi v1), some (vi v2), some (vi v3), some (vi v4), some (vi v5), some (vi v6), none]) (st' := [vi (6 : Int32), vi v4, vi (mI (sI M16 6 this 34 ((mI M16 6 this 34) - (1 : Int32))) 94 i108 (((mI (sI M16 6 this 34 ((mI M16 6 this 34) - (1 : Int32))) 6 this 33) + (20 : Int32)) + (mI (sI M16 6 this 34 ((mI M16 6 this 34) - (1 : Int32))) 6 this 34)).toNatClampNeg), vi ((mI (sI M16 6 this 34 ((mI M16 6 this 34) - (1 : Int32))) 6 this 33) + v5), vr (some (6, this))]) (M1 := (sI M16 6 this 34 ((mI M16 6 this 34) - (1 : Int32)))) (pc' := 478) (tb_Machine hγ) [.getfield 218, .aload_n 0, .getfield 402, .bipush 20, .iadd, .aload_n 0, .getfield 405, .iadd, .iaload, .iload 4, .bipush 6] (by decide +kernel) rfl rfl ⟨c109, trivial⟩ ?_
                      refine E_icmp_ne (off := 7) (tgt := 485) (by decide +kernel) (by decide) (fun b110 => ?_) (fun b110 => ?_)
                      · rw [if_pos b110] at h
                        refine E_blk (lv' := [some (vr (some (6, this))), some (vi v1), some (vi v2), some (vi v3), some (vi v4), some (vi v5), some (vi v6), none]) (st' := [vi (1 : Int32), vi (mI (sI M16 6 this 34 ((mI M16 6 this 34) - (1 : Int32))) 94 i108 (((mI (sI M16 6 this 34 ((mI M16 6 this 34) - (1 : Int32))) 6 this 33) + (20 : Int32)) + (mI (sI M16 6 this 34 ((mI M16 6 this 34) - (1 : Int32))) 6 this 34)).toNatClampNeg), vi ((mI (sI M16 6 this 34 ((mI M16 6 this 34) - (1 : Int32))) 6 this 33) + v5), vr (some (6, this))]) (M1 := (sI M16 6 this 34 ((mI M16 6 this 34) - (1 : Int32)))) (pc' := 482) (tb_Machine hγ) [.iconst 1] (by decide +kernel) rfl rfl trivial ?_
                        refine E_goto (off := 4) (tgt := 486) (by decide +kernel) (by decide) ?_
                        refine E_mask [true, true, false, false, false, false, true, false] rfl ?_
                        exact lk_Machine_act_j486 hγ this Q v1 v6 (1 : Int32) (mI (sI M16 6 this 34 ((mI M16 6 this 34) - (1 : Int32))) 94 i108 (((mI (sI M16 6 this 34 ((mI M16 6 this 34) - (1 : Int32))) 6 this 33) + (20 : Int32)) + (mI (sI M16 6 this 34 ((mI M16 6 this 34) - (1 : Int32))) 6 this 34)).toNatClampNeg) ((mI (sI M16 6 this 34 ((mI M16 6 this 34) - (1 : Int32))) 6 this 33) + v5) (sI M16 6 this 34 ((mI M16 6 this 34) - (1 : Int32))) h
                      · rw [if_neg b110] at h
                        refine E_blk (lv' := [some (vr (some (6, this))), some (vi v1), some (vi v2), some (vi v3), some (vi v4), some (vi v5), some (vi v6), none]) (st' := [vi (0 : Int32), vi (mI (sI M16 6 this 34 ((mI M16 6 this 34) - (1 : Int32))) 94 i108 (((mI (sI M16 6 this 34 ((mI M16 6 this 34) - (1 : Int32))) 6 this 33) + (20 : Int32)) + (mI (sI M16 6 this 34 ((mI M16 6 this 34) - (1 : Int32))) 6 this 34)).toNatClampNeg), vi ((mI (sI M16 6 this 34 ((mI M16 6 this 34) - (1 : Int32))) 6 this 33) + v5), vr (some (6, this))]) (M1 := (sI M16 6 this 34 ((mI M16 6 this 34) - (1 : Int32)))) (pc' := 486) (tb_Machine hγ) [.iconst 0] (by decide +kernel) rfl rfl trivial ?_
                        refine E_mask [true, true, false, false, false, false, true, false] rfl ?_
                        exact lk_Machine_act_j486 hγ this Q v1 v6 (0 : Int32) (mI (sI M16 6 this 34 ((mI M16 6 this 34) - (1 : Int32))) 94 i108 (((mI (sI M16 6 this 34 ((mI M16 6 this 34) - (1 : Int32))) 6 this 33) + (20 : Int32)) + (mI (sI M16 6 this 34 ((mI M16 6 this 34) - (1 : Int32))) 6 this 34)).toNatClampNeg) ((mI (sI M16 6 this 34 ((mI M16 6 this 34) - (1 : Int32))) 6 this 33) + v5) (sI M16 6 this 34 ((mI M16 6 this 34) - (1 : Int32))) h
                    · rw [if_neg b25] at h
                      by_cases b26 : v4 = (7 : Int32)
                      · rw [if_pos b26] at h
                        refine E.up (fun _ _ hJ => J_tswI (len := 249) (dflt := 507) (lo := 1) (hi := 59) (offs := #[249, 259, 268, 268, 301, 301, 357, 507, 507, 507, 507, 507, 387, 507, 507, 507, 507, 507, 402, 415, 449, 449, 507, 507, 507, 507, 507, 507, 507, 507, 507, 507, 507, 507, 507, 507, 507, 507, 507, 507, 507, 507, 507, 507, 507, 507, 507, 507, 507, 507, 507, 507, 507, 458, 458, 470, 498, 498, 498]) (off := 357) (tgt := 492) (by decide +kernel) (by rw [b26]; decide) (by rw [b26]; decide) (by rw [b26]; rfl) (by decide) hJ) ?_
                        refine E_blk (lv' := [some (vr (some (6, this))), some (vi v1), some (vi v2), some (vi v3), some (vi v4), some (vi v5), some (vi v6), none]) (st' := [vr (mR M16 6 this 2)]) (M1 := M16) (pc' := 496) (tb_Machine hγ) [.aload_n 0, .getfield 24] (by decide +kernel) rfl rfl trivial ?_
                        obtain ⟨i103, ei103, h⟩ := h
                        rw [ei103]
                        obtain ⟨c104, c105, c106, h⟩ := h
                        refine E_blk (lv' := [some (vr (some (6, this))), some (vi v1), some (vi v2), some (vi v3), some (vi v4), some (vi v5), some (vi v6), none]) (st' := []) (M1 := (sI M16 94 i103 ((mI M16 6 this 33) + v5).toNatClampNeg ((mI M16 94 i103 ((mI M16 6 this 33) + v5).toNatClampNeg) + (mI M16 68 this v3.toNatClampNeg)))) (pc' := 519) (tb_Machine hγ) [.getfield 218, .aload_n 0, .getfield 402, .iload 5, .iadd, .dup2, .iaload, .aload_n 0, .getfield 84, .getfield 449, .iload_n 3, .iaload, .iadd, .iastore] (by decide +kernel) rfl rfl ⟨c104, c105, c106, trivial⟩ ?_
                        obtain ⟨M107, eM107, h⟩ := h
                        rw [← eM107]
                        refine E_goto (off := 123) (tgt := 642) (by decide +kernel) (by decide) ?_
                        refine E_mask [true, true, false, false, false, false, true, false] rfl ?_
                        exact lk_Machine_act_j642 hγ this Q v1 v6 M107 h
                      · rw [if_neg b26] at h
                        by_cases b27 : v4 = (8 : Int32)
                        · rw [if_pos b27] at h
                          refine E.up (fun _ _ hJ => J_tswI (len := 249) (dflt := 507) (lo := 1) (hi := 59) (offs := #[249, 259, 268, 268, 301, 301, 357, 507, 507, 507, 507, 507, 387, 507, 507, 507, 507, 507, 402, 415, 449, 449, 507, 507, 507, 507, 507, 507, 507, 507, 507, 507, 507, 507, 507, 507, 507, 507, 507, 507, 507, 507, 507, 507, 507, 507, 507, 507, 507, 507, 507, 507, 507, 458, 458, 470, 498, 498, 498]) (off := 507) (tgt := 642) (by decide +kernel) (by rw [b27]; decide) (by rw [b27]; decide) (by rw [b27]; rfl) (by decide) hJ) ?_
                          refine E_mask [true, true, false, false, false, false, true, false] rfl ?_
                          exact lk_Machine_act_j642 hγ this Q v1 v6 M16 h
                        · rw [if_neg b27] at h
                          by_cases b28 : v4 = (9 : Int32)
                          · rw [if_pos b28] at h
                            refine E.up (fun _ _ hJ => J_tswI (len := 249) (dflt := 507) (lo := 1) (hi := 59) (offs := #[249, 259, 268, 268, 301, 301, 357, 507, 507, 507, 507, 507, 387, 507, 507, 507, 507, 507, 402, 415, 449, 449, 507, 507, 507, 507, 507, 507, 507, 507, 507, 507, 507, 507, 507, 507, 507, 507, 507, 507, 507, 507, 507, 507, 507, 507, 507, 507, 507, 507, 507, 507, 507, 458, 458, 470, 498, 498, 498]) (off := 507) (tgt := 642) (by decide +kernel) (by rw [b28]; decide) (by rw [b28]; decide) (by rw [b28]; rfl) (by decide) hJ) ?_
                            refine E_mask [true, true, false, false, false, false, true, false] rfl ?_
                            exact lk_Machine_act_j642 hγ this Q v1 v6 M16 h
                          · rw [if_neg b28] at h
                            by_cases b29 : v4 = (10 : Int32)
                            · rw [if_pos b29] at h
                              refine E.up (fun _ _ hJ => J_tswI (len := 249) (dflt := 507) (lo := 1) (hi := 59) (offs := #[249, 259, 268, 268, 301, 301, 357, 507, 507, 507, 507, 507, 387, 507, 507, 507, 507, 507, 402, 415, 449, 449, 507, 507, 507, 507, 507, 507, 507, 507, 507, 507, 507, 507, 507, 507, 507, 507, 507, 507, 507, 507, 507, 507, 507, 507, 507, 507, 507, 507, 507, 507, 507, 458, 458, 470, 498, 498, 498]) (off := 507) (tgt := 642) (by decide +kernel) (by rw [b29]; decide) (by rw [b29]; decide) (by rw [b29]; rfl) (by decide) hJ) ?_
                              refine E_mask [true, true, false, false, false, false, true, false] rfl ?_
                              exact lk_Machine_act_j642 hγ this Q v1 v6 M16 h
                            · rw [if_neg b29] at h
                              by_cases b30 : v4 = (11 : Int32)
                              · rw [if_pos b30] at h
                                refine E.up (fun _ _ hJ => J_tswI (len := 249) (dflt := 507) (lo := 1) (hi := 59) (offs := #[249, 259, 268, 268, 301, 301, 357, 507, 507, 507, 507, 507, 387, 507, 507, 507, 507, 507, 402, 415, 449, 449, 507, 507, 507, 507, 507, 507, 507, 507, 507, 507, 507, 507, 507, 507, 507, 507, 507, 507, 507, 507, 507, 507, 507, 507, 507, 507, 507, 507, 507, 507, 507, 458, 458, 470, 498, 498, 498]) (off := 507) (tgt := 642) (by decide +kernel) (by rw [b30]; decide) (by rw [b30]; decide) (by rw [b30]; rfl) (by decide) hJ) ?_
                                refine E_mask [true, true, false, false, false, false, true, false] rfl ?_
                                exact lk_Machine_act_j642 hγ this Q v1 v6 M16 h
                              · rw [if_neg b30] at h
                                by_cases b31 : v4 = (12 : Int32)
                                · rw [if_pos b31] at h
                                  refine E.up (fun _ _ hJ => J_tswI (len := 249) (dflt := 507) (lo := 1) (hi := 59) (offs := #[249, 259, 268, 268, 301, 301, 357, 507, 507, 507, 507, 507, 387, 507, 507, 507, 507, 507, 402, 415, 449, 449, 507, 507, 507, 507, 507, 507, 507, 507, 507, 507, 507, 507, 507, 507, 507, 507, 507, 507, 507, 507, 507, 507, 507, 507, 507, 507, 507, 507, 507, 507, 507, 458, 458, 470, 498, 498, 498]) (off := 507) (tgt := 642) (by decide +kernel) (by rw [b31]; decide) (by rw [b31]; decide) (by rw [b31]; rfl) (by decide) hJ) ?_
                                  refine E_mask [true, true, false, false, false, false, true, false] rfl ?_
                                  exact lk_Machine_act_j642 hγ this Q v1 v6 M16 h
                                · rw [if_neg b31] at h
                                  by_cases b32 : v4 = (13 : Int32)
                                  · rw [if_pos b32] at h
                                    refine E.up (fun _ _ hJ => J_tswI (len := 249) (dflt := 507) (lo := 1) (hi := 59) (offs := #[249, 259, 268, 268, 301, 301, 357, 507, 507, 507, 507, 507, 387, 507, 507, 507, 507, 507, 402, 415, 449, 449, 507, 507, 507, 507, 507, 507, 507, 507, 507, 507, 507, 507, 507, 507, 507, 507, 507, 507, 507, 507, 507, 507, 507, 507, 507, 507, 507, 507, 507, 507, 507, 458, 458, 470, 498, 498, 498]) (off := 387) (tgt := 522) (by decide +kernel) (by rw [b32]; decide) (by rw [b32]; decide) (by rw [b32]; rfl) (by decide) hJ) ?_
                                    refine E_blk (lv' := [some (vr (some (6, this))), some (vi v1), some (vi v2), some (vi v3), some (vi v4), some (vi v5), some (vi v6), none]) (st' := [vi (0 : Int32), vr (some (6, this)), vi (1 : Int32), vr (some (6, this))]) (M1 := M16) (pc' := 526) (tb_Machine hγ) [.aload_n 0, .iconst 1, .aload_n 0, .iconst 0] (by decide +kernel) rfl rfl trivial ?_
                                    refine E_callV (κ' := k_Machine_number) (As := [vi (0 : Int32)]) (st := [vi (1 : Int32), vr (some (6, this))]) mv_Machine_number (Or.inl (tbk_mem (j := 9) (k := 46) rfl)) rfl (by decide +kernel) (Nat.le_of_ble_eq_true rfl) (Nat.le_of_ble_eq_true rfl) rfl (by decide) (lk_Machine_number hγ this (0 : Int32) _ M16 h) (fun _ _ => Qi_r) (fun v M100 hp => Qi_k (R := fun st => E γ k_Machine_act 128 529 [some (vr (some (6, this))), some (vi v1), some (vi v2), some (vi v3), some (vi v4), some (vi v5), some (vi v6), none] st M100 (Qv Q)) hp (fun r101 h => ?_))
                                    refine E_blk (lv' := [some (vr (some (6, this))), some (vi v1), some (vi v2), some (vi v3), some (vi v4), some (vi v5), some (vi v6), none]) (st' := [vi (0 : Int32), vi (-r101), vi (1 : Int32), vr (some (6, this))]) (M1 := M100) (pc' := 531) (tb_Machine hγ) [.ineg, .iconst 0] (by decide +kernel) rfl rfl trivial ?_
                                    refine E_callV (κ' := k_Machine_comes) (As := [vi (1 : Int32), vi (-r101), vi (0 : Int32)]) (st := []) mv_Machine_comes (Or.inl (tbk_mem (j := 9) (k := 62) rfl)) rfl (by decide +kernel) (Nat.le_of_ble_eq_true rfl) (Nat.le_of_ble_eq_true rfl) rfl (by decide) (lk_Machine_comes hγ this (1 : Int32) (-r101) (0 : Int32) _ M100 h) (fun _ _ => Qv_r) (fun v M102 hp => Qv_k (R := fun st => E γ k_Machine_act 128 534 [some (vr (some (6, this))), some (vi v1), some (vi v2), some (vi v3), some (vi v4), some (vi v5), some (vi v6), none] st M102 (Qv Q)) hp (fun h => ?_))
                                    refine E_goto (off := 108) (tgt := 642) (by decide +kernel) (by decide) ?_
                                    refine E_mask [true, true, false, false, false, false, true, false] rfl ?_
                                    exact lk_Machine_act_j642 hγ this Q v1 v6 M102 h
                                  · rw [if_neg b32] at h
                                    by_cases b33 : v4 = (14 : Int32)
                                    · rw [if_pos b33] at h
                                      refine E.up (fun _ _ hJ => J_tswI (len := 249) (dflt := 507) (lo := 1) (hi := 59) (offs := #[249, 259, 268, 268, 301, 301, 357, 507, 507, 507, 507, 507, 387, 507, 507, 507, 507, 507, 402, 415, 449, 449, 507, 507, 507, 507, 507, 507, 507, 507, 507, 507, 507, 507, 507, 507, 507, 507, 507, 507, 507, 507, 507, 507, 507, 507, 507, 507, 507, 507, 507, 507, 507, 458, 458, 470, 498, 498, 498]) (off := 507) (tgt := 642) (by decide +kernel) (by rw [b33]; decide) (by rw [b33]; decide) (by rw [b33]; rfl) (by decide) hJ) ?_
                                      refine E_mask [true, true, false, false, false, false, true, false] rfl ?_
                                      exact lk_Machine_act_j642 hγ this Q v1 v6 M16 h
                                    · rw [if_neg b33] at h
                                      by_cases b34 : v4 = (15 : Int32)
                                      · rw [if_pos b34] at h
                                        refine E.up (fun _ _ hJ => J_tswI (len := 249) (dflt := 507) (lo := 1) (hi := 59) (offs := #[249, 259, 268, 268, 301, 301, 357, 507, 507, 507, 507, 507, 387, 507, 507, 507, 507, 507, 402, 415, 449, 449, 507, 507, 507, 507, 507, 507, 507, 507, 507, 507, 507, 507, 507, 507, 507, 507, 507, 507, 507, 507, 507, 507, 507, 507, 507, 507, 507, 507, 507, 507, 507, 458, 458, 470, 498, 498, 498]) (off := 507) (tgt := 642) (by decide +kernel) (by rw [b34]; decide) (by rw [b34]; decide) (by rw [b34]; rfl) (by decide) hJ) ?_
                                        refine E_mask [true, true, false, false, false, false, true, false] rfl ?_
                                        exact lk_Machine_act_j642 hγ this Q v1 v6 M16 h
                                      · rw [if_neg b34] at h
                                        by_cases b35 : v4 = (16 : Int32)
                                        · rw [if_pos b35] at h
                                          refine E.up (fun _ _ hJ => J_tswI (len := 249) (dflt := 507) (lo := 1) (hi := 59) (offs := #[249, 259, 268, 268, 301, 301, 357, 507, 507, 507, 507, 507, 387, 507, 507, 507, 507, 507, 402, 415, 449, 449, 507, 507, 507, 507, 507, 507, 507, 507, 507, 507, 507, 507, 507, 507, 507, 507, 507, 507, 507, 507, 507, 507, 507, 507, 507, 507, 507, 507, 507, 507, 507, 458, 458, 470, 498, 498, 498]) (off := 507) (tgt := 642) (by decide +kernel) (by rw [b35]; decide) (by rw [b35]; decide) (by rw [b35]; rfl) (by decide) hJ) ?_
                                          refine E_mask [true, true, false, false, false, false, true, false] rfl ?_
                                          exact lk_Machine_act_j642 hγ this Q v1 v6 M16 h
                                        · rw [if_neg b35] at h
                                          by_cases b36 : v4 = (17 : Int32)
                                          · rw [if_pos b36] at h
                                            refine E.up (fun _ _ hJ => J_tswI (len := 249) (dflt := 507) (lo := 1) (hi := 59) (offs := #[249, 259, 268, 268, 301, 301, 357, 507, 507, 507, 507, 507, 387, 507, 507, 507, 507, 507, 402, 415, 449, 449, 507, 507, 507, 507, 507, 507, 507, 507, 507, 507, 507, 507, 507, 507, 507, 507, 507, 507, 507, 507, 507, 507, 507, 507, 507, 507, 507, 507, 507, 507, 507, 458, 458, 470, 498, 498, 498]) (off := 507) (tgt := 642) (by decide +kernel) (by rw [b36]; decide) (by rw [b36]; decide) (by rw [b36]; rfl) (by decide) hJ) ?_
                                            refine E_mask [true, true, false, false, false, false, true, false] rfl ?_
                                            exact lk_Machine_act_j642 hγ this Q v1 v6 M16 h
                                          · rw [if_neg b36] at h
                                            by_cases b37 : v4 = (18 : Int32)
                                            · rw [if_pos b37] at h
                                              refine E.up (fun _ _ hJ => J_tswI (len := 249) (dflt := 507) (lo := 1) (hi := 59) (offs := #[249, 259, 268, 268, 301, 301, 357, 507, 507, 507, 507, 507, 387, 507, 507, 507, 507, 507, 402, 415, 449, 449, 507, 507, 507, 507, 507, 507, 507, 507, 507, 507, 507, 507, 507, 507, 507, 507, 507, 507, 507, 507, 507, 507, 507, 507, 507, 507, 507, 507, 507, 507, 507, 458, 458, 470, 498, 498, 498]) (off := 507) (tgt := 642) (by decide +kernel) (by rw [b37]; decide) (by rw [b37]; decide) (by rw [b37]; rfl) (by decide) hJ) ?_
                                              refine E_mask [true, true, false, false, false, false, true, false] rfl ?_
                                              exact lk_Machine_act_j642 hγ this Q v1 v6 M16 h
                                            · rw [if_neg b37] at h
                                              by_cases b38 : v4 = (19 : Int32)
                                              · rw [if_pos b38] at h
                                                refine E.up (fun _ _ hJ => J_tswI (len := 249) (dflt := 507) (lo := 1) (hi := 59) (offs := #[249, 259, 268, 268, 301, 301, 357, 507, 507, 507, 507, 507, 387, 507, 507, 507, 507, 507, 402, 415, 449, 449, 507, 507, 507, 507, 507, 507, 507, 507, 507, 507, 507, 507, 507, 507, 507, 507, 507, 507, 507, 507, 507, 507, 507, 507, 507, 507, 507, 507, 507, 507, 507, 458, 458, 470, 498, 498, 498]) (off := 402) (tgt := 537) (by decide +kernel) (by rw [b38]; decide) (by rw [b38]; decide) (by rw [b38]; rfl) (by decide) hJ) ?_
                                                refine E_blk (lv' := [some (vr (some (6, this))), some (vi v1), some (vi v2), some (vi v3), some (vi v4), some (vi v5), some (vi v6), none]) (st' := []) (M1 := (sI M16 6 this 34 ((mI M16 6 this 34) - (1 : Int32)))) (pc' := 547) (tb_Machine hγ) [.aload_n 0, .dup, .getfield 405, .iconst 1, .isub, .putfield 405] (by decide +kernel) rfl rfl trivial ?_
                                                refine E_goto (off := 95) (tgt := 642) (by decide +kernel) (by decide) ?_
                                                refine E_mask [true, true, false, false, false, false, true, false] rfl ?_
                                                exact lk_Machine_act_j642 hγ this Q v1 v6 (sI M16 6 this 34 ((mI M16 6 this 34) - (1 : Int32))) h
                                              · rw [if_neg b38] at h
                                                by_cases b39 : v4 = (20 : Int32)
                                                · rw [if_pos b39] at h
                                                  refine E.up (fun _ _ hJ => J_tswI (len := 249) (dflt := 507) (lo := 1) (hi := 59) (offs := #[249, 259, 268, 268, 301, 301, 357, 507, 507, 507, 507, 507, 387, 507, 507, 507, 507, 507, 402, 415, 449, 449, 507, 507, 507, 507, 507, 507, 507, 507, 507, 507, 507, 507, 507, 507, 507, 507, 507, 507, 507, 507, 507, 507, 507, 507, 507, 507, 507, 507, 507, 507, 507, 458, 458, 470, 498, 498, 498]) (off := 415) (tgt := 550) (by decide +kernel) (by rw [b39]; decide) (by rw [b39]; decide) (by rw [b39]; rfl) (by decide) hJ) ?_
                                                  refine E_blk (lv' := [some (vr (some (6, this))), some (vi v1), some (vi v2), some (vi v3), some (vi v4), some (vi v5), some (vi v6), none]) (st' := [vi (0 : Int32), vr (some (6, this)), vr (some (6, this))]) (M1 := M16) (pc' := 553) (tb_Machine hγ) [.aload_n 0, .aload_n 0, .iconst 0] (by decide +kernel) rfl rfl trivial ?_
                                                  refine E_callV (κ' := k_Machine_number) (As := [vi (0 : Int32)]) (st := [vr (some (6, this))]) mv_Machine_number (Or.inl (tbk_mem (j := 9) (k := 46) rfl)) rfl (by decide +kernel) (Nat.le_of_ble_eq_true rfl) (Nat.le_of_ble_eq_true rfl) rfl (by decide) (lk_Machine_number hγ this (0 : Int32) _ M16 h) (fun _ _ => Qi_r) (fun v M95 hp => Qi_k (R := fun st => E γ k_Machine_act 128 556 [some (vr (some (6, this))), some (vi v1), some (vi v2), some (vi v3), some (vi v4), some (vi v5), some (vi v6), none] st M95 (Qv Q)) hp (fun r96 h => ?_))
                                                  refine E_blk (lv' := [some (vr (some (6, this))), some (vi v1), some (vi v2), some (vi v3), some (vi v4), some (vi v5), some (vi v6), none]) (st' := [vr (mR M95 6 this 2), vi r96, vr (some (6, this))]) (M1 := M95) (pc' := 560) (tb_Machine hγ) [.aload_n 0, .getfield 24] (by decide +kernel) rfl rfl trivial ?_
                                                  obtain ⟨i97, ei97, h⟩ := h
                                                  rw [ei97]
                                                  obtain ⟨c98, h⟩ := h
                                                  refine E_blk (lv' := [some (vr (some (6, this))), some (vi v1), some (vi v2), some (vi v3), some (vi v4), some (vi v5), some (vi v6), none]) (st' := [vi (mI M95 514 i97 ((((mI M95 6 this 33) + (20 : Int32)) + (mI M95 6 this 34)) - (1 : Int32)).toNatClampNeg), vi r96, vr (some (6, this))]) (M1 := M95) (pc' := 578) (tb_Machine hγ) [.getfield 221, .aload_n 0, .getfield 402, .bipush 20, .iadd, .aload_n 0, .getfield 405, .iadd, .iconst 1, .isub, .baload] (by decide +kernel) rfl rfl ⟨c98, trivial⟩ ?_
                                                  refine E_callV (κ' := k_Machine_push) (As := [vi r96, vi (mI M95 514 i97 ((((mI M95 6 this 33) + (20 : Int32)) + (mI M95 6 this 34)) - (1 : Int32)).toNatClampNeg)]) (st := []) mv_Machine_push (Or.inl (tbk_mem (j := 9) (k := 66) rfl)) rfl (by decide +kernel) (Nat.le_of_ble_eq_true rfl) (Nat.le_of_ble_eq_true rfl) rfl (by decide) (lk_Machine_push hγ this r96 (mI M95 514 i97 ((((mI M95 6 this 33) + (20 : Int32)) + (mI M95 6 this 34)) - (1 : Int32)).toNatClampNeg) _ M95 h) (fun _ _ => Qv_r) (fun v M99 hp => Qv_k (R := fun st => E γ k_Machine_act 128 581 [some (vr (some (6, this))), some (vi v1), some (vi v2), some (vi v3), some (vi v4), some (vi v5), some (vi v6), none] st M99 (Qv Q)) hp (fun h => ?_))
                                                  refine E_goto (off := 61) (tgt := 642) (by decide +kernel) (by decide) ?_
                                                  refine E_mask [true, true, false, false, false, false, true, false] rfl ?_
                                                  exact lk_Machine_act_j642 hγ this Q v1 v6 M99 h
                                                · rw [if_neg b39] at h
                                                  by_cases b40 : v4 = (21 : Int32)
                                                  · rw [if_pos b40] at h
                                                    refine E.up (fun _ _ hJ => J_tswI (len := 249) (dflt := 507) (lo := 1) (hi := 59) (offs := #[249, 259, 268, 268, 301, 301, 357, 507, 507, 507, 507, 507, 387, 507, 507, 507, 507, 507, 402, 415, 449, 449, 507, 507, 507, 507, 507, 507, 507, 507, 507, 507, 507, 507, 507, 507, 507, 507, 507, 507, 507, 507, 507, 507, 507, 507, 507, 507, 507, 507, 507, 507, 507, 458, 458, 470, 498, 498, 498]) (off := 449) (tgt := 584) (by decide +kernel) (by rw [b40]; decide) (by rw [b40]; decide) (by rw [b40]; rfl) (by decide) hJ) ?_
                                                    refine E_blk (lv' := [some (vr (some (6, this))), some (vi v1), some (vi v2), some (vi v3), some (vi v4), some (vi v5), some (vi v6), none]) (st' := [vi v4, vr (some (6, this))]) (M1 := M16) (pc' := 587) (tb_Machine hγ) [.aload_n 0, .iload 4] (by decide +kernel) rfl rfl trivial ?_
                                                    refine E_callV (κ' := k_Machine_turn) (As := [vi v4]) (st := []) mv_Machine_turn (Or.inl (tbk_mem (j := 9) (k := 104) rfl)) rfl (by decide +kernel) (Nat.le_of_ble_eq_true rfl) (Nat.le_of_ble_eq_true rfl) rfl (by decide) (lk_Machine_turn hγ this v4 _ M16 h) (fun _ _ => Qv_r) (fun v M94 hp => Qv_k (R := fun st => E γ k_Machine_act 128 590 [some (vr (some (6, this))), some (vi v1), some (vi v2), some (vi v3), some (vi v4), some (vi v5), some (vi v6), none] st M94 (Qv Q)) hp (fun h => ?_))
                                                    refine E_goto (off := 52) (tgt := 642) (by decide +kernel) (by decide) ?_
                                                    refine E_mask [true, true, false, false, false, false, true, false] rfl ?_
                                                    exact lk_Machine_act_j642 hγ this Q v1 v6 M94 h
                                                  · rw [if_neg b40] at h
                                                    by_cases b41 : v4 = (22 : Int32)
                                                    · rw [if_pos b41] at h
                                                      refine E.up (fun _ _ hJ => J_tswI (len := 249) (dflt := 507) (lo := 1) (hi := 59) (offs := #[249, 259, 268, 268, 301, 301, 357, 507, 507, 507, 507, 507, 387, 507, 507, 507, 507, 507, 402, 415, 449, 449, 507, 507, 507, 507, 507, 507, 507, 507, 507, 507, 507, 507, 507, 507, 507, 507, 507, 507, 507, 507, 507, 507, 507, 507, 507, 507, 507, 507, 507, 507, 507, 458, 458, 470, 498, 498, 498]) (off := 449) (tgt := 584) (by decide +kernel) (by rw [b41]; decide) (by rw [b41]; decide) (by rw [b41]; rfl) (by decide) hJ) ?_
                                                      refine E_blk (lv' := [some (vr (some (6, this))), some (vi v1), some (vi v2), some (vi v3), some (vi v4), some (vi v5), some (vi v6), none]) (st' := [vi v4, vr (some (6, this))]) (M1 := M16) (pc' := 587) (tb_Machine hγ) [.aload_n 0, .iload 4] (by decide +kernel) rfl rfl trivial ?_
                                                      refine E_callV (κ' := k_Machine_turn) (As := [vi v4]) (st := []) mv_Machine_turn (Or.inl (tbk_mem (j := 9) (k := 104) rfl)) rfl (by decide +kernel) (Nat.le_of_ble_eq_true rfl) (Nat.le_of_ble_eq_true rfl) rfl (by decide) (lk_Machine_turn hγ this v4 _ M16 h) (fun _ _ => Qv_r) (fun v M93 hp => Qv_k (R := fun st => E γ k_Machine_act 128 590 [some (vr (some (6, this))), some (vi v1), some (vi v2), some (vi v3), some (vi v4), some (vi v5), some (vi v6), none] st M93 (Qv Q)) hp (fun h => ?_))
                                                      refine E_goto (off := 52) (tgt := 642) (by decide +kernel) (by decide) ?_
                                                      refine E_mask [true, true, false, false, false, false, true, false] rfl ?_
                                                      exact lk_Machine_act_j642 hγ this Q v1 v6 M93 h
                                                    · rw [if_neg b41] at h
                                                      by_cases b42 : v4 = (23 : Int32)
                                                      · rw [if_pos b42] at h
                                                        refine E.up (fun _ _ hJ => J_tswI (len := 249) (dflt := 507) (lo := 1) (hi := 59) (offs := #[249, 259, 268, 268, 301, 301, 357, 507, 507, 507, 507, 507, 387, 507, 507, 507, 507, 507, 402, 415, 449, 449, 507, 507, 507, 507, 507, 507, 507, 507, 507, 507, 507, 507, 507, 507, 507, 507, 507, 507, 507, 507, 507, 507, 507, 507, 507, 507, 507, 507, 507, 507, 507, 458, 458, 470, 498, 498, 498]) (off := 507) (tgt := 642) (by decide +kernel) (by rw [b42]; decide) (by rw [b42]; decide) (by rw [b42]; rfl) (by decide) hJ) ?_
                                                        refine E_mask [true, true, false, false, false, false, true, false] rfl ?_
                                                        exact lk_Machine_act_j642 hγ this Q v1 v6 M16 h
                                                      · rw [if_neg b42] at h
                                                        by_cases b43 : v4 = (24 : Int32)
                                                        · rw [if_pos b43] at h
                                                          refine E.up (fun _ _ hJ => J_tswI (len := 249) (dflt := 507) (lo := 1) (hi := 59) (offs := #[249, 259, 268, 268, 301, 301, 357, 507, 507, 507, 507, 507, 387, 507, 507, 507, 507, 507, 402, 415, 449, 449, 507, 507, 507, 507, 507, 507, 507, 507, 507, 507, 507, 507, 507, 507, 507, 507, 507, 507, 507, 507, 507, 507, 507, 507, 507, 507, 507, 507, 507, 507, 507, 458, 458, 470, 498, 498, 498]) (off := 507) (tgt := 642) (by decide +kernel) (by rw [b43]; decide) (by rw [b43]; decide) (by rw [b43]; rfl) (by decide) hJ) ?_
                                                          refine E_mask [true, true, false, false, false, false, true, false] rfl ?_
                                                          exact lk_Machine_act_j642 hγ this Q v1 v6 M16 h
                                                        · rw [if_neg b43] at h
                                                          by_cases b44 : v4 = (25 : Int32)
                                                          · rw [if_pos b44] at h
                                                            refine E.up (fun _ _ hJ => J_tswI (len := 249) (dflt := 507) (lo := 1) (hi := 59) (offs := #[249, 259, 268, 268, 301, 301, 357, 507, 507, 507, 507, 507, 387, 507, 507, 507, 507, 507, 402, 415, 449, 449, 507, 507, 507, 507, 507, 507, 507, 507, 507, 507, 507, 507, 507, 507, 507, 507, 507, 507, 507, 507, 507, 507, 507, 507, 507, 507, 507, 507, 507, 507, 507, 458, 458, 470, 498, 498, 498]) (off := 507) (tgt := 642) (by decide +kernel) (by rw [b44]; decide) (by rw [b44]; decide) (by rw [b44]; rfl) (by decide) hJ) ?_
                                                            refine E_mask [true, true, false, false, false, false, true, false] rfl ?_
                                                            exact lk_Machine_act_j642 hγ this Q v1 v6 M16 h
                                                          · rw [if_neg b44] at h
                                                            by_cases b45 : v4 = (26 : Int32)
                                                            · rw [if_pos b45] at h
                                                              refine E.up (fun _ _ hJ => J_tswI (len := 249) (dflt := 507) (lo := 1) (hi := 59) (offs := #[249, 259, 268, 268, 301, 301, 357, 507, 507, 507, 507, 507, 387, 507, 507, 507, 507, 507, 402, 415, 449, 449, 507, 507, 507, 507, 507, 507, 507, 507, 507, 507, 507, 507, 507, 507, 507, 507, 507, 507, 507, 507, 507, 507, 507, 507, 507, 507, 507, 507, 507, 507, 507, 458, 458, 470, 498, 498, 498]) (off := 507) (tgt := 642) (by decide +kernel) (by rw [b45]; decide) (by rw [b45]; decide) (by rw [b45]; rfl) (by decide) hJ) ?_
                                                              refine E_mask [true, true, false, false, false, false, true, false] rfl ?_
                                                              exact lk_Machine_act_j642 hγ this Q v1 v6 M16 h
                                                            · rw [if_neg b45] at h
                                                              by_cases b46 : v4 = (27 : Int32)
                                                              · rw [if_pos b46] at h
                                                                refine E.up (fun _ _ hJ => J_tswI (len := 249) (dflt := 507) (lo := 1) (hi := 59) (offs := #[249, 259, 268, 268, 301, 301, 357, 507, 507, 507, 507, 507, 387, 507, 507, 507, 507, 507, 402, 415, 449, 449, 507, 507, 507, 507, 507, 507, 507, 507, 507, 507, 507, 507, 507, 507, 507, 507, 507, 507, 507, 507, 507, 507, 507, 507, 507, 507, 507, 507, 507, 507, 507, 458, 458, 470, 498, 498, 498]) (off := 507) (tgt := 642) (by decide +kernel) (by rw [b46]; decide) (by rw [b46]; decide) (by rw [b46]; rfl) (by decide) hJ) ?_
                                                                refine E_mask [true, true, false, false, false, false, true, false] rfl ?_
                                                                exact lk_Machine_act_j642 hγ this Q v1 v6 M16 h
                                                              · rw [if_neg b46] at h
                                                                by_cases b47 : v4 = (28 : Int32)
                                                                · rw [if_pos b47] at h
                                                                  refine E.up (fun _ _ hJ => J_tswI (len := 249) (dflt := 507) (lo := 1) (hi := 59) (offs := #[249, 259, 268, 268, 301, 301, 357, 507, 507, 507, 507, 507, 387, 507, 507, 507, 507, 507, 402, 415, 449, 449, 507, 507, 507, 507, 507, 507, 507, 507, 507, 507, 507, 507, 507, 507, 507, 507, 507, 507, 507, 507, 507, 507, 507, 507, 507, 507, 507, 507, 507, 507, 507, 458, 458, 470, 498, 498, 498]) (off := 507) (tgt := 642) (by decide +kernel) (by rw [b47]; decide) (by rw [b47]; decide) (by rw [b47]; rfl) (by decide) hJ) ?_
                                                                  refine E_mask [true, true, false, false, false, false, true, false] rfl ?_
                                                                  exact lk_Machine_act_j642 hγ this Q v1 v6 M16 h
                                                                · rw [if_neg b47] at h
                                                                  by_cases b48 : v4 = (29 : Int32)
                                                                  · rw [if_pos b48] at h
                                                                    refine E.up (fun _ _ hJ => J_tswI (len := 249) (dflt := 507) (lo := 1) (hi := 59) (offs := #[249, 259, 268, 268, 301, 301, 357, 507, 507, 507, 507, 507, 387, 507, 507, 507, 507, 507, 402, 415, 449, 449, 507, 507, 507, 507, 507, 507, 507, 507, 507, 507, 507, 507, 507, 507, 507, 507, 507, 507, 507, 507, 507, 507, 507, 507, 507, 507, 507, 507, 507, 507, 507, 458, 458, 470, 498, 498, 498]) (off := 507) (tgt := 642) (by decide +kernel) (by rw [b48]; decide) (by rw [b48]; decide) (by rw [b48]; rfl) (by decide) hJ) ?_
                                                                    refine E_mask [true, true, false, false, false, false, true, false] rfl ?_
                                                                    exact lk_Machine_act_j642 hγ this Q v1 v6 M16 h
                                                                  · rw [if_neg b48] at h
                                                                    by_cases b49 : v4 = (30 : Int32)
                                                                    · rw [if_pos b49] at h
                                                                      refine E.up (fun _ _ hJ => J_tswI (len := 249) (dflt := 507) (lo := 1) (hi := 59) (offs := #[249, 259, 268, 268, 301, 301, 357, 507, 507, 507, 507, 507, 387, 507, 507, 507, 507, 507, 402, 415, 449, 449, 507, 507, 507, 507, 507, 507, 507, 507, 507, 507, 507, 507, 507, 507, 507, 507, 507, 507, 507, 507, 507, 507, 507, 507, 507, 507, 507, 507, 507, 507, 507, 458, 458, 470, 498, 498, 498]) (off := 507) (tgt := 642) (by decide +kernel) (by rw [b49]; decide) (by rw [b49]; decide) (by rw [b49]; rfl) (by decide) hJ) ?_
                                                                      refine E_mask [true, true, false, false, false, false, true, false] rfl ?_
                                                                      exact lk_Machine_act_j642 hγ this Q v1 v6 M16 h
                                                                    · rw [if_neg b49] at h
                                                                      by_cases b50 : v4 = (31 : Int32)
                                                                      · rw [if_pos b50] at h
                                                                        refine E.up (fun _ _ hJ => J_tswI (len := 249) (dflt := 507) (lo := 1) (hi := 59) (offs := #[249, 259, 268, 268, 301, 301, 357, 507, 507, 507, 507, 507, 387, 507, 507, 507, 507, 507, 402, 415, 449, 449, 507, 507, 507, 507, 507, 507, 507, 507, 507, 507, 507, 507, 507, 507, 507, 507, 507, 507, 507, 507, 507, 507, 507, 507, 507, 507, 507, 507, 507, 507, 507, 458, 458, 470, 498, 498, 498]) (off := 507) (tgt := 642) (by decide +kernel) (by rw [b50]; decide) (by rw [b50]; decide) (by rw [b50]; rfl) (by decide) hJ) ?_
                                                                        refine E_mask [true, true, false, false, false, false, true, false] rfl ?_
                                                                        exact lk_Machine_act_j642 hγ this Q v1 v6 M16 h
                                                                      · rw [if_neg b50] at h
                                                                        by_cases b51 : v4 = (32 : Int32)
                                                                        · rw [if_pos b51] at h
                                                                          refine E.up (fun _ _ hJ => J_tswI (len := 249) (dflt := 507) (lo := 1) (hi := 59) (offs := #[249, 259, 268, 268, 301, 301, 357, 507, 507, 507, 507, 507, 387, 507, 507, 507, 507, 507, 402, 415, 449, 449, 507, 507, 507, 507, 507, 507, 507, 507, 507, 507, 507, 507, 507, 507, 507, 507, 507, 507, 507, 507, 507, 507, 507, 507, 507, 507, 507, 507, 507, 507, 507, 458, 458, 470, 498, 498, 498]) (off := 507) (tgt := 642) (by decide +kernel) (by rw [b51]; decide) (by rw [b51]; decide) (by rw [b51]; rfl) (by decide) hJ) ?_
                                                                          refine E_mask [true, true, false, false, false, false, true, false] rfl ?_
                                                                          exact lk_Machine_act_j642 hγ this Q v1 v6 M16 h
                                                                        · rw [if_neg b51] at h
                                                                          by_cases b52 : v4 = (33 : Int32)
                                                                          · rw [if_pos b52] at h
                                                                            refine E.up (fun _ _ hJ => J_tswI (len := 249) (dflt := 507) (lo := 1) (hi := 59) (offs := #[249, 259, 268, 268, 301, 301, 357, 507, 507, 507, 507, 507, 387, 507, 507, 507, 507, 507, 402, 415, 449, 449, 507, 507, 507, 507, 507, 507, 507, 507, 507, 507, 507, 507, 507, 507, 507, 507, 507, 507, 507, 507, 507, 507, 507, 507, 507, 507, 507, 507, 507, 507, 507, 458, 458, 470, 498, 498, 498]) (off := 507) (tgt := 642) (by decide +kernel) (by rw [b52]; decide) (by rw [b52]; decide) (by rw [b52]; rfl) (by decide) hJ) ?_
                                                                            refine E_mask [true, true, false, false, false, false, true, false] rfl ?_
                                                                            exact lk_Machine_act_j642 hγ this Q v1 v6 M16 h
                                                                          · rw [if_neg b52] at h
                                                                            by_cases b53 : v4 = (34 : Int32)
                                                                            · rw [if_pos b53] at h
                                                                              refine E.up (fun _ _ hJ => J_tswI (len := 249) (dflt := 507) (lo := 1) (hi := 59) (offs := #[249, 259, 268, 268, 301, 301, 357, 507, 507, 507, 507, 507, 387, 507, 507, 507, 507, 507, 402, 415, 449, 449, 507, 507, 507, 507, 507, 507, 507, 507, 507, 507, 507, 507, 507, 507, 507, 507, 507, 507, 507, 507, 507, 507, 507, 507, 507, 507, 507, 507, 507, 507, 507, 458, 458, 470, 498, 498, 498]) (off := 507) (tgt := 642) (by decide +kernel) (by rw [b53]; decide) (by rw [b53]; decide) (by rw [b53]; rfl) (by decide) hJ) ?_
                                                                              refine E_mask [true, true, false, false, false, false, true, false] rfl ?_
                                                                              exact lk_Machine_act_j642 hγ this Q v1 v6 M16 h
                                                                            · rw [if_neg b53] at h
                                                                              by_cases b54 : v4 = (35 : Int32)
                                                                              · rw [if_pos b54] at h
                                                                                refine E.up (fun _ _ hJ => J_tswI (len := 249) (dflt := 507) (lo := 1) (hi := 59) (offs := #[249, 259, 268, 268, 301, 301, 357, 507, 507, 507, 507, 507, 387, 507, 507, 507, 507, 507, 402, 415, 449, 449, 507, 507, 507, 507, 507, 507, 507, 507, 507, 507, 507, 507, 507, 507, 507, 507, 507, 507, 507, 507, 507, 507, 507, 507, 507, 507, 507, 507, 507, 507, 507, 458, 458, 470, 498, 498, 498]) (off := 507) (tgt := 642) (by decide +kernel) (by rw [b54]; decide) (by rw [b54]; decide) (by rw [b54]; rfl) (by decide) hJ) ?_
                                                                                refine E_mask [true, true, false, false, false, false, true, false] rfl ?_
                                                                                exact lk_Machine_act_j642 hγ this Q v1 v6 M16 h
                                                                              · rw [if_neg b54] at h
                                                                                by_cases b55 : v4 = (36 : Int32)
                                                                                · rw [if_pos b55] at h
                                                                                  refine E.up (fun _ _ hJ => J_tswI (len := 249) (dflt := 507) (lo := 1) (hi := 59) (offs := #[249, 259, 268, 268, 301, 301, 357, 507, 507, 507, 507, 507, 387, 507, 507, 507, 507, 507, 402, 415, 449, 449, 507, 507, 507, 507, 507, 507, 507, 507, 507, 507, 507, 507, 507, 507, 507, 507, 507, 507, 507, 507, 507, 507, 507, 507, 507, 507, 507, 507, 507, 507, 507, 458, 458, 470, 498, 498, 498]) (off := 507) (tgt := 642) (by decide +kernel) (by rw [b55]; decide) (by rw [b55]; decide) (by rw [b55]; rfl) (by decide) hJ) ?_
                                                                                  refine E_mask [true, true, false, false, false, false, true, false] rfl ?_
                                                                                  exact lk_Machine_act_j642 hγ this Q v1 v6 M16 h
                                                                                · rw [if_neg b55] at h
                                                                                  by_cases b56 : v4 = (37 : Int32)
                                                                                  · rw [if_pos b56] at h
                                                                                    refine E.up (fun _ _ hJ => J_tswI (len := 249) (dflt := 507) (lo := 1) (hi := 59) (offs := #[249, 259, 268, 268, 301, 301, 357, 507, 507, 507, 507, 507, 387, 507, 507, 507, 507, 507, 402, 415, 449, 449, 507, 507, 507, 507, 507, 507, 507, 507, 507, 507, 507, 507, 507, 507, 507, 507, 507, 507, 507, 507, 507, 507, 507, 507, 507, 507, 507, 507, 507, 507, 507, 458, 458, 470, 498, 498, 498]) (off := 507) (tgt := 642) (by decide +kernel) (by rw [b56]; decide) (by rw [b56]; decide) (by rw [b56]; rfl) (by decide) hJ) ?_
                                                                                    refine E_mask [true, true, false, false, false, false, true, false] rfl ?_
                                                                                    exact lk_Machine_act_j642 hγ this Q v1 v6 M16 h
                                                                                  · rw [if_neg b56] at h
                                                                                    by_cases b57 : v4 = (38 : Int32)
                                                                                    · rw [if_pos b57] at h
                                                                                      refine E.up (fun _ _ hJ => J_tswI (len := 249) (dflt := 507) (lo := 1) (hi := 59) (offs := #[249, 259, 268, 268, 301, 301, 357, 507, 507, 507, 507, 507, 387, 507, 507, 507, 507, 507, 402, 415, 449, 449, 507, 507, 507, 507, 507, 507, 507, 507, 507, 507, 507, 507, 507, 507, 507, 507, 507, 507, 507, 507, 507, 507, 507, 507, 507, 507, 507, 507, 507, 507, 507, 458, 458, 470, 498, 498, 498]) (off := 507) (tgt := 642) (by decide +kernel) (by rw [b57]; decide) (by rw [b57]; decide) (by rw [b57]; rfl) (by decide) hJ) ?_
                                                                                      refine E_mask [true, true, false, false, false, false, true, false] rfl ?_
                                                                                      exact lk_Machine_act_j642 hγ this Q v1 v6 M16 h
                                                                                    · rw [if_neg b57] at h
                                                                                      by_cases b58 : v4 = (39 : Int32)
                                                                                      · rw [if_pos b58] at h
                                                                                        refine E.up (fun _ _ hJ => J_tswI (len := 249) (dflt := 507) (lo := 1) (hi := 59) (offs := #[249, 259, 268, 268, 301, 301, 357, 507, 507, 507, 507, 507, 387, 507, 507, 507, 507, 507, 402, 415, 449, 449, 507, 507, 507, 507, 507, 507, 507, 507, 507, 507, 507, 507, 507, 507, 507, 507, 507, 507, 507, 507, 507, 507, 507, 507, 507, 507, 507, 507, 507, 507, 507, 458, 458, 470, 498, 498, 498]) (off := 507) (tgt := 642) (by decide +kernel) (by rw [b58]; decide) (by rw [b58]; decide) (by rw [b58]; rfl) (by decide) hJ) ?_
                                                                                        refine E_mask [true, true, false, false, false, false, true, false] rfl ?_
                                                                                        exact lk_Machine_act_j642 hγ this Q v1 v6 M16 h
                                                                                      · rw [if_neg b58] at h
                                                                                        by_cases b59 : v4 = (40 : Int32)
                                                                                        · rw [if_pos b59] at h
                                                                                          refine E.up (fun _ _ hJ => J_tswI (len := 249) (dflt := 507) (lo := 1) (hi := 59) (offs := #[249, 259, 268, 268, 301, 301, 357, 507, 507, 507, 507, 507, 387, 507, 507, 507, 507, 507, 402, 415, 449, 449, 507, 507, 507, 507, 507, 507, 507, 507, 507, 507, 507, 507, 507, 507, 507, 507, 507, 507, 507, 507, 507, 507, 507, 507, 507, 507, 507, 507, 507, 507, 507, 458, 458, 470, 498, 498, 498]) (off := 507) (tgt := 642) (by decide +kernel) (by rw [b59]; decide) (by rw [b59]; decide) (by rw [b59]; rfl) (by decide) hJ) ?_
                                                                                          refine E_mask [true, true, false, false, false, false, true, false] rfl ?_
                                                                                          exact lk_Machine_act_j642 hγ this Q v1 v6 M16 h
                                                                                        · rw [if_neg b59] at h
                                                                                          by_cases b60 : v4 = (41 : Int32)
                                                                                          · rw [if_pos b60] at h
                                                                                            refine E.up (fun _ _ hJ => J_tswI (len := 249) (dflt := 507) (lo := 1) (hi := 59) (offs := #[249, 259, 268, 268, 301, 301, 357, 507, 507, 507, 507, 507, 387, 507, 507, 507, 507, 507, 402, 415, 449, 449, 507, 507, 507, 507, 507, 507, 507, 507, 507, 507, 507, 507, 507, 507, 507, 507, 507, 507, 507, 507, 507, 507, 507, 507, 507, 507, 507, 507, 507, 507, 507, 458, 458, 470, 498, 498, 498]) (off := 507) (tgt := 642) (by decide +kernel) (by rw [b60]; decide) (by rw [b60]; decide) (by rw [b60]; rfl) (by decide) hJ) ?_
                                                                                            refine E_mask [true, true, false, false, false, false, true, false] rfl ?_
                                                                                            exact lk_Machine_act_j642 hγ this Q v1 v6 M16 h
                                                                                          · rw [if_neg b60] at h
                                                                                            by_cases b61 : v4 = (42 : Int32)
                                                                                            · rw [if_pos b61] at h
                                                                                              refine E.up (fun _ _ hJ => J_tswI (len := 249) (dflt := 507) (lo := 1) (hi := 59) (offs := #[249, 259, 268, 268, 301, 301, 357, 507, 507, 507, 507, 507, 387, 507, 507, 507, 507, 507, 402, 415, 449, 449, 507, 507, 507, 507, 507, 507, 507, 507, 507, 507, 507, 507, 507, 507, 507, 507, 507, 507, 507, 507, 507, 507, 507, 507, 507, 507, 507, 507, 507, 507, 507, 458, 458, 470, 498, 498, 498]) (off := 507) (tgt := 642) (by decide +kernel) (by rw [b61]; decide) (by rw [b61]; decide) (by rw [b61]; rfl) (by decide) hJ) ?_
                                                                                              refine E_mask [true, true, false, false, false, false, true, false] rfl ?_
                                                                                              exact lk_Machine_act_j642 hγ this Q v1 v6 M16 h
                                                                                            · rw [if_neg b61] at h
                                                                                              by_cases b62 : v4 = (43 : Int32)
                                                                                              · rw [if_pos b62] at h
                                                                                                refine E.up (fun _ _ hJ => J_tswI (len := 249) (dflt := 507) (lo := 1) (hi := 59) (offs := #[249, 259, 268, 268, 301, 301, 357, 507, 507, 507, 507, 507, 387, 507, 507, 507, 507, 507, 402, 415, 449, 449, 507, 507, 507, 507, 507, 507, 507, 507, 507, 507, 507, 507, 507, 507, 507, 507, 507, 507, 507, 507, 507, 507, 507, 507, 507, 507, 507, 507, 507, 507, 507, 458, 458, 470, 498, 498, 498]) (off := 507) (tgt := 642) (by decide +kernel) (by rw [b62]; decide) (by rw [b62]; decide) (by rw [b62]; rfl) (by decide) hJ) ?_
                                                                                                refine E_mask [true, true, false, false, false, false, true, false] rfl ?_
                                                                                                exact lk_Machine_act_j642 hγ this Q v1 v6 M16 h
                                                                                              · rw [if_neg b62] at h
                                                                                                by_cases b63 : v4 = (44 : Int32)
                                                                                                · rw [if_pos b63] at h
                                                                                                  refine E.up (fun _ _ hJ => J_tswI (len := 249) (dflt := 507) (lo := 1) (hi := 59) (offs := #[249, 259, 268, 268, 301, 301, 357, 507, 507, 507, 507, 507, 387, 507, 507, 507, 507, 507, 402, 415, 449, 449, 507, 507, 507, 507, 507, 507, 507, 507, 507, 507, 507, 507, 507, 507, 507, 507, 507, 507, 507, 507, 507, 507, 507, 507, 507, 507, 507, 507, 507, 507, 507, 458, 458, 470, 498, 498, 498]) (off := 507) (tgt := 642) (by decide +kernel) (by rw [b63]; decide) (by rw [b63]; decide) (by rw [b63]; rfl) (by decide) hJ) ?_
                                                                                                  refine E_mask [true, true, false, false, false, false, true, false] rfl ?_
                                                                                                  exact lk_Machine_act_j642 hγ this Q v1 v6 M16 h
                                                                                                · rw [if_neg b63] at h
                                                                                                  by_cases b64 : v4 = (45 : Int32)
                                                                                                  · rw [if_pos b64] at h
                                                                                                    refine E.up (fun _ _ hJ => J_tswI (len := 249) (dflt := 507) (lo := 1) (hi := 59) (offs := #[249, 259, 268, 268, 301, 301, 357, 507, 507, 507, 507, 507, 387, 507, 507, 507, 507, 507, 402, 415, 449, 449, 507, 507, 507, 507, 507, 507, 507, 507, 507, 507, 507, 507, 507, 507, 507, 507, 507, 507, 507, 507, 507, 507, 507, 507, 507, 507, 507, 507, 507, 507, 507, 458, 458, 470, 498, 498, 498]) (off := 507) (tgt := 642) (by decide +kernel) (by rw [b64]; decide) (by rw [b64]; decide) (by rw [b64]; rfl) (by decide) hJ) ?_
                                                                                                    refine E_mask [true, true, false, false, false, false, true, false] rfl ?_
                                                                                                    exact lk_Machine_act_j642 hγ this Q v1 v6 M16 h
                                                                                                  · rw [if_neg b64] at h
                                                                                                    by_cases b65 : v4 = (46 : Int32)
                                                                                                    · rw [if_pos b65] at h
                                                                                                      refine E.up (fun _ _ hJ => J_tswI (len := 249) (dflt := 507) (lo := 1) (hi := 59) (offs := #[249, 259, 268, 268, 301, 301, 357, 507, 507, 507, 507, 507, 387, 507, 507, 507, 507, 507, 402, 415, 449, 449, 507, 507, 507, 507, 507, 507, 507, 507, 507, 507, 507, 507, 507, 507, 507, 507, 507, 507, 507, 507, 507, 507, 507, 507, 507, 507, 507, 507, 507, 507, 507, 458, 458, 470, 498, 498, 498]) (off := 507) (tgt := 642) (by decide +kernel) (by rw [b65]; decide) (by rw [b65]; decide) (by rw [b65]; rfl) (by decide) hJ) ?_
                                                                                                      refine E_mask [true, true, false, false, false, false, true, false] rfl ?_
                                                                                                      exact lk_Machine_act_j642 hγ this Q v1 v6 M16 h
                                                                                                    · rw [if_neg b65] at h
                                                                                                      by_cases b66 : v4 = (47 : Int32)
                                                                                                      · rw [if_pos b66] at h
                                                                                                        refine E.up (fun _ _ hJ => J_tswI (len := 249) (dflt := 507) (lo := 1) (hi := 59) (offs := #[249, 259, 268, 268, 301, 301, 357, 507, 507, 507, 507, 507, 387, 507, 507, 507, 507, 507, 402, 415, 449, 449, 507, 507, 507, 507, 507, 507, 507, 507, 507, 507, 507, 507, 507, 507, 507, 507, 507, 507, 507, 507, 507, 507, 507, 507, 507, 507, 507, 507, 507, 507, 507, 458, 458, 470, 498, 498, 498]) (off := 507) (tgt := 642) (by decide +kernel) (by rw [b66]; decide) (by rw [b66]; decide) (by rw [b66]; rfl) (by decide) hJ) ?_
                                                                                                        refine E_mask [true, true, false, false, false, false, true, false] rfl ?_
                                                                                                        exact lk_Machine_act_j642 hγ this Q v1 v6 M16 h
                                                                                                      · rw [if_neg b66] at h
                                                                                                        by_cases b67 : v4 = (48 : Int32)
                                                                                                        · rw [if_pos b67] at h
                                                                                                          refine E.up (fun _ _ hJ => J_tswI (len := 249) (dflt := 507) (lo := 1) (hi := 59) (offs := #[249, 259, 268, 268, 301, 301, 357, 507, 507, 507, 507, 507, 387, 507, 507, 507, 507, 507, 402, 415, 449, 449, 507, 507, 507, 507, 507, 507, 507, 507, 507, 507, 507, 507, 507, 507, 507, 507, 507, 507, 507, 507, 507, 507, 507, 507, 507, 507, 507, 507, 507, 507, 507, 458, 458, 470, 498, 498, 498]) (off := 507) (tgt := 642) (by decide +kernel) (by rw [b67]; decide) (by rw [b67]; decide) (by rw [b67]; rfl) (by decide) hJ) ?_
                                                                                                          refine E_mask [true, true, false, false, false, false, true, false] rfl ?_
                                                                                                          exact lk_Machine_act_j642 hγ this Q v1 v6 M16 h
                                                                                                        · rw [if_neg b67] at h
                                                                                                          by_cases b68 : v4 = (49 : Int32)
                                                                                                          · rw [if_pos b68] at h
                                                                                                            refine E.up (fun _ _ hJ => J_tswI (len := 249) (dflt := 507) (lo := 1) (hi := 59) (offs := #[249, 259, 268, 268, 301, 301, 357, 507, 507, 507, 507, 507, 387, 507, 507, 507, 507, 507, 402, 415, 449, 449, 507, 507, 507, 507, 507, 507, 507, 507, 507, 507, 507, 507, 507, 507, 507, 507, 507, 507, 507, 507, 507, 507, 507, 507, 507, 507, 507, 507, 507, 507, 507, 458, 458, 470, 498, 498, 498]) (off := 507) (tgt := 642) (by decide +kernel) (by rw [b68]; decide) (by rw [b68]; decide) (by rw [b68]; rfl) (by decide) hJ) ?_
                                                                                                            refine E_mask [true, true, false, false, false, false, true, false] rfl ?_
                                                                                                            exact lk_Machine_act_j642 hγ this Q v1 v6 M16 h
                                                                                                          · rw [if_neg b68] at h
                                                                                                            by_cases b69 : v4 = (50 : Int32)
                                                                                                            · rw [if_pos b69] at h
                                                                                                              refine E.up (fun _ _ hJ => J_tswI (len := 249) (dflt := 507) (lo := 1) (hi := 59) (offs := #[249, 259, 268, 268, 301, 301, 357, 507, 507, 507, 507, 507, 387, 507, 507, 507, 507, 507, 402, 415, 449, 449, 507, 507, 507, 507, 507, 507, 507, 507, 507, 507, 507, 507, 507, 507, 507, 507, 507, 507, 507, 507, 507, 507, 507, 507, 507, 507, 507, 507, 507, 507, 507, 458, 458, 470, 498, 498, 498]) (off := 507) (tgt := 642) (by decide +kernel) (by rw [b69]; decide) (by rw [b69]; decide) (by rw [b69]; rfl) (by decide) hJ) ?_
                                                                                                              refine E_mask [true, true, false, false, false, false, true, false] rfl ?_
                                                                                                              exact lk_Machine_act_j642 hγ this Q v1 v6 M16 h
                                                                                                            · rw [if_neg b69] at h
                                                                                                              by_cases b70 : v4 = (51 : Int32)
                                                                                                              · rw [if_pos b70] at h
                                                                                                                refine E.up (fun _ _ hJ => J_tswI (len := 249) (dflt := 507) (lo := 1) (hi := 59) (offs := #[249, 259, 268, 268, 301, 301, 357, 507, 507, 507, 507, 507, 387, 507, 507, 507, 507, 507, 402, 415, 449, 449, 507, 507, 507, 507, 507, 507, 507, 507, 507, 507, 507, 507, 507, 507, 507, 507, 507, 507, 507, 507, 507, 507, 507, 507, 507, 507, 507, 507, 507, 507, 507, 458, 458, 470, 498, 498, 498]) (off := 507) (tgt := 642) (by decide +kernel) (by rw [b70]; decide) (by rw [b70]; decide) (by rw [b70]; rfl) (by decide) hJ) ?_
                                                                                                                refine E_mask [true, true, false, false, false, false, true, false] rfl ?_
                                                                                                                exact lk_Machine_act_j642 hγ this Q v1 v6 M16 h
                                                                                                              · rw [if_neg b70] at h
                                                                                                                by_cases b71 : v4 = (52 : Int32)
                                                                                                                · rw [if_pos b71] at h
                                                                                                                  refine E.up (fun _ _ hJ => J_tswI (len := 249) (dflt := 507) (lo := 1) (hi := 59) (offs := #[249, 259, 268, 268, 301, 301, 357, 507, 507, 507, 507, 507, 387, 507, 507, 507, 507, 507, 402, 415, 449, 449, 507, 507, 507, 507, 507, 507, 507, 507, 507, 507, 507, 507, 507, 507, 507, 507, 507, 507, 507, 507, 507, 507, 507, 507, 507, 507, 507, 507, 507, 507, 507, 458, 458, 470, 498, 498, 498]) (off := 507) (tgt := 642) (by decide +kernel) (by rw [b71]; decide) (by rw [b71]; decide) (by rw [b71]; rfl) (by decide) hJ) ?_
                                                                                                                  refine E_mask [true, true, false, false, false, false, true, false] rfl ?_
                                                                                                                  exact lk_Machine_act_j642 hγ this Q v1 v6 M16 h
                                                                                                                · rw [if_neg b71] at h
                                                                                                                  by_cases b72 : v4 = (53 : Int32)
                                                                                                                  · rw [if_pos b72] at h
                                                                                                                    refine E.up (fun _ _ hJ => J_tswI (len := 249) (dflt := 507) (lo := 1) (hi := 59) (offs := #[249, 259, 268, 268, 301, 301, 357, 507, 507, 507, 507, 507, 387, 507, 507, 507, 507, 507, 402, 415, 449, 449, 507, 507, 507, 507, 507, 507, 507, 507, 507, 507, 507, 507, 507, 507, 507, 507, 507, 507, 507, 507, 507, 507, 507, 507, 507, 507, 507, 507, 507, 507, 507, 458, 458, 470, 498, 498, 498]) (off := 507) (tgt := 642) (by decide +kernel) (by rw [b72]; decide) (by rw [b72]; decide) (by rw [b72]; rfl) (by decide) hJ) ?_
                                                                                                                    refine E_mask [true, true, false, false, false, false, true, false] rfl ?_
                                                                                                                    exact lk_Machine_act_j642 hγ this Q v1 v6 M16 h
                                                                                                                  · rw [if_neg b72] at h
                                                                                                                    by_cases b73 : v4 = (54 : Int32)
                                                                                                                    · rw [if_pos b73] at h
                                                                                                                      refine E.up (fun _ _ hJ => J_tswI (len := 249) (dflt := 507) (lo := 1) (hi := 59) (offs := #[249, 259, 268, 268, 301, 301, 357, 507, 507, 507, 507, 507, 387, 507, 507, 507, 507, 507, 402, 415, 449, 449, 507, 507, 507, 507, 507, 507, 507, 507, 507, 507, 507, 507, 507, 507, 507, 507, 507, 507, 507, 507, 507, 507, 507, 507, 507, 507, 507, 507, 507, 507, 507, 458, 458, 470, 498, 498, 498]) (off := 458) (tgt := 593) (by decide +kernel) (by rw [b73]; decide) (by rw [b73]; decide) (by rw [b73]; rfl) (by decide) hJ) ?_
                                                                                                                      refine E_blk (lv' := [some (vr (some (6, this))), some (vi v1), some (vi v2), some (vi v3), some (vi v4), some (vi v5), some (vi v6), none]) (st' := [vi v4, vi v5, vr (some (6, this))]) (M1 := M16) (pc' := 598) (tb_Machine hγ) [.aload_n 0, .iload 5, .iload 4] (by decide +kernel) rfl rfl trivial ?_
                                                                                                                      refine E_callV (κ' := k_Machine_isOf) (As := [vi v5, vi v4]) (st := []) mv_Machine_isOf (Or.inl (tbk_mem (j := 9) (k := 108) rfl)) rfl (by decide +kernel) (Nat.le_of_ble_eq_true rfl) (Nat.le_of_ble_eq_true rfl) rfl (by decide) (lk_Machine_isOf hγ this v5 v4 _ M16 h) (fun _ _ => Qi_r) (fun v M90 hp => Qi_k (R := fun st => E γ k_Machine_act 128 601 [some (vr (some (6, this))), some (vi v1), some (vi v2), some (vi v3), some (vi v4), some (vi v5), some (vi v6), none] st M90 (Qv Q)) hp (fun r91 h => ?_))
                                                                                                                      refine E_if_ne (off := 41) (tgt := 642) (by decide +kernel) (by decide) (fun b92 => ?_) (fun b92 => ?_)
                                                                                                                      · rw [if_pos b92] at h
                                                                                                                        exact E_vret rfl (by decide +kernel) h
                                                                                                                      · rw [if_neg b92] at h
                                                                                                                        refine E_mask [true, true, false, false, false, false, true, false] rfl ?_
                                                                                                                        exact lk_Machine_act_j642 hγ this Q v1 v6 M90 h
                                                                                                                    · rw [if_neg b73] at h
                                                                                                                      by_cases b74 : v4 = (55 : Int32)
                                                                                                                      · rw [if_pos b74] at h
                                                                                                                        refine E.up (fun _ _ hJ => J_tswI (len := 249) (dflt := 507) (lo := 1) (hi := 59) (offs := #[249, 259, 268, 268, 301, 301, 357, 507, 507, 507, 507, 507, 387, 507, 507, 507, 507, 507, 402, 415, 449, 449, 507, 507, 507, 507, 507, 507, 507, 507, 507, 507, 507, 507, 507, 507, 507, 507, 507, 507, 507, 507, 507, 507, 507, 507, 507, 507, 507, 507, 507, 507, 507, 458, 458, 470, 498, 498, 498]) (off := 458) (tgt := 593) (by decide +kernel) (by rw [b74]; decide) (by rw [b74]; decide) (by rw [b74]; rfl) (by decide) hJ) ?_
                                                                                                                        refine E_blk (lv' := [some (vr (some (6, this))), some (vi v1), some (vi v2), some (vi v3), some (vi v4), some (vi v5), some (vi v6), none]) (st' := [vi v4, vi v5, vr (some (6, this))]) (M1 := M16) (pc' := 598) (tb_Machine hγ) [.aload_n 0, .iload 5, .iload 4] (by decide +kernel) rfl rfl trivial ?_
                                                                                                                        refine E_callV (κ' := k_Machine_isOf) (As := [vi v5, vi v4]) (st := []) mv_Machine_isOf (Or.inl (tbk_mem (j := 9) (k := 108) rfl)) rfl (by decide +kernel) (Nat.le_of_ble_eq_true rfl) (Nat.le_of_ble_eq_true rfl) rfl (by decide) (lk_Machine_isOf hγ this v5 v4 _ M16 h) (fun _ _ => Qi_r) (fun v M87 hp => Qi_k (R := fun st => E γ k_Machine_act 128 601 [some (vr (some (6, this))), some (vi v1), some (vi v2), some (vi v3), some (vi v4), some (vi v5), some (vi v6), none] st M87 (Qv Q)) hp (fun r88 h => ?_))
                                                                                                                        refine E_if_ne (off := 41) (tgt := 642) (by decide +kernel) (by decide) (fun b89 => ?_) (fun b89 => ?_)
                                                                                                                        · rw [if_pos b89] at h
                                                                                                                          exact E_vret rfl (by decide +kernel) h
                                                                                                                        · rw [if_neg b89] at h
                                                                                                                          refine E_mask [true, true, false, false, false, false, true, false] rfl ?_
                                                                                                                          exact lk_Machine_act_j642 hγ this Q v1 v6 M87 h
                                                                                                                      · rw [if_neg b74] at h
                                                                                                                        by_cases b75 : v4 = (56 : Int32)
                                                                                                                        · rw [if_pos b75] at h
                                                                                                                          refine E.up (fun _ _ hJ => J_tswI (len := 249) (dflt := 507) (lo := 1) (hi := 59) (offs := #[249, 259, 268, 268, 301, 301, 357, 507, 507, 507, 507, 507, 387, 507, 507, 507, 507, 507, 402, 415, 449, 449, 507, 507, 507, 507, 507, 507, 507, 507, 507, 507, 507, 507, 507, 507, 507, 507, 507, 507, 507, 507, 507, 507, 507, 507, 507, 507, 507, 507, 507, 507, 507, 458, 458, 470, 498, 498, 498]) (off := 470) (tgt := 605) (by decide +kernel) (by rw [b75]; decide) (by rw [b75]; decide) (by rw [b75]; rfl) (by decide) hJ) ?_
                                                                                                                          refine E_blk (lv' := [some (vr (some (6, this))), some (vi v1), some (vi v2), some (vi v3), some (vi v4), some (vi v5), some (vi v6), none]) (st' := [vi (0 : Int32), vr (some (6, this))]) (M1 := M16) (pc' := 607) (tb_Machine hγ) [.aload_n 0, .iconst 0] (by decide +kernel) rfl rfl trivial ?_
                                                                                                                          refine E_callV (κ' := k_Machine_number) (As := [vi (0 : Int32)]) (st := []) mv_Machine_number (Or.inl (tbk_mem (j := 9) (k := 46) rfl)) rfl (by decide +kernel) (Nat.le_of_ble_eq_true rfl) (Nat.le_of_ble_eq_true rfl) rfl (by decide) (lk_Machine_number hγ this (0 : Int32) _ M16 h) (fun _ _ => Qi_r) (fun v M82 hp => Qi_k (R := fun st => E γ k_Machine_act 128 610 [some (vr (some (6, this))), some (vi v1), some (vi v2), some (vi v3), some (vi v4), some (vi v5), some (vi v6), none] st M82 (Qv Q)) hp (fun r83 h => ?_))
                                                                                                                          refine E_blk (lv' := [some (vr (some (6, this))), some (vi v1), some (vi v2), some (vi v3), some (vi v4), some (vi v5), some (vi v6), some (vi r83)]) (st' := [vi r83]) (M1 := M82) (pc' := 614) (tb_Machine hγ) [.istore 7, .iload 7] (by decide +kernel) rfl rfl trivial ?_
                                                                                                                          refine E_if_ne (off := 12) (tgt := 626) (by decide +kernel) (by decide) (fun b84 => ?_) (fun b84 => ?_)
                                                                                                                          · rw [if_pos b84] at h
                                                                                                                            refine E_blk (lv' := [some (vr (some (6, this))), some (vi v1), some (vi v2), some (vi v3), some (vi v4), some (vi v5), some (vi v6), some (vi r83)]) (st' := [vi (0 : Int32), vi (2 : Int32), vr (some (6, this))]) (M1 := M82) (pc' := 620) (tb_Machine hγ) [.aload_n 0, .iconst 2, .iconst 0] (by decide +kernel) rfl rfl trivial ?_
                                                                                                                            refine E_callV (κ' := k_Machine_fail) (As := [vi (2 : Int32), vi (0 : Int32)]) (st := []) mv_Machine_fail (Or.inl (tbk_mem (j := 8) (k := 190) rfl)) rfl (by decide +kernel) (Nat.le_of_ble_eq_true rfl) (Nat.le_of_ble_eq_true rfl) rfl (by decide) (lk_Machine_fail hγ this (2 : Int32) (0 : Int32) _ M82 h) (fun _ _ => Qv_r) (fun v M85 hp => Qv_k (R := fun st => E γ k_Machine_act 128 623 [some (vr (some (6, this))), some (vi v1), some (vi v2), some (vi v3), some (vi v4), some (vi v5), some (vi v6), some (vi r83)] st M85 (Qv Q)) hp (fun h => ?_))
                                                                                                                            refine E_goto (off := 9) (tgt := 632) (by decide +kernel) (by decide) ?_
                                                                                                                            exact E_vret rfl (by decide +kernel) h
                                                                                                                          · rw [if_neg b84] at h
                                                                                                                            refine E_blk (lv' := [some (vr (some (6, this))), some (vi v1), some (vi v2), some (vi v3), some (vi v4), some (vi v5), some (vi v6), some (vi r83)]) (st' := [vi r83, vr (some (6, this))]) (M1 := M82) (pc' := 629) (tb_Machine hγ) [.aload_n 0, .iload 7] (by decide +kernel) rfl rfl trivial ?_
                                                                                                                            refine E_callV (κ' := k_Machine_throwOne) (As := [vi r83]) (st := []) mv_Machine_throwOne (Or.inl (tbk_mem (j := 8) (k := 199) rfl)) rfl (by decide +kernel) (Nat.le_of_ble_eq_true rfl) (Nat.le_of_ble_eq_true rfl) rfl (by decide) (lk_Machine_throwOne hγ this r83 _ M82 h) (fun _ _ => Qv_r) (fun v M86 hp => Qv_k (R := fun st => E γ k_Machine_act 128 632 [some (vr (some (6, this))), some (vi v1), some (vi v2), some (vi v3), some (vi v4), some (vi v5), some (vi v6), some (vi r83)] st M86 (Qv Q)) hp (fun h => ?_))
                                                                                                                            exact E_vret rfl (by decide +kernel) h
                                                                                                                        · rw [if_neg b75] at h
                                                                                                                          by_cases b76 : v4 = (57 : Int32)
                                                                                                                          · rw [if_pos b76] at h
                                                                                                                            refine E.up (fun _ _ hJ => J_tswI (len := 249) (dflt := 507) (lo := 1) (hi := 59) (offs := #[249, 259, 268, 268, 301, 301, 357, 507, 507, 507, 507, 507, 387, 507, 507, 507, 507, 507, 402, 415, 449, 449, 507, 507, 507, 507, 507, 507, 507, 507, 507, 507, 507, 507, 507, 507, 507, 507, 507, 507, 507, 507, 507, 507, 507, 507, 507, 507, 507, 507, 507, 507, 507, 458, 458, 470, 498, 498, 498]) (off := 498) (tgt := 633) (by decide +kernel) (by rw [b76]; decide) (by rw [b76]; decide) (by rw [b76]; rfl) (by decide) hJ) ?_
                                                                                                                            refine E_blk (lv' := [some (vr (some (6, this))), some (vi v1), some (vi v2), some (vi v3), some (vi v4), some (vi v5), some (vi v6), none]) (st' := [vi v2, vi v4, vi v1, vr (some (6, this))]) (M1 := M16) (pc' := 638) (tb_Machine hγ) [.aload_n 0, .iload_n 1, .iload 4, .iload_n 2] (by decide +kernel) rfl rfl trivial ?_
                                                                                                                            refine E_callV (κ' := k_Machine_leave) (As := [vi v1, vi v4, vi v2]) (st := []) mv_Machine_leave (Or.inl (tbk_mem (j := 9) (k := 116) rfl)) rfl (by decide +kernel) (Nat.le_of_ble_eq_true rfl) (Nat.le_of_ble_eq_true rfl) rfl (by decide) (lk_Machine_leave hγ this v1 v4 v2 _ M16 h) (fun _ _ => Qv_r) (fun v M81 hp => Qv_k (R := fun st => E γ k_Machine_act 128 641 [some (vr (some (6, this))), some (vi v1), some (vi v2), some (vi v3), some (vi v4), some (vi v5), some (vi v6), none] st M81 (Qv Q)) hp (fun h => ?_))
                                                                                                                            exact E_vret rfl (by decide +kernel) h
                                                                                                                          · rw [if_neg b76] at h
                                                                                                                            by_cases b77 : v4 = (58 : Int32)
                                                                                                                            · rw [if_pos b77] at h
                                                                                                                              refine E.up (fun _ _ hJ => J_tswI (len := 249) (dflt := 507) (lo := 1) (hi := 59) (offs := #[249, 259, 268, 268, 301, 301, 357, 507, 507, 507, 507, 507, 387, 507, 507, 507, 507, 507, 402, 415, 449, 449, 507, 507, 507, 507, 507, 507, 507, 507, 507, 507, 507, 507, 507, 507, 507, 507, 507, 507, 507, 507, 507, 507, 507, 507, 507, 507, 507, 507, 507, 507, 507, 458, 458, 470, 498, 498, 498]) (off := 498) (tgt := 633) (by decide +kernel) (by rw [b77]; decide) (by rw [b77]; decide) (by rw [b77]; rfl) (by decide) hJ) ?_
                                                                                                                              refine E_blk (lv' := [some (vr (some (6, this))), some (vi v1), some (vi v2), some (vi v3), some (vi v4), some (vi v5), some (vi v6), none]) (st' := [vi v2, vi v4, vi v1, vr (some (6, this))]) (M1 := M16) (pc' := 638) (tb_Machine hγ) [.aload_n 0, .iload_n 1, .iload 4, .iload_n 2] (by decide +kernel) rfl rfl trivial ?_
                                                                                                                              refine E_callV (κ' := k_Machine_leave) (As := [vi v1, vi v4, vi v2]) (st := []) mv_Machine_leave (Or.inl (tbk_mem (j := 9) (k := 116) rfl)) rfl (by decide +kernel) (Nat.le_of_ble_eq_true rfl) (Nat.le_of_ble_eq_true rfl) rfl (by decide) (lk_Machine_leave hγ this v1 v4 v2 _ M16 h) (fun _ _ => Qv_r) (fun v M80 hp => Qv_k (R := fun st => E γ k_Machine_act 128 641 [some (vr (some (6, this))), some (vi v1), some (vi v2), some (vi v3), some (vi v4), some (vi v5), some (vi v6), none] st M80 (Qv Q)) hp (fun h => ?_))
                                                                                                                              exact E_vret rfl (by decide +kernel) h
                                                                                                                            · rw [if_neg b77] at h
                                                                                                                              by_cases b78 : v4 = (59 : Int32)
                                                                                                                              · rw [if_pos b78] at h
                                                                                                                                refine E.up (fun _ _ hJ => J_tswI (len := 249) (dflt := 507) (lo := 1) (hi := 59) (offs := #[249, 259, 268, 268, 301, 301, 357, 507, 507, 507, 507, 507, 387, 507, 507, 507, 507, 507, 402, 415, 449, 449, 507, 507, 507, 507, 507, 507, 507, 507, 507, 507, 507, 507, 507, 507, 507, 507, 507, 507, 507, 507, 507, 507, 507, 507, 507, 507, 507, 507, 507, 507, 507, 458, 458, 470, 498, 498, 498]) (off := 498) (tgt := 633) (by decide +kernel) (by rw [b78]; decide) (by rw [b78]; decide) (by rw [b78]; rfl) (by decide) hJ) ?_
                                                                                                                                refine E_blk (lv' := [some (vr (some (6, this))), some (vi v1), some (vi v2), some (vi v3), some (vi v4), some (vi v5), some (vi v6), none]) (st' := [vi v2, vi v4, vi v1, vr (some (6, this))]) (M1 := M16) (pc' := 638) (tb_Machine hγ) [.aload_n 0, .iload_n 1, .iload 4, .iload_n 2] (by decide +kernel) rfl rfl trivial ?_
                                                                                                                                refine E_callV (κ' := k_Machine_leave) (As := [vi v1, vi v4, vi v2]) (st := []) mv_Machine_leave (Or.inl (tbk_mem (j := 9) (k := 116) rfl)) rfl (by decide +kernel) (Nat.le_of_ble_eq_true rfl) (Nat.le_of_ble_eq_true rfl) rfl (by decide) (lk_Machine_leave hγ this v1 v4 v2 _ M16 h) (fun _ _ => Qv_r) (fun v M79 hp => Qv_k (R := fun st => E γ k_Machine_act 128 641 [some (vr (some (6, this))), some (vi v1), some (vi v2), some (vi v3), some (vi v4), some (vi v5), some (vi v6), none] st M79 (Qv Q)) hp (fun h => ?_))
                                                                                                                                exact E_vret rfl (by decide +kernel) h
                                                                                                                              · rw [if_neg b78] at h
                                                                                                                                refine E.up (fun _ _ hJ => J_tswO (len := 249) (dflt := 507) (lo := 1) (hi := 59) (offs := #[249, 259, 268, 268, 301, 301, 357, 507, 507, 507, 507, 507, 387, 507, 507, 507, 507, 507, 402, 415, 449, 449, 507, 507, 507, 507, 507, 507, 507, 507, 507, 507, 507, 507, 507, 507, 507, 507, 507, 507, 507, 507, 507, 507, 507, 507, 507, 507, 507, 507, 507, 507, 507, 458, 458, 470, 498, 498, 498]) (tgt := 642) (by decide +kernel) ?_ (by decide) hJ) ?_
                                                                                                                                · have q := sw0 (x := v4) 1
                                                                                                                                  replace q : (v4).toInt < 1 ∨ 2 ≤ (v4).toInt := sw1 q b20 rfl rfl
                                                                                                                                  replace q : (v4).toInt < 1 ∨ 3 ≤ (v4).toInt := sw1 q b21 rfl rfl
                                                                                                                                  replace q : (v4).toInt < 1 ∨ 4 ≤ (v4).toInt := sw1 q b22 rfl rfl
                                                                                                                                  replace q : (v4).toInt < 1 ∨ 5 ≤ (v4).toInt := sw1 q b23 rfl rfl
                                                                                                                                  replace q : (v4).toInt < 1 ∨ 6 ≤ (v4).toInt := sw1 q b24 rfl rfl
                                                                                                                                  replace q : (v4).toInt < 1 ∨ 7 ≤ (v4).toInt := sw1 q b25 rfl rfl
                                                                                                                                  replace q : (v4).toInt < 1 ∨ 8 ≤ (v4).toInt := sw1 q b26 rfl rfl
                                                                                                                                  replace q : (v4).toInt < 1 ∨ 9 ≤ (v4).toInt := sw1 q b27 rfl rfl
                                                                                                                                  replace q : (v4).toInt < 1 ∨ 10 ≤ (v4).toInt := sw1 q b28 rfl rfl
                                                                                                                                  replace q : (v4).toInt < 1 ∨ 11 ≤ (v4).toInt := sw1 q b29 rfl rfl
                                                                                                                                  replace q : (v4).toInt < 1 ∨ 12 ≤ (v4).toInt := sw1 q b30 rfl rfl
                                                                                                                                  replace q : (v4).toInt < 1 ∨ 13 ≤ (v4).toInt := sw1 q b31 rfl rfl
                                                                                                                                  replace q : (v4).toInt < 1 ∨ 14 ≤ (v4).toInt := sw1 q b32 rfl rfl
                                                                                                                                  replace q : (v4).toInt < 1 ∨ 15 ≤ (v4).toInt := sw1 q b33 rfl rfl
                                                                                                                                  replace q : (v4).toInt < 1 ∨ 16 ≤ (v4).toInt := sw1 q b34 rfl rfl
                                                                                                                                  replace q : (v4).toInt < 1 ∨ 17 ≤ (v4).toInt := sw1 q b35 rfl rfl
                                                                                                                                  replace q : (v4).toInt < 1 ∨ 18 ≤ (v4).toInt := sw1 q b36 rfl rfl
                                                                                                                                  replace q : (v4).toInt < 1 ∨ 19 ≤ (v4).toInt := sw1 q b37 rfl rfl
                                                                                                                                  replace q : (v4).toInt < 1 ∨ 20 ≤ (v4).toInt := sw1 q b38 rfl rfl
                                                                                                                                  replace q : (v4).toInt < 1 ∨ 21 ≤ (v4).toInt := sw1 q b39 rfl rfl
                                                                                                                                  replace q : (v4).toInt < 1 ∨ 22 ≤ (v4).toInt := sw1 q b40 rfl rfl
                                                                                                                                  replace q : (v4).toInt < 1 ∨ 23 ≤ (v4).toInt := sw1 q b41 rfl rfl
                                                                                                                                  replace q : (v4).toInt < 1 ∨ 24 ≤ (v4).toInt := sw1 q b42 rfl rfl
                                                                                                                                  replace q : (v4).toInt < 1 ∨ 25 ≤ (v4).toInt := sw1 q b43 rfl rfl
                                                                                                                                  replace q : (v4).toInt < 1 ∨ 26 ≤ (v4).toInt := sw1 q b44 rfl rfl
                                                                                                                                  replace q : (v4).toInt < 1 ∨ 27 ≤ (v4).toInt := sw1 q b45 rfl rfl
                                                                                                                                  replace q : (v4).toInt < 1 ∨ 28 ≤ (v4).toInt := sw1 q b46 rfl rfl
                                                                                                                                  replace q : (v4).toInt < 1 ∨ 29 ≤ (v4).toInt := sw1 q b47 rfl rfl
                                                                                                                                  replace q : (v4).toInt < 1 ∨ 30 ≤ (v4).toInt := sw1 q b48 rfl rfl
                                                                                                                                  replace q : (v4).toInt < 1 ∨ 31 ≤ (v4).toInt := sw1 q b49 rfl rfl
                                                                                                                                  replace q : (v4).toInt < 1 ∨ 32 ≤ (v4).toInt := sw1 q b50 rfl rfl
                                                                                                                                  replace q : (v4).toInt < 1 ∨ 33 ≤ (v4).toInt := sw1 q b51 rfl rfl
                                                                                                                                  replace q : (v4).toInt < 1 ∨ 34 ≤ (v4).toInt := sw1 q b52 rfl rfl
                                                                                                                                  replace q : (v4).toInt < 1 ∨ 35 ≤ (v4).toInt := sw1 q b53 rfl rfl
                                                                                                                                  replace q : (v4).toInt < 1 ∨ 36 ≤ (v4).toInt := sw1 q b54 rfl rfl
                                                                                                                                  replace q : (v4).toInt < 1 ∨ 37 ≤ (v4).toInt := sw1 q b55 rfl rfl
                                                                                                                                  replace q : (v4).toInt < 1 ∨ 38 ≤ (v4).toInt := sw1 q b56 rfl rfl
                                                                                                                                  replace q : (v4).toInt < 1 ∨ 39 ≤ (v4).toInt := sw1 q b57 rfl rfl
                                                                                                                                  replace q : (v4).toInt < 1 ∨ 40 ≤ (v4).toInt := sw1 q b58 rfl rfl
                                                                                                                                  replace q : (v4).toInt < 1 ∨ 41 ≤ (v4).toInt := sw1 q b59 rfl rfl
                                                                                                                                  replace q : (v4).toInt < 1 ∨ 42 ≤ (v4).toInt := sw1 q b60 rfl rfl
                                                                                                                                  replace q : (v4).toInt < 1 ∨ 43 ≤ (v4).toInt := sw1 q b61 rfl rfl
                                                                                                                                  replace q : (v4).toInt < 1 ∨ 44 ≤ (v4).toInt := sw1 q b62 rfl rfl
                                                                                                                                  replace q : (v4).toInt < 1 ∨ 45 ≤ (v4).toInt := sw1 q b63 rfl rfl
                                                                                                                                  replace q : (v4).toInt < 1 ∨ 46 ≤ (v4).toInt := sw1 q b64 rfl rfl
                                                                                                                                  replace q : (v4).toInt < 1 ∨ 47 ≤ (v4).toInt := sw1 q b65 rfl rfl
                                                                                                                                  replace q : (v4).toInt < 1 ∨ 48 ≤ (v4).toInt := sw1 q b66 rfl rfl
                                                                                                                                  replace q : (v4).toInt < 1 ∨ 49 ≤ (v4).toInt := sw1 q b67 rfl rfl
                                                                                                                                  replace q : (v4).toInt < 1 ∨ 50 ≤ (v4).toInt := sw1 q b68 rfl rfl
                                                                                                                                  replace q : (v4).toInt < 1 ∨ 51 ≤ (v4).toInt := sw1 q b69 rfl rfl
                                                                                                                                  replace q : (v4).toInt < 1 ∨ 52 ≤ (v4).toInt := sw1 q b70 rfl rfl
                                                                                                                                  replace q : (v4).toInt < 1 ∨ 53 ≤ (v4).toInt := sw1 q b71 rfl rfl
                                                                                                                                  replace q : (v4).toInt < 1 ∨ 54 ≤ (v4).toInt := sw1 q b72 rfl rfl
                                                                                                                                  replace q : (v4).toInt < 1 ∨ 55 ≤ (v4).toInt := sw1 q b73 rfl rfl
                                                                                                                                  replace q : (v4).toInt < 1 ∨ 56 ≤ (v4).toInt := sw1 q b74 rfl rfl
                                                                                                                                  replace q : (v4).toInt < 1 ∨ 57 ≤ (v4).toInt := sw1 q b75 rfl rfl
                                                                                                                                  replace q : (v4).toInt < 1 ∨ 58 ≤ (v4).toInt := sw1 q b76 rfl rfl
                                                                                                                                  replace q : (v4).toInt < 1 ∨ 59 ≤ (v4).toInt := sw1 q b77 rfl rfl
                                                                                                                                  replace q : (v4).toInt < 1 ∨ 60 ≤ (v4).toInt := sw1 q b78 rfl rfl
                                                                                                                                  omega
                                                                                                                                · refine E_mask [true, true, false, false, false, false, true, false] rfl ?_
                                                                                                                                  exact lk_Machine_act_j642 hγ this Q v1 v6 M16 h
        · rw [if_neg b18] at h
          refine E_blk (lv' := [some (vr (some (6, this))), some (vi v1), some (vi v2), some (vi v3), some (vi v4), some (vi v5), some (vi v6), none]) (st' := [vi v4, vi v5, vi v1, vr (some (6, this))]) (M1 := M16) (pc' := 129) (tb_Machine hγ) [.aload_n 0, .iload_n 1, .iload 5, .iload 4] (by decide +kernel) rfl rfl trivial ?_
          refine E_callV (κ' := k_Machine_calls) (As := [vi v1, vi v5, vi v4]) (st := []) mv_Machine_calls (Or.inl (tbk_mem (j := 9) (k := 99) rfl)) rfl (by decide +kernel) (Nat.le_of_ble_eq_true rfl) (Nat.le_of_ble_eq_true rfl) rfl (by decide) (lk_Machine_calls hγ this v1 v5 v4 _ M16 h) (fun _ _ => Qv_r) (fun v M124 hp => Qv_k (R := fun st => E γ k_Machine_act 128 132 [some (vr (some (6, this))), some (vi v1), some (vi v2), some (vi v3), some (vi v4), some (vi v5), some (vi v6), none] st M124 (Qv Q)) hp (fun h => ?_))
          exact E_vret rfl (by decide +kernel) h
      · rw [if_neg b15] at h
        refine E_mask [true, true, false, true, true, false, true, false] rfl ?_
        exact lk_Machine_act_j100 hγ this Q v1 v3 v4 v6 M13 h
    · rw [if_neg b12] at h
      refine E_mask [true, true, false, true, true, false, true, false] rfl ?_
      exact lk_Machine_act_j100 hγ this Q v1 v3 v4 v6 M10 h
  · rw [if_neg b9] at h
    refine E_blk (lv' := [some (vr (some (6, this))), some (vi v1), some (vi v2), some (vi v3), some (vi v4), some (vi v5), some (vi v6), none]) (st' := [vi v6, vi v4, vi v3, vi v1, vr (some (6, this))]) (M1 := M7) (pc' := 72) (tb_Machine hγ) [.aload_n 0, .iload_n 1, .iload_n 3, .iload 4, .iload 6] (by decide +kernel) rfl rfl trivial ?_
    refine E_callV (κ' := k_Machine_jump) (As := [vi v1, vi v3, vi v4, vi v6]) (st := []) mv_Machine_jump (Or.inl (tbk_mem (j := 9) (k := 74) rfl)) rfl (by decide +kernel) (Nat.le_of_ble_eq_true rfl) (Nat.le_of_ble_eq_true rfl) rfl (by decide) (lk_Machine_jump hγ this v1 v3 v4 v6 _ M7 h) (fun _ _ => Qv_r) (fun v M126 hp => Qv_k (R := fun st => E γ k_Machine_act 128 75 [some (vr (some (6, this))), some (vi v1), some (vi v2), some (vi v3), some (vi v4), some (vi v5), some (vi v6), none] st M126 (Qv Q)) hp (fun h => ?_))
    exact E_vret rfl (by decide +kernel) h
set_option maxRecDepth 4096 in
theorem lk_Machine_act {γ : Gm} (hγ : Gk γ) (this : Nat) (a1 : Int32) (a2 : Int32) (a3 : Int32) (a4 : Int32) (Q : Mem → Prop) (M : Mem) (h : w_Machine_act this a1 a2 a3 a4 Q M) : E γ k_Machine_act 128 0 [some (vr (some (6, this))), some (vi a1), some (vi a2), some (vi a3), some (vi a4), none, none, none] [] M (Qv Q) := by
  unfold w_Machine_act at h
  obtain ⟨c1, h⟩ := h
  refine E_blk (lv' := [some (vr (some (6, this))), some (vi a1), some (vi a2), some (vi a3), some (vi a4), some (vi (mI M 67 this a3.toNatClampNeg)), none, none]) (st' := [vr (mR M 6 this 2)]) (M1 := M) (pc' := 15) (tb_Machine hγ) [.aload_n 0, .getfield 84, .getfield 392, .iload_n 3, .iaload, .istore 5, .aload_n 0, .getfield 24] (by decide +kernel) rfl rfl ⟨c1, trivial⟩ ?_
  obtain ⟨i2, ei2, h⟩ := h
  rw [ei2]
  obtain ⟨c3, h⟩ := h
  refine E_blk (lv' := [some (vr (some (6, this))), some (vi a1), some (vi a2), some (vi a3), some (vi a4), some (vi (mI M 67 this a3.toNatClampNeg)), some (vi ((mI M 90 i2 a1.toNatClampNeg) + (1 : Int32))), none]) (st' := [vi (18 : Int32), vi (8 : Int32), vi a4]) (M1 := M) (pc' := 30) (tb_Machine hγ) [.getfield 230, .iload_n 1, .iaload, .iconst 1, .iadd, .istore 6, .iload 4, .bipush 8, .bipush 18] (by decide +kernel) rfl rfl ⟨c3, trivial⟩ ?_
  refine E_callS (κ' := k_Works_isIn) (As := [vi a4, vi (8 : Int32), vi (18 : Int32)]) (st := []) ms_Works_isIn (Or.inr ⟨"ClassWorks", (tbk_mem (j := 9) (k := 28) rfl)⟩) rfl (by decide +kernel) (Nat.le_of_ble_eq_true rfl) (Nat.le_of_ble_eq_true rfl) rfl (by decide) (lk_Works_isIn hγ a4 (8 : Int32) (18 : Int32) _ M h) (fun _ _ => Qi_r) (fun v M4 hp => Qi_k (R := fun st => E γ k_Machine_act 128 33 [some (vr (some (6, this))), some (vi a1), some (vi a2), some (vi a3), some (vi a4), some (vi (mI M 67 this a3.toNatClampNeg)), some (vi ((mI M 90 i2 a1.toNatClampNeg) + (1 : Int32))), none] st M4 (Qv Q)) hp (fun r5 h => ?_))
  refine E_if_eq (off := 20) (tgt := 53) (by decide +kernel) (by decide) (fun b6 => ?_) (fun b6 => ?_)
  · rw [if_pos b6] at h
    refine E_mask [true, true, true, true, true, true, true, false] rfl ?_
    exact lk_Machine_act_j53 hγ this Q a1 a2 a3 a4 (mI M 67 this a3.toNatClampNeg) ((mI M 90 i2 a1.toNatClampNeg) + (1 : Int32)) M4 h
  · rw [if_neg b6] at h
    refine E_blk (lv' := [some (vr (some (6, this))), some (vi a1), some (vi a2), some (vi a3), some (vi a4), some (vi (mI M 67 this a3.toNatClampNeg)), some (vi ((mI M 90 i2 a1.toNatClampNeg) + (1 : Int32))), none]) (st' := [vi (13 : Int32), vi a4]) (M1 := M4) (pc' := 40) (tb_Machine hγ) [.iload 4, .bipush 13] (by decide +kernel) rfl rfl trivial ?_
    refine E_icmp_eq (off := 13) (tgt := 53) (by decide +kernel) (by decide) (fun b127 => ?_) (fun b127 => ?_)
    · rw [if_pos b127] at h
      refine E_mask [true, true, true, true, true, true, true, false] rfl ?_
      exact lk_Machine_act_j53 hγ this Q a1 a2 a3 a4 (mI M 67 this a3.toNatClampNeg) ((mI M 90 i2 a1.toNatClampNeg) + (1 : Int32)) M4 h
    · rw [if_neg b127] at h
      refine E_blk (lv' := [some (vr (some (6, this))), some (vi a1), some (vi a2), some (vi a3), some (vi a4), some (vi (mI M 67 this a3.toNatClampNeg)), some (vi ((mI M 90 i2 a1.toNatClampNeg) + (1 : Int32))), none]) (st' := [vi ((mI M 90 i2 a1.toNatClampNeg) + (1 : Int32)), vi a4, vi a1, vr (some (6, this))]) (M1 := M4) (pc' := 49) (tb_Machine hγ) [.aload_n 0, .iload_n 1, .iload 4, .iload 6] (by decide +kernel) rfl rfl trivial ?_
      refine E_callV (κ' := k_Machine_reckon) (As := [vi a1, vi a4, vi ((mI M 90 i2 a1.toNatClampNeg) + (1 : Int32))]) (st := []) mv_Machine_reckon (Or.inl (tbk_mem (j := 9) (k := 58) rfl)) rfl (by decide +kernel) (Nat.le_of_ble_eq_true rfl) (Nat.le_of_ble_eq_true rfl) rfl (by decide) (lk_Machine_reckon hγ this a1 a4 ((mI M 90 i2 a1.toNatClampNeg) + (1 : Int32)) _ M4 h) (fun _ _ => Qv_r) (fun v M128 hp => Qv_k (R := fun st => E γ k_Machine_act 128 52 [some (vr (some (6, this))), some (vi a1), some (vi a2), some (vi a3), some (vi a4), some (vi (mI M 67 this a3.toNatClampNeg)), some (vi ((mI M 90 i2 a1.toNatClampNeg) + (1 : Int32))), none] st M128 (Qv Q)) hp (fun h => ?_))
      exact E_vret rfl (by decide +kernel) h
def w_Machine_instruction_j304 (this : Nat) (Q : Mem → Prop) (s0 : Int32) (M : Mem) : Prop :=
  w_Machine_fails this s0 (fun M25 => Q M25) M
def w_Machine_instruction_j284 (this : Nat) (Q : Mem → Prop)  (M : Mem) : Prop :=
  if 0 ≤ (mI M 6 this 36) then (w_Machine_instruction_j304 this Q (-(mI M 6 this 32)) M) else (w_Machine_instruction_j304 this Q (mI M 6 this 36) M)
def w_Machine_instruction_j252 (this : Nat) (Q : Mem → Prop) (v1 : Int32) (v2 : Int32) (v3 : Int32) (v4 : Int32) (v5 : Int32) (M : Mem) : Prop :=
  if v5 = (1 : Int32) then (Q M) else (if v5 = (3 : Int32) then (Q M) else (w_Machine_step this v4 (fun M22 => if (mI M22 6 this 36) < 0 then (w_Machine_instruction_j284 this Q  M22) else (if v5 = (2 : Int32) then (w_Machine_instruction_j284 this Q  M22) else (w_Machine_act this v1 v2 v3 v4 (fun M27 => Q M27) M22))) M))
def w_Machine_instruction_j206 (this : Nat) (Q : Mem → Prop) (v1 : Int32) (v2 : Int32) (v3 : Int32) (v4 : Int32) (v5 : Int32) (M : Mem) : Prop :=
  if v4 = (60 : Int32) then (w_Machine_number this (0 : Int32) (fun r18 M17 => if r18 = 0 then (w_Machine_instruction_j252 this Q v1 v2 v3 v4 v5 M17) else (∃ i28, (mR M17 6 this 2) = some (7, i28) ∧ w_Machine_number this (0 : Int32) (fun r30 M29 => w_Machine_isLockedFor this i28 r30 (fun r32 M31 => if r32 = 0 then (w_Machine_instruction_j252 this Q v1 v2 v3 v4 v5 M31) else (∃ i34, (mR M31 6 this 2) = some (7, i34) ∧ w_Machine_number this (0 : Int32) (fun r36 M35 => w_Machine_instruction_j252 this Q v1 v2 v3 v4 (3 : Int32) (sI M35 7 i34 18 r36)) M31)) M29) M17)) M) else (w_Machine_instruction_j252 this Q v1 v2 v3 v4 v5 M)
def w_Machine_instruction_j171 (this : Nat) (Q : Mem → Prop) (v1 : Int32) (v2 : Int32) (v3 : Int32) (v4 : Int32) (v5 : Int32) (M : Mem) : Prop :=
  if (mI M 6 this 36) < 0 then (w_Machine_instruction_j206 this Q v1 v2 v3 v4 v5 M) else (if v4 = (52 : Int32) then (vp_in (mI M 6 this 36) (mL M 55 this) ∧ w_Machine_mustStart this (mI M 55 this (mI M 6 this 36).toNatClampNeg) (fun r40 M39 => w_Machine_instruction_j252 this Q v1 v2 v3 v4 r40 M39) M) else (w_Machine_instruction_j206 this Q v1 v2 v3 v4 v5 M))
def w_Machine_instruction_j151 (this : Nat) (Q : Mem → Prop) (v1 : Int32) (v2 : Int32) (v3 : Int32) (v4 : Int32) (M : Mem) : Prop :=
  w_World_classOfField this (mI M 6 this 36) (fun r43 M42 => w_Machine_mustStart this r43 (fun r45 M44 => w_Machine_instruction_j252 this Q v1 v2 v3 v4 r45 M44) M42) M
def w_Machine_instruction_j130 (this : Nat) (Q : Mem → Prop) (v1 : Int32) (v2 : Int32) (v3 : Int32) (v4 : Int32) (v5 : Int32) (M : Mem) : Prop :=
  if (mI M 6 this 36) < 0 then (w_Machine_instruction_j171 this Q v1 v2 v3 v4 v5 M) else (if v4 = (48 : Int32) then (w_Machine_instruction_j151 this Q v1 v2 v3 v4 M) else (if v4 = (49 : Int32) then (w_Machine_instruction_j151 this Q v1 v2 v3 v4 M) else (w_Machine_instruction_j171 this Q v1 v2 v3 v4 v5 M)))
def w_Machine_instruction_j97 (this : Nat) (Q : Mem → Prop) (v1 : Int32) (v2 : Int32) (v3 : Int32) (v4 : Int32) (s0 : Int32) (M : Mem) : Prop :=
  if (mI (sI M 6 this 36 s0) 6 this 36) < 0 then (w_Machine_instruction_j130 this Q v1 v2 v3 v4 (0 : Int32) (sI M 6 this 36 s0)) else (if v4 = (41 : Int32) then (w_Machine_mustStart this (mI (sI M 6 this 36 s0) 6 this 36) (fun r49 M48 => w_Machine_instruction_j252 this Q v1 v2 v3 v4 r49 M48) (sI M 6 this 36 s0)) else (w_Machine_instruction_j130 this Q v1 v2 v3 v4 (0 : Int32) (sI M 6 this 36 s0)))
def w_Machine_instruction_j87 (this : Nat) (Q : Mem → Prop) (v1 : Int32) (v2 : Int32) (v3 : Int32) (v4 : Int32) (M : Mem) : Prop :=
  w_Machine_instruction_j97 this Q v1 v2 v3 v4 (0 : Int32) M
def w_Machine_instruction (this : Nat) (Q : Mem → Prop) (M : Mem) : Prop :=
  ∃ i1, (mR M 6 this 2) = some (7, i1) ∧ ∃ i2, (mR M 6 this 2) = some (7, i2) ∧ vp_in ((mI M 7 i1 1) - (1 : Int32)) (mL M 89 i2) ∧ vp_in (mI M 89 i2 ((mI M 7 i1 1) - (1 : Int32)).toNatClampNeg) (mL M 62 this) ∧ ∃ i5, (mR M 6 this 2) = some (7, i5) ∧ vp_in ((mI M 7 i1 1) - (1 : Int32)) (mL M 90 i5) ∧ ∃ x7 : Int32, x7 = ((mI M 62 this (mI M 89 i2 ((mI M 7 i1 1) - (1 : Int32)).toNatClampNeg).toNatClampNeg) + (mI M 90 i5 ((mI M 7 i1 1) - (1 : Int32)).toNatClampNeg)) ∧ vp_in x7 (mL M 66 this) ∧ ∃ i9, (mR (sI M 6 this 33 ((40 : Int32) * ((mI M 7 i1 1) - (1 : Int32)))) 6 this 2) = some (7, i9) ∧ vp_in ((mI M 7 i1 1) - (1 : Int32)) (mL (sI M 6 this 33 ((40 : Int32) * ((mI M 7 i1 1) - (1 : Int32)))) 91 i9) ∧ ∃ M11, M11 = (sI (sI M 6 this 33 ((40 : Int32) * ((mI M 7 i1 1) - (1 : Int32)))) 6 this 34 (mI (sI M 6 this 33 ((40 : Int32) * ((mI M 7 i1 1) - (1 : Int32)))) 91 i9 ((mI M 7 i1 1) - (1 : Int32)).toNatClampNeg)) ∧ if (mI M 66 this x7.toNatClampNeg) = (54 : Int32) then (w_Machine_instruction_j87 this Q ((mI M 7 i1 1) - (1 : Int32)) (mI M 89 i2 ((mI M 7 i1 1) - (1 : Int32)).toNatClampNeg) x7 (mI M 66 this x7.toNatClampNeg) M11) else (if (mI M 66 this x7.toNatClampNeg) = (55 : Int32) then (w_Machine_instruction_j87 this Q ((mI M 7 i1 1) - (1 : Int32)) (mI M 89 i2 ((mI M 7 i1 1) - (1 : Int32)).toNatClampNeg) x7 (mI M 66 this x7.toNatClampNeg) M11) else (w_Machine_finds this (mI M 89 i2 ((mI M 7 i1 1) - (1 : Int32)).toNatClampNeg) x7 (fun r52 M51 => w_Machine_instruction_j97 this Q ((mI M 7 i1 1) - (1 : Int32)) (mI M 89 i2 ((mI M 7 i1 1) - (1 : Int32)).toNatClampNeg) x7 (mI M 66 this x7.toNatClampNeg) r52 M51) M11))
set_option maxRecDepth 4096 in
theorem lk_Machine_instruction_j304 {γ : Gm} (hγ : Gk γ) (this : Nat) (Q : Mem → Prop) (s0 : Int32) (M : Mem) (h : w_Machine_instruction_j304 this Q s0 M) : E γ k_Machine_instruction 136 304 [none, none, none, none, none, none] [vi s0, vr (some (6, this))] M (Qv Q) := by
  unfold w_Machine_instruction_j304 at h
  refine E_callV (κ' := k_Machine_fails) (As := [vi s0]) (st := []) mv_Machine_fails (Or.inl (tbk_mem (j := 8) (k := 186) rfl)) rfl (by decide +kernel) (Nat.le_of_ble_eq_true rfl) (Nat.le_of_ble_eq_true rfl) rfl (by decide) (lk_Machine_fails hγ this s0 _ M h) (fun _ _ => Qv_r) (fun v M25 hp => Qv_k (R := fun st => E γ k_Machine_instruction 136 307 [none, none, none, none, none, none] st M25 (Qv Q)) hp (fun h => ?_))
  refine E_goto (off := 12) (tgt := 319) (by decide +kernel) (by decide) ?_
  exact E_vret rfl (by decide +kernel) h
set_option maxRecDepth 4096 in
theorem lk_Machine_instruction_j284 {γ : Gm} (hγ : Gk γ) (this : Nat) (Q : Mem → Prop)  (M : Mem) (h : w_Machine_instruction_j284 this Q  M) : E γ k_Machine_instruction 136 284 [some (vr (some (6, this))), none, none, none, none, none] [] M (Qv Q) := by
  unfold w_Machine_instruction_j284 at h
  refine E_blk (lv' := [some (vr (some (6, this))), none, none, none, none, none]) (st' := [vi (mI M 6 this 36), vr (some (6, this))]) (M1 := M) (pc' := 289) (tb_Machine hγ) [.aload_n 0, .aload_n 0, .getfield 418] (by decide +kernel) rfl rfl trivial ?_
  refine E_if_ge (off := 10) (tgt := 299) (by decide +kernel) (by decide) (fun b24 => ?_) (fun b24 => ?_)
  · rw [if_pos b24] at h
    refine E_blk (lv' := [some (vr (some (6, this))), none, none, none, none, none]) (st' := [vi (-(mI M 6 this 32)), vr (some (6, this))]) (M1 := M) (pc' := 304) (tb_Machine hγ) [.aload_n 0, .getfield 243, .ineg] (by decide +kernel) rfl rfl trivial ?_
    refine E_mask [false, false, false, false, false, false] rfl ?_
    exact lk_Machine_instruction_j304 hγ this Q (-(mI M 6 this 32)) M h
  · rw [if_neg b24] at h
    refine E_blk (lv' := [some (vr (some (6, this))), none, none, none, none, none]) (st' := [vi (mI M 6 this 36), vr (some (6, this))]) (M1 := M) (pc' := 296) (tb_Machine hγ) [.aload_n 0, .getfield 418] (by decide +kernel) rfl rfl trivial ?_
    refine E_goto (off := 8) (tgt := 304) (by decide +kernel) (by decide) ?_
    refine E_mask [false, false, false, false, false, false] rfl ?_
    exact lk_Machine_instruction_j304 hγ this Q (mI M 6 this 36) M h
set_option maxRecDepth 4096 in
theorem lk_Machine_instruction_j252 {γ : Gm} (hγ : Gk γ) (this : Nat) (Q : Mem → Prop) (v1 : Int32) (v2 : Int32) (v3 : Int32) (v4 : Int32) (v5 : Int32) (M : Mem) (h : w_Machine_instruction_j252 this Q v1 v2 v3 v4 v5 M) : E γ k_Machine_instruction 136 252 [some (vr (some (6, this))), some (vi v1), some (vi v2), some (vi v3), some (vi v4), some (vi v5)] [] M (Qv Q) := by
  unfold w_Machine_instruction_j252 at h
  refine E_blk (lv' := [some (vr (some (6, this))), some (vi v1), some (vi v2), some (vi v3), some (vi v4), some (vi v5)]) (st' := [vi (1 : Int32), vi v5]) (M1 := M) (pc' := 255) (tb_Machine hγ) [.iload 5, .iconst 1] (by decide +kernel) rfl rfl trivial ?_
  refine E_icmp_eq (off := 9) (tgt := 264) (by decide +kernel) (by decide) (fun b20 => ?_) (fun b20 => ?_)
  · rw [if_pos b20] at h
    exact E_vret rfl (by decide +kernel) h
  · rw [if_neg b20] at h
    refine E_blk (lv' := [some (vr (some (6, this))), some (vi v1), some (vi v2), some (vi v3), some (vi v4), some (vi v5)]) (st' := [vi (3 : Int32), vi v5]) (M1 := M) (pc' := 261) (tb_Machine hγ) [.iload 5, .iconst 3] (by decide +kernel) rfl rfl trivial ?_
    refine E_icmp_ne (off := 4) (tgt := 265) (by decide +kernel) (by decide) (fun b21 => ?_) (fun b21 => ?_)
    · rw [if_pos b21] at h
      exact E_vret rfl (by decide +kernel) h
    · rw [if_neg b21] at h
      refine E_blk (lv' := [some (vr (some (6, this))), some (vi v1), some (vi v2), some (vi v3), some (vi v4), some (vi v5)]) (st' := [vi v4, vr (some (6, this))]) (M1 := M) (pc' := 268) (tb_Machine hγ) [.aload_n 0, .iload 4] (by decide +kernel) rfl rfl trivial ?_
      refine E_callV (κ' := k_Machine_step) (As := [vi v4]) (st := []) mv_Machine_step (Or.inl (tbk_mem (j := 9) (k := 50) rfl)) rfl (by decide +kernel) (Nat.le_of_ble_eq_true rfl) (Nat.le_of_ble_eq_true rfl) rfl (by decide) (lk_Machine_step hγ this v4 _ M h) (fun _ _ => Qv_r) (fun v M22 hp => Qv_k (R := fun st => E γ k_Machine_instruction 136 271 [some (vr (some (6, this))), some (vi v1), some (vi v2), some (vi v3), some (vi v4), some (vi v5)] st M22 (Qv Q)) hp (fun h => ?_))
      refine E_blk (lv' := [some (vr (some (6, this))), some (vi v1), some (vi v2), some (vi v3), some (vi v4), some (vi v5)]) (st' := [vi (mI M22 6 this 36)]) (M1 := M22) (pc' := 275) (tb_Machine hγ) [.aload_n 0, .getfield 418] (by decide +kernel) rfl rfl trivial ?_
      refine E_if_lt (off := 9) (tgt := 284) (by decide +kernel) (by decide) (fun b23 => ?_) (fun b23 => ?_)
      · rw [if_pos b23] at h
        refine E_mask [true, false, false, false, false, false] rfl ?_
        exact lk_Machine_instruction_j284 hγ this Q  M22 h
      · rw [if_neg b23] at h
        refine E_blk (lv' := [some (vr (some (6, this))), some (vi v1), some (vi v2), some (vi v3), some (vi v4), some (vi v5)]) (st' := [vi (2 : Int32), vi v5]) (M1 := M22) (pc' := 281) (tb_Machine hγ) [.iload 5, .iconst 2] (by decide +kernel) rfl rfl trivial ?_
        refine E_icmp_ne (off := 29) (tgt := 310) (by decide +kernel) (by decide) (fun b26 => ?_) (fun b26 => ?_)
        · rw [if_pos b26] at h
          refine E_mask [true, false, false, false, false, false] rfl ?_
          exact lk_Machine_instruction_j284 hγ this Q  M22 h
        · rw [if_neg b26] at h
          refine E_blk (lv' := [some (vr (some (6, this))), some (vi v1), some (vi v2), some (vi v3), some (vi v4), some (vi v5)]) (st' := [vi v4, vi v3, vi v2, vi v1, vr (some (6, this))]) (M1 := M22) (pc' := 316) (tb_Machine hγ) [.aload_n 0, .iload_n 1, .iload_n 2, .iload_n 3, .iload 4] (by decide +kernel) rfl rfl trivial ?_
          refine E_callV (κ' := k_Machine_act) (As := [vi v1, vi v2, vi v3, vi v4]) (st := []) mv_Machine_act (Or.inl (tbk_mem (j := 9) (k := 54) rfl)) rfl (by decide +kernel) (Nat.le_of_ble_eq_true rfl) (Nat.le_of_ble_eq_true rfl) rfl (by decide) (lk_Machine_act hγ this v1 v2 v3 v4 _ M22 h) (fun _ _ => Qv_r) (fun v M27 hp => Qv_k (R := fun st => E γ k_Machine_instruction 136 319 [some (vr (some (6, this))), some (vi v1), some (vi v2), some (vi v3), some (vi v4), some (vi v5)] st M27 (Qv Q)) hp (fun h => ?_))
          exact E_vret rfl (by decide +kernel) h
set_option maxRecDepth 4096 in
theorem lk_Machine_instruction_j206 {γ : Gm} (hγ : Gk γ) (this : Nat) (Q : Mem → Prop) (v1 : Int32) (v2 : Int32) (v3 : Int32) (v4 : Int32) (v5 : Int32) (M : Mem) (h : w_Machine_instruction_j206 this Q v1 v2 v3 v4 v5 M) : E γ k_Machine_instruction 136 206 [some (vr (some (6, this))), some (vi v1), some (vi v2), some (vi v3), some (vi v4), some (vi v5)] [] M (Qv Q) := by
  unfold w_Machine_instruction_j206 at h
  refine E_blk (lv' := [some (vr (some (6, this))), some (vi v1), some (vi v2), some (vi v3), some (vi v4), some (vi v5)]) (st' := [vi (60 : Int32), vi v4]) (M1 := M) (pc' := 210) (tb_Machine hγ) [.iload 4, .bipush 60] (by decide +kernel) rfl rfl trivial ?_
  refine E_icmp_ne (off := 42) (tgt := 252) (by decide +kernel) (by decide) (fun b16 => ?_) (fun b16 => ?_)
  · rw [if_pos b16] at h
    refine E_blk (lv' := [some (vr (some (6, this))), some (vi v1), some (vi v2), some (vi v3), some (vi v4), some (vi v5)]) (st' := [vi (0 : Int32), vr (some (6, this))]) (M1 := M) (pc' := 215) (tb_Machine hγ) [.aload_n 0, .iconst 0] (by decide +kernel) rfl rfl trivial ?_
    refine E_callV (κ' := k_Machine_number) (As := [vi (0 : Int32)]) (st := []) mv_Machine_number (Or.inl (tbk_mem (j := 9) (k := 46) rfl)) rfl (by decide +kernel) (Nat.le_of_ble_eq_true rfl) (Nat.le_of_ble_eq_true rfl) rfl (by decide) (lk_Machine_number hγ this (0 : Int32) _ M h) (fun _ _ => Qi_r) (fun v M17 hp => Qi_k (R := fun st => E γ k_Machine_instruction 136 218 [some (vr (some (6, this))), some (vi v1), some (vi v2), some (vi v3), some (vi v4), some (vi v5)] st M17 (Qv Q)) hp (fun r18 h => ?_))
    refine E_if_eq (off := 34) (tgt := 252) (by decide +kernel) (by decide) (fun b19 => ?_) (fun b19 => ?_)
    · rw [if_pos b19] at h
      refine E_mask [true, true, true, true, true, true] rfl ?_
      exact lk_Machine_instruction_j252 hγ this Q v1 v2 v3 v4 v5 M17 h
    · rw [if_neg b19] at h
      refine E_blk (lv' := [some (vr (some (6, this))), some (vi v1), some (vi v2), some (vi v3), some (vi v4), some (vi v5)]) (st' := [vr (mR M17 6 this 2), vr (some (6, this))]) (M1 := M17) (pc' := 226) (tb_Machine hγ) [.aload_n 0, .aload_n 0, .getfield 24] (by decide +kernel) rfl rfl trivial ?_
      obtain ⟨i28, ei28, h⟩ := h
      rw [ei28]
      refine E_blk (lv' := [some (vr (some (6, this))), some (vi v1), some (vi v2), some (vi v3), some (vi v4), some (vi v5)]) (st' := [vi (0 : Int32), vr (some (6, this)), vr (some (7, i28)), vr (some (6, this))]) (M1 := M17) (pc' := 228) (tb_Machine hγ) [.aload_n 0, .iconst 0] (by decide +kernel) rfl rfl trivial ?_
      refine E_callV (κ' := k_Machine_number) (As := [vi (0 : Int32)]) (st := [vr (some (7, i28)), vr (some (6, this))]) mv_Machine_number (Or.inl (tbk_mem (j := 9) (k := 46) rfl)) rfl (by decide +kernel) (Nat.le_of_ble_eq_true rfl) (Nat.le_of_ble_eq_true rfl) rfl (by decide) (lk_Machine_number hγ this (0 : Int32) _ M17 h) (fun _ _ => Qi_r) (fun v M29 hp => Qi_k (R := fun st => E γ k_Machine_instruction 136 231 [some (vr (some (6, this))), some (vi v1), some (vi v2), some (vi v3), some (vi v4), some (vi v5)] st M29 (Qv Q)) hp (fun r30 h => ?_))
      refine E_callV (κ' := k_Machine_isLockedFor) (As := [vr (some (7, i28)), vi r30]) (st := []) mv_Machine_isLockedFor (Or.inl (tbk_mem (j := 8) (k := 127) rfl)) rfl (by decide +kernel) (Nat.le_of_ble_eq_true rfl) (Nat.le_of_ble_eq_true rfl) rfl (by decide) (lk_Machine_isLockedFor hγ this i28 r30 _ M29 h) (fun _ _ => Qi_r) (fun v M31 hp => Qi_k (R := fun st => E γ k_Machine_instruction 136 234 [some (vr (some (6, this))), some (vi v1), some (vi v2), some (vi v3), some (vi v4), some (vi v5)] st M31 (Qv Q)) hp (fun r32 h => ?_))
      refine E_if_eq (off := 18) (tgt := 252) (by decide +kernel) (by decide) (fun b33 => ?_) (fun b33 => ?_)
      · rw [if_pos b33] at h
        refine E_mask [true, true, true, true, true, true] rfl ?_
        exact lk_Machine_instruction_j252 hγ this Q v1 v2 v3 v4 v5 M31 h
      · rw [if_neg b33] at h
        refine E_blk (lv' := [some (vr (some (6, this))), some (vi v1), some (vi v2), some (vi v3), some (vi v4), some (vi v5)]) (st' := [vr (mR M31 6 this 2)]) (M1 := M31) (pc' := 241) (tb_Machine hγ) [.aload_n 0, .getfield 24] (by decide +kernel) rfl rfl trivial ?_
        obtain ⟨i34, ei34, h⟩ := h
        rw [ei34]
        refine E_blk (lv' := [some (vr (some (6, this))), some (vi v1), some (vi v2), some (vi v3), some (vi v4), some (vi v5)]) (st' := [vi (0 : Int32), vr (some (6, this)), vr (some (7, i34))]) (M1 := M31) (pc' := 243) (tb_Machine hγ) [.aload_n 0, .iconst 0] (by decide +kernel) rfl rfl trivial ?_
        refine E_callV (κ' := k_Machine_number) (As := [vi (0 : Int32)]) (st := [vr (some (7, i34))]) mv_Machine_number (Or.inl (tbk_mem (j := 9) (k := 46) rfl)) rfl (by decide +kernel) (Nat.le_of_ble_eq_true rfl) (Nat.le_of_ble_eq_true rfl) rfl (by decide) (lk_Machine_number hγ this (0 : Int32) _ M31 h) (fun _ _ => Qi_r) (fun v M35 hp => Qi_k (R := fun st => E γ k_Machine_instruction 136 246 [some (vr (some (6, this))), some (vi v1), some (vi v2), some (vi v3), some (vi v4), some (vi v5)] st M35 (Qv Q)) hp (fun r36 h => ?_))
        refine E_blk (lv' := [some (vr (some (6, this))), some (vi v1), some (vi v2), some (vi v3), some (vi v4), some (vi (3 : Int32))]) (st' := []) (M1 := (sI M35 7 i34 18 r36)) (pc' := 252) (tb_Machine hγ) [.putfield 160, .iconst 3, .istore 5] (by decide +kernel) rfl rfl trivial ?_
        refine E_mask [true, true, true, true, true, true] rfl ?_
        exact lk_Machine_instruction_j252 hγ this Q v1 v2 v3 v4 (3 : Int32) (sI M35 7 i34 18 r36) h
  · rw [if_neg b16] at h
    refine E_mask [true, true, true, true, true, true] rfl ?_
    exact lk_Machine_instruction_j252 hγ this Q v1 v2 v3 v4 v5 M h
set_option maxRecDepth 4096 in
theorem lk_Machine_instruction_j171 {γ : Gm} (hγ : Gk γ) (this : Nat) (Q : Mem → Prop) (v1 : Int32) (v2 : Int32) (v3 : Int32) (v4 : Int32) (v5 : Int32) (M : Mem) (h : w_Machine_instruction_j171 this Q v1 v2 v3 v4 v5 M) : E γ k_Machine_instruction 136 171 [some (vr (some (6, this))), some (vi v1), some (vi v2), some (vi v3), some (vi v4), some (vi v5)] [] M (Qv Q) := by
  unfold w_Machine_instruction_j171 at h
  refine E_blk (lv' := [some (vr (some (6, this))), some (vi v1), some (vi v2), some (vi v3), some (vi v4), some (vi v5)]) (st' := [vi (mI M 6 this 36)]) (M1 := M) (pc' := 175) (tb_Machine hγ) [.aload_n 0, .getfield 418] (by decide +kernel) rfl rfl trivial ?_
  refine E_if_lt (off := 31) (tgt := 206) (by decide +kernel) (by decide) (fun b15 => ?_) (fun b15 => ?_)
  · rw [if_pos b15] at h
    refine E_mask [true, true, true, true, true, true] rfl ?_
    exact lk_Machine_instruction_j206 hγ this Q v1 v2 v3 v4 v5 M h
  · rw [if_neg b15] at h
    refine E_blk (lv' := [some (vr (some (6, this))), some (vi v1), some (vi v2), some (vi v3), some (vi v4), some (vi v5)]) (st' := [vi (52 : Int32), vi v4]) (M1 := M) (pc' := 182) (tb_Machine hγ) [.iload 4, .bipush 52] (by decide +kernel) rfl rfl trivial ?_
    refine E_icmp_ne (off := 24) (tgt := 206) (by decide +kernel) (by decide) (fun b37 => ?_) (fun b37 => ?_)
    · rw [if_pos b37] at h
      obtain ⟨c38, h⟩ := h
      refine E_blk (lv' := [some (vr (some (6, this))), some (vi v1), some (vi v2), some (vi v3), some (vi v4), some (vi v5)]) (st' := [vi (mI M 55 this (mI M 6 this 36).toNatClampNeg), vr (some (6, this))]) (M1 := M) (pc' := 198) (tb_Machine hγ) [.aload_n 0, .aload_n 0, .getfield 84, .getfield 142, .aload_n 0, .getfield 418, .iaload] (by decide +kernel) rfl rfl ⟨c38, trivial⟩ ?_
      refine E_callV (κ' := k_Machine_mustStart) (As := [vi (mI M 55 this (mI M 6 this 36).toNatClampNeg)]) (st := []) mv_Machine_mustStart (Or.inl (tbk_mem (j := 8) (k := 235) rfl)) rfl (by decide +kernel) (Nat.le_of_ble_eq_true rfl) (Nat.le_of_ble_eq_true rfl) rfl (by decide) (lk_Machine_mustStart hγ this (mI M 55 this (mI M 6 this 36).toNatClampNeg) _ M h) (fun _ _ => Qi_r) (fun v M39 hp => Qi_k (R := fun st => E γ k_Machine_instruction 136 201 [some (vr (some (6, this))), some (vi v1), some (vi v2), some (vi v3), some (vi v4), some (vi v5)] st M39 (Qv Q)) hp (fun r40 h => ?_))
      refine E_blk (lv' := [some (vr (some (6, this))), some (vi v1), some (vi v2), some (vi v3), some (vi v4), some (vi r40)]) (st' := []) (M1 := M39) (pc' := 203) (tb_Machine hγ) [.istore 5] (by decide +kernel) rfl rfl trivial ?_
      refine E_goto (off := 49) (tgt := 252) (by decide +kernel) (by decide) ?_
      refine E_mask [true, true, true, true, true, true] rfl ?_
      exact lk_Machine_instruction_j252 hγ this Q v1 v2 v3 v4 r40 M39 h
    · rw [if_neg b37] at h
      refine E_mask [true, true, true, true, true, true] rfl ?_
      exact lk_Machine_instruction_j206 hγ this Q v1 v2 v3 v4 v5 M h
set_option maxRecDepth 4096 in
theorem lk_Machine_instruction_j151 {γ : Gm} (hγ : Gk γ) (this : Nat) (Q : Mem → Prop) (v1 : Int32) (v2 : Int32) (v3 : Int32) (v4 : Int32) (M : Mem) (h : w_Machine_instruction_j151 this Q v1 v2 v3 v4 M) : E γ k_Machine_instruction 136 151 [some (vr (some (6, this))), some (vi v1), some (vi v2), some (vi v3), some (vi v4), none] [] M (Qv Q) := by
  unfold w_Machine_instruction_j151 at h
  refine E_blk (lv' := [some (vr (some (6, this))), some (vi v1), some (vi v2), some (vi v3), some (vi v4), none]) (st' := [vi (mI M 6 this 36), vr (some (5, this)), vr (some (6, this))]) (M1 := M) (pc' := 160) (tb_Machine hγ) [.aload_n 0, .aload_n 0, .getfield 84, .aload_n 0, .getfield 418] (by decide +kernel) rfl rfl trivial ?_
  refine E_callV (κ' := k_World_classOfField) (As := [vi (mI M 6 this 36)]) (st := [vr (some (6, this))]) mv_World_classOfField (Or.inl (tbk_mem (j := 9) (k := 42) rfl)) rfl (by decide +kernel) (Nat.le_of_ble_eq_true rfl) (Nat.le_of_ble_eq_true rfl) rfl (by decide) (lk_World_classOfField hγ this (mI M 6 this 36) _ M h) (fun _ _ => Qi_r) (fun v M42 hp => Qi_k (R := fun st => E γ k_Machine_instruction 136 163 [some (vr (some (6, this))), some (vi v1), some (vi v2), some (vi v3), some (vi v4), none] st M42 (Qv Q)) hp (fun r43 h => ?_))
  refine E_callV (κ' := k_Machine_mustStart) (As := [vi r43]) (st := []) mv_Machine_mustStart (Or.inl (tbk_mem (j := 8) (k := 235) rfl)) rfl (by decide +kernel) (Nat.le_of_ble_eq_true rfl) (Nat.le_of_ble_eq_true rfl) rfl (by decide) (lk_Machine_mustStart hγ this r43 _ M42 h) (fun _ _ => Qi_r) (fun v M44 hp => Qi_k (R := fun st => E γ k_Machine_instruction 136 166 [some (vr (some (6, this))), some (vi v1), some (vi v2), some (vi v3), some (vi v4), none] st M44 (Qv Q)) hp (fun r45 h => ?_))
  refine E_blk (lv' := [some (vr (some (6, this))), some (vi v1), some (vi v2), some (vi v3), some (vi v4), some (vi r45)]) (st' := []) (M1 := M44) (pc' := 168) (tb_Machine hγ) [.istore 5] (by decide +kernel) rfl rfl trivial ?_
  refine E_goto (off := 84) (tgt := 252) (by decide +kernel) (by decide) ?_
  refine E_mask [true, true, true, true, true, true] rfl ?_
  exact lk_Machine_instruction_j252 hγ this Q v1 v2 v3 v4 r45 M44 h
set_option maxRecDepth 4096 in
theorem lk_Machine_instruction_j130 {γ : Gm} (hγ : Gk γ) (this : Nat) (Q : Mem → Prop) (v1 : Int32) (v2 : Int32) (v3 : Int32) (v4 : Int32) (v5 : Int32) (M : Mem) (h : w_Machine_instruction_j130 this Q v1 v2 v3 v4 v5 M) : E γ k_Machine_instruction 136 130 [some (vr (some (6, this))), some (vi v1), some (vi v2), some (vi v3), some (vi v4), some (vi v5)] [] M (Qv Q) := by
  unfold w_Machine_instruction_j130 at h
  refine E_blk (lv' := [some (vr (some (6, this))), some (vi v1), some (vi v2), some (vi v3), some (vi v4), some (vi v5)]) (st' := [vi (mI M 6 this 36)]) (M1 := M) (pc' := 134) (tb_Machine hγ) [.aload_n 0, .getfield 418] (by decide +kernel) rfl rfl trivial ?_
  refine E_if_lt (off := 37) (tgt := 171) (by decide +kernel) (by decide) (fun b14 => ?_) (fun b14 => ?_)
  · rw [if_pos b14] at h
    refine E_mask [true, true, true, true, true, true] rfl ?_
    exact lk_Machine_instruction_j171 hγ this Q v1 v2 v3 v4 v5 M h
  · rw [if_neg b14] at h
    refine E_blk (lv' := [some (vr (some (6, this))), some (vi v1), some (vi v2), some (vi v3), some (vi v4), some (vi v5)]) (st' := [vi (48 : Int32), vi v4]) (M1 := M) (pc' := 141) (tb_Machine hγ) [.iload 4, .bipush 48] (by decide +kernel) rfl rfl trivial ?_
    refine E_icmp_eq (off := 10) (tgt := 151) (by decide +kernel) (by decide) (fun b41 => ?_) (fun b41 => ?_)
    · rw [if_pos b41] at h
      refine E_mask [true, true, true, true, true, false] rfl ?_
      exact lk_Machine_instruction_j151 hγ this Q v1 v2 v3 v4 M h
    · rw [if_neg b41] at h
      refine E_blk (lv' := [some (vr (some (6, this))), some (vi v1), some (vi v2), some (vi v3), some (vi v4), some (vi v5)]) (st' := [vi (49 : Int32), vi v4]) (M1 := M) (pc' := 148) (tb_Machine hγ) [.iload 4, .bipush 49] (by decide +kernel) rfl rfl trivial ?_
      refine E_icmp_ne (off := 23) (tgt := 171) (by decide +kernel) (by decide) (fun b46 => ?_) (fun b46 => ?_)
      · rw [if_pos b46] at h
        refine E_mask [true, true, true, true, true, false] rfl ?_
        exact lk_Machine_instruction_j151 hγ this Q v1 v2 v3 v4 M h
      · rw [if_neg b46] at h
        refine E_mask [true, true, true, true, true, true] rfl ?_
        exact lk_Machine_instruction_j171 hγ this Q v1 v2 v3 v4 v5 M h
set_option maxRecDepth 4096 in
theorem lk_Machine_instruction_j97 {γ : Gm} (hγ : Gk γ) (this : Nat) (Q : Mem → Prop) (v1 : Int32) (v2 : Int32) (v3 : Int32) (v4 : Int32) (s0 : Int32) (M : Mem) (h : w_Machine_instruction_j97 this Q v1 v2 v3 v4 s0 M) : E γ k_Machine_instruction 136 97 [some (vr (some (6, this))), some (vi v1), some (vi v2), some (vi v3), some (vi v4), none] [vi s0, vr (some (6, this))] M (Qv Q) := by
  unfold w_Machine_instruction_j97 at h
  refine E_blk (lv' := [some (vr (some (6, this))), some (vi v1), some (vi v2), some (vi v3), some (vi v4), some (vi (0 : Int32))]) (st' := [vi (mI (sI M 6 this 36 s0) 6 this 36)]) (M1 := (sI M 6 this 36 s0)) (pc' := 107) (tb_Machine hγ) [.putfield 418, .iconst 0, .istore 5, .aload_n 0, .getfield 418] (by decide +kernel) rfl rfl trivial ?_
  refine E_if_lt (off := 23) (tgt := 130) (by decide +kernel) (by decide) (fun b13 => ?_) (fun b13 => ?_)
  · rw [if_pos b13] at h
    refine E_mask [true, true, true, true, true, true] rfl ?_
    exact lk_Machine_instruction_j130 hγ this Q v1 v2 v3 v4 (0 : Int32) (sI M 6 this 36 s0) h
  · rw [if_neg b13] at h
    refine E_blk (lv' := [some (vr (some (6, this))), some (vi v1), some (vi v2), some (vi v3), some (vi v4), some (vi (0 : Int32))]) (st' := [vi (41 : Int32), vi v4]) (M1 := (sI M 6 this 36 s0)) (pc' := 114) (tb_Machine hγ) [.iload 4, .bipush 41] (by decide +kernel) rfl rfl trivial ?_
    refine E_icmp_ne (off := 16) (tgt := 130) (by decide +kernel) (by decide) (fun b47 => ?_) (fun b47 => ?_)
    · rw [if_pos b47] at h
      refine E_blk (lv' := [some (vr (some (6, this))), some (vi v1), some (vi v2), some (vi v3), some (vi v4), some (vi (0 : Int32))]) (st' := [vi (mI (sI M 6 this 36 s0) 6 this 36), vr (some (6, this))]) (M1 := (sI M 6 this 36 s0)) (pc' := 122) (tb_Machine hγ) [.aload_n 0, .aload_n 0, .getfield 418] (by decide +kernel) rfl rfl trivial ?_
      refine E_callV (κ' := k_Machine_mustStart) (As := [vi (mI (sI M 6 this 36 s0) 6 this 36)]) (st := []) mv_Machine_mustStart (Or.inl (tbk_mem (j := 8) (k := 235) rfl)) rfl (by decide +kernel) (Nat.le_of_ble_eq_true rfl) (Nat.le_of_ble_eq_true rfl) rfl (by decide) (lk_Machine_mustStart hγ this (mI (sI M 6 this 36 s0) 6 this 36) _ (sI M 6 this 36 s0) h) (fun _ _ => Qi_r) (fun v M48 hp => Qi_k (R := fun st => E γ k_Machine_instruction 136 125 [some (vr (some (6, this))), some (vi v1), some (vi v2), some (vi v3), some (vi v4), some (vi (0 : Int32))] st M48 (Qv Q)) hp (fun r49 h => ?_))
      refine E_blk (lv' := [some (vr (some (6, this))), some (vi v1), some (vi v2), some (vi v3), some (vi v4), some (vi r49)]) (st' := []) (M1 := M48) (pc' := 127) (tb_Machine hγ) [.istore 5] (by decide +kernel) rfl rfl trivial ?_
      refine E_goto (off := 125) (tgt := 252) (by decide +kernel) (by decide) ?_
      refine E_mask [true, true, true, true, true, true] rfl ?_
      exact lk_Machine_instruction_j252 hγ this Q v1 v2 v3 v4 r49 M48 h
    · rw [if_neg b47] at h
      refine E_mask [true, true, true, true, true, true] rfl ?_
      exact lk_Machine_instruction_j130 hγ this Q v1 v2 v3 v4 (0 : Int32) (sI M 6 this 36 s0) h
set_option maxRecDepth 4096 in
theorem lk_Machine_instruction_j87 {γ : Gm} (hγ : Gk γ) (this : Nat) (Q : Mem → Prop) (v1 : Int32) (v2 : Int32) (v3 : Int32) (v4 : Int32) (M : Mem) (h : w_Machine_instruction_j87 this Q v1 v2 v3 v4 M) : E γ k_Machine_instruction 136 87 [some (vr (some (6, this))), some (vi v1), some (vi v2), some (vi v3), some (vi v4), none] [vr (some (6, this))] M (Qv Q) := by
  unfold w_Machine_instruction_j87 at h
  refine E_blk (lv' := [some (vr (some (6, this))), some (vi v1), some (vi v2), some (vi v3), some (vi v4), none]) (st' := [vi (0 : Int32), vr (some (6, this))]) (M1 := M) (pc' := 88) (tb_Machine hγ) [.iconst 0] (by decide +kernel) rfl rfl trivial ?_
  refine E_goto (off := 9) (tgt := 97) (by decide +kernel) (by decide) ?_
  refine E_mask [true, true, true, true, true, false] rfl ?_
  exact lk_Machine_instruction_j97 hγ this Q v1 v2 v3 v4 (0 : Int32) M h
set_option maxRecDepth 4096 in
theorem lk_Machine_instruction {γ : Gm} (hγ : Gk γ) (this : Nat) (Q : Mem → Prop) (M : Mem) (h : w_Machine_instruction this Q M) : E γ k_Machine_instruction 136 0 [some (vr (some (6, this))), none, none, none, none, none] [] M (Qv Q) := by
  unfold w_Machine_instruction at h
  refine E_blk (lv' := [some (vr (some (6, this))), none, none, none, none, none]) (st' := [vr (mR M 6 this 2)]) (M1 := M) (pc' := 4) (tb_Machine hγ) [.aload_n 0, .getfield 24] (by decide +kernel) rfl rfl trivial ?_
  obtain ⟨i1, ei1, h⟩ := h
  rw [ei1]
  refine E_blk (lv' := [some (vr (some (6, this))), some (vi ((mI M 7 i1 1) - (1 : Int32))), none, none, none, none]) (st' := [vr (mR M 6 this 2)]) (M1 := M) (pc' := 14) (tb_Machine hγ) [.getfield 152, .iconst 1, .isub, .istore_n 1, .aload_n 0, .getfield 24] (by decide +kernel) rfl rfl trivial ?_
  obtain ⟨i2, ei2, h⟩ := h
  rw [ei2]
  obtain ⟨c3, c4, h⟩ := h
  refine E_blk (lv' := [some (vr (some (6, this))), some (vi ((mI M 7 i1 1) - (1 : Int32))), some (vi (mI M 89 i2 ((mI M 7 i1 1) - (1 : Int32)).toNatClampNeg)), none, none, none]) (st' := [vr (mR M 6 this 2), vi (mI M 62 this (mI M 89 i2 ((mI M 7 i1 1) - (1 : Int32)).toNatClampNeg).toNatClampNeg)]) (M1 := M) (pc' := 33) (tb_Machine hγ) [.getfield 227, .iload_n 1, .iaload, .istore_n 2, .aload_n 0, .getfield 84, .getfield 412, .iload_n 2, .iaload, .aload_n 0, .getfield 24] (by decide +kernel) rfl rfl ⟨c3, c4, trivial⟩ ?_
  obtain ⟨i5, ei5, h⟩ := h
  rw [ei5]
  obtain ⟨c6, h⟩ := h
  refine E_blk (lv' := [some (vr (some (6, this))), some (vi ((mI M 7 i1 1) - (1 : Int32))), some (vi (mI M 89 i2 ((mI M 7 i1 1) - (1 : Int32)).toNatClampNeg)), some (vi ((mI M 62 this (mI M 89 i2 ((mI M 7 i1 1) - (1 : Int32)).toNatClampNeg).toNatClampNeg) + (mI M 90 i5 ((mI M 7 i1 1) - (1 : Int32)).toNatClampNeg))), none, none]) (st' := []) (M1 := M) (pc' := 40) (tb_Machine hγ) [.getfield 230, .iload_n 1, .iaload, .iadd, .istore_n 3] (by decide +kernel) rfl rfl ⟨c6, trivial⟩ ?_
  obtain ⟨x7, ex7, h⟩ := h
  rw [← ex7]
  obtain ⟨c8, h⟩ := h
  refine E_blk (lv' := [some (vr (some (6, this))), some (vi ((mI M 7 i1 1) - (1 : Int32))), some (vi (mI M 89 i2 ((mI M 7 i1 1) - (1 : Int32)).toNatClampNeg)), some (vi x7), some (vi (mI M 66 this x7.toNatClampNeg)), none]) (st' := [vr (mR (sI M 6 this 33 ((40 : Int32) * ((mI M 7 i1 1) - (1 : Int32)))) 6 this 2), vr (some (6, this))]) (M1 := (sI M 6 this 33 ((40 : Int32) * ((mI M 7 i1 1) - (1 : Int32))))) (pc' := 64) (tb_Machine hγ) [.aload_n 0, .getfield 84, .getfield 389, .iload_n 3, .iaload, .istore 4, .aload_n 0, .bipush 40, .iload_n 1, .imul, .putfield 402, .aload_n 0, .aload_n 0, .getfield 24] (by decide +kernel) rfl rfl ⟨c8, trivial⟩ ?_
  obtain ⟨i9, ei9, h⟩ := h
  rw [ei9]
  obtain ⟨c10, h⟩ := h
  refine E_blk (lv' := [some (vr (some (6, this))), some (vi ((mI M 7 i1 1) - (1 : Int32))), some (vi (mI M 89 i2 ((mI M 7 i1 1) - (1 : Int32)).toNatClampNeg)), some (vi x7), some (vi (mI M 66 this x7.toNatClampNeg)), none]) (st' := []) (M1 := (sI (sI M 6 this 33 ((40 : Int32) * ((mI M 7 i1 1) - (1 : Int32)))) 6 this 34 (mI (sI M 6 this 33 ((40 : Int32) * ((mI M 7 i1 1) - (1 : Int32)))) 91 i9 ((mI M 7 i1 1) - (1 : Int32)).toNatClampNeg))) (pc' := 72) (tb_Machine hγ) [.getfield 233, .iload_n 1, .iaload, .putfield 405] (by decide +kernel) rfl rfl ⟨c10, trivial⟩ ?_
  obtain ⟨M11, eM11, h⟩ := h
  rw [← eM11]
  refine E_blk (lv' := [some (vr (some (6, this))), some (vi ((mI M 7 i1 1) - (1 : Int32))), some (vi (mI M 89 i2 ((mI M 7 i1 1) - (1 : Int32)).toNatClampNeg)), some (vi x7), some (vi (mI M 66 this x7.toNatClampNeg)), none]) (st' := [vi (54 : Int32), vi (mI M 66 this x7.toNatClampNeg), vr (some (6, this))]) (M1 := M11) (pc' := 77) (tb_Machine hγ) [.aload_n 0, .iload 4, .bipush 54] (by decide +kernel) rfl rfl trivial ?_
  refine E_icmp_eq (off := 10) (tgt := 87) (by decide +kernel) (by decide) (fun b12 => ?_) (fun b12 => ?_)
  · rw [if_pos b12] at h
    refine E_mask [true, true, true, true, true, false] rfl ?_
    exact lk_Machine_instruction_j87 hγ this Q ((mI M 7 i1 1) - (1 : Int32)) (mI M 89 i2 ((mI M 7 i1 1) - (1 : Int32)).toNatClampNeg) x7 (mI M 66 this x7.toNatClampNeg) M11 h
  · rw [if_neg b12] at h
    refine E_blk (lv' := [some (vr (some (6, this))), some (vi ((mI M 7 i1 1) - (1 : Int32))), some (vi (mI M 89 i2 ((mI M 7 i1 1) - (1 : Int32)).toNatClampNeg)), some (vi x7), some (vi (mI M 66 this x7.toNatClampNeg)), none]) (st' := [vi (55 : Int32), vi (mI M 66 this x7.toNatClampNeg), vr (some (6, this))]) (M1 := M11) (pc' := 84) (tb_Machine hγ) [.iload 4, .bipush 55] (by decide +kernel) rfl rfl trivial ?_
    refine E_icmp_ne (off := 7) (tgt := 91) (by decide +kernel) (by decide) (fun b50 => ?_) (fun b50 => ?_)
    · rw [if_pos b50] at h
      refine E_mask [true, true, true, true, true, false] rfl ?_
      exact lk_Machine_instruction_j87 hγ this Q ((mI M 7 i1 1) - (1 : Int32)) (mI M 89 i2 ((mI M 7 i1 1) - (1 : Int32)).toNatClampNeg) x7 (mI M 66 this x7.toNatClampNeg) M11 h
    · rw [if_neg b50] at h
      refine E_blk (lv' := [some (vr (some (6, this))), some (vi ((mI M 7 i1 1) - (1 : Int32))), some (vi (mI M 89 i2 ((mI M 7 i1 1) - (1 : Int32)).toNatClampNeg)), some (vi x7), some (vi (mI M 66 this x7.toNatClampNeg)), none]) (st' := [vi x7, vi (mI M 89 i2 ((mI M 7 i1 1) - (1 : Int32)).toNatClampNeg), vr (some (6, this)), vr (some (6, this))]) (M1 := M11) (pc' := 94) (tb_Machine hγ) [.aload_n 0, .iload_n 2, .iload_n 3] (by decide +kernel) rfl rfl trivial ?_
      refine E_callV (κ' := k_Machine_finds) (As := [vi (mI M 89 i2 ((mI M 7 i1 1) - (1 : Int32)).toNatClampNeg), vi x7]) (st := [vr (some (6, this))]) mv_Machine_finds (Or.inl (tbk_mem (j := 9) (k := 24) rfl)) rfl (by decide +kernel) (Nat.le_of_ble_eq_true rfl) (Nat.le_of_ble_eq_true rfl) rfl (by decide) (lk_Machine_finds hγ this (mI M 89 i2 ((mI M 7 i1 1) - (1 : Int32)).toNatClampNeg) x7 _ M11 h) (fun _ _ => Qi_r) (fun v M51 hp => Qi_k (R := fun st => E γ k_Machine_instruction 136 97 [some (vr (some (6, this))), some (vi ((mI M 7 i1 1) - (1 : Int32))), some (vi (mI M 89 i2 ((mI M 7 i1 1) - (1 : Int32)).toNatClampNeg)), some (vi x7), some (vi (mI M 66 this x7.toNatClampNeg)), none] st M51 (Qv Q)) hp (fun r52 h => ?_))
      refine E_mask [true, true, true, true, true, false] rfl ?_
      exact lk_Machine_instruction_j97 hγ this Q ((mI M 7 i1 1) - (1 : Int32)) (mI M 89 i2 ((mI M 7 i1 1) - (1 : Int32)).toNatClampNeg) x7 (mI M 66 this x7.toNatClampNeg) r52 M51 h
def w_Machine_go_j147 (this : Nat) (Q : Int32 → Mem → Prop) (k2 : Int32 → Mem → Prop) (v2 : Int32) (M : Mem) : Prop :=
  k2 v2 M
def w_Machine_go_j142 (this : Nat) (Q : Int32 → Mem → Prop) (k2 : Int32 → Mem → Prop) (v2 : Int32) (M : Mem) : Prop :=
  w_Machine_go_j147 this Q k2 v2 (sI M 6 this 4 (0 : Int32))
def w_Machine_go_j120 (this : Nat) (Q : Int32 → Mem → Prop) (k2 : Int32 → Mem → Prop) (v2 : Int32) (M : Mem) : Prop :=
  ∃ i13, (mR M 6 this 2) = some (7, i13) ∧ if (mI M 7 i13 11) = (1 : Int32) then (∃ i15, (mR M 6 this 2) = some (7, i15) ∧ w_Machine_waits this i15 (fun r17 M16 => if r17 = 0 then (w_Machine_go_j147 this Q k2 v2 M16) else (w_Machine_go_j142 this Q k2 v2 M16)) M) else (w_Machine_go_j142 this Q k2 v2 M)
def w_Machine_go_j96 (this : Nat) (Q : Int32 → Mem → Prop) (k2 : Int32 → Mem → Prop) (v2 : Int32) (v3 : Int32) (M : Mem) : Prop :=
  ∃ i11, (mR M 6 this 2) = some (7, i11) ∧ if (mI M 7 i11 12) ≤ v3 then (w_Machine_go_j120 this Q k2 v2 M) else (w_Machine_go_j120 this Q k2 (v2 + (-1 : Int32)) (sI M 6 this 4 ((mI M 6 this 4) - (1 : Int32))))
def w_Machine_go_L2 (this : Nat) (Q : Int32 → Mem → Prop) : Nat → Int32 → Mem → Prop
  | 0, _, _ => False
  | n + 1, v2, M => if v2 ≤ 0 then (Q (1 : Int32) M) else (w_Machine_hasTurn this (fun r3 M2 => if r3 = 0 then (Q (0 : Int32) M2) else (∃ i5, (mR M2 6 this 2) = some (7, i5) ∧ ∃ i6, (mR M2 6 this 2) = some (7, i6) ∧ ∃ i7, (mR (sI M2 7 i6 18 (0 : Int32)) 6 this 2) = some (7, i7) ∧ ∃ i8, (mR (sI (sI M2 7 i6 18 (0 : Int32)) 7 i7 19 (-1 : Int32)) 6 this 2) = some (7, i8) ∧ if (mI (sI (sI M2 7 i6 18 (0 : Int32)) 7 i7 19 (-1 : Int32)) 7 i8 1) = 0 then (w_Machine_first this (fun M10 => w_Machine_go_j96 this Q (w_Machine_go_L2 this Q n) v2 (mI M2 7 i5 12) M10) (sI (sI M2 7 i6 18 (0 : Int32)) 7 i7 19 (-1 : Int32))) else (∃ i19, (mR (sI (sI M2 7 i6 18 (0 : Int32)) 7 i7 19 (-1 : Int32)) 6 this 2) = some (7, i19) ∧ ∃ i20, (mR (sI (sI M2 7 i6 18 (0 : Int32)) 7 i7 19 (-1 : Int32)) 6 this 2) = some (7, i20) ∧ vp_in ((mI (sI (sI M2 7 i6 18 (0 : Int32)) 7 i7 19 (-1 : Int32)) 7 i20 1) - (1 : Int32)) (mL (sI (sI M2 7 i6 18 (0 : Int32)) 7 i7 19 (-1 : Int32)) 92 i19) ∧ if (mI (sI (sI M2 7 i6 18 (0 : Int32)) 7 i7 19 (-1 : Int32)) 92 i19 ((mI (sI (sI M2 7 i6 18 (0 : Int32)) 7 i7 19 (-1 : Int32)) 7 i20 1) - (1 : Int32)).toNatClampNeg) < 0 then (w_Machine_instruction this (fun M23 => w_Machine_go_j96 this Q (w_Machine_go_L2 this Q n) v2 (mI M2 7 i5 12) M23) (sI (sI M2 7 i6 18 (0 : Int32)) 7 i7 19 (-1 : Int32))) else (∃ i24, (mR (sI (sI M2 7 i6 18 (0 : Int32)) 7 i7 19 (-1 : Int32)) 6 this 2) = some (7, i24) ∧ w_Machine_start this ((mI (sI (sI M2 7 i6 18 (0 : Int32)) 7 i7 19 (-1 : Int32)) 7 i24 1) - (1 : Int32)) (fun M25 => w_Machine_go_j96 this Q (w_Machine_go_L2 this Q n) v2 (mI M2 7 i5 12) M25) (sI (sI M2 7 i6 18 (0 : Int32)) 7 i7 19 (-1 : Int32)))))) M)
def w_Machine_go (this : Nat) (a1 : Int32) (Q : Int32 → Mem → Prop) (M : Mem) : Prop :=
  ∃ n26 : Nat, w_Machine_go_L2 this Q n26 a1 M
set_option maxRecDepth 4096 in
theorem lk_Machine_go_j147 {γ : Gm} (hγ : Gk γ) (this : Nat) (Q : Int32 → Mem → Prop) (k2 : Int32 → Mem → Prop) (hk2 : ∀ (v2 : Int32) (M : Mem), k2 v2 M → E γ k_Machine_go 137 2 [some (vr (some (6, this))), none, some (vi v2), none] [] M (Qi Q)) (v2 : Int32) (M : Mem) (h : w_Machine_go_j147 this Q k2 v2 M) : E γ k_Machine_go 137 147 [some (vr (some (6, this))), none, some (vi v2), none] [] M (Qi Q) := by
  unfold w_Machine_go_j147 at h
  refine E_goto (off := -145) (tgt := 2) (by decide +kernel) (by decide) ?_
  refine E_mask [true, false, true, false] rfl ?_
  exact hk2 v2 M h
set_option maxRecDepth 4096 in
theorem lk_Machine_go_j142 {γ : Gm} (hγ : Gk γ) (this : Nat) (Q : Int32 → Mem → Prop) (k2 : Int32 → Mem → Prop) (hk2 : ∀ (v2 : Int32) (M : Mem), k2 v2 M → E γ k_Machine_go 137 2 [some (vr (some (6, this))), none, some (vi v2), none] [] M (Qi Q)) (v2 : Int32) (M : Mem) (h : w_Machine_go_j142 this Q k2 v2 M) : E γ k_Machine_go 137 142 [some (vr (some (6, this))), none, some (vi v2), none] [] M (Qi Q) := by
  unfold w_Machine_go_j142 at h
  refine E_blk (lv' := [some (vr (some (6, this))), none, some (vi v2), none]) (st' := []) (M1 := (sI M 6 this 4 (0 : Int32))) (pc' := 147) (tb_Machine hγ) [.aload_n 0, .iconst 0, .putfield 98] (by decide +kernel) rfl rfl trivial ?_
  refine E_mask [true, false, true, false] rfl ?_
  exact lk_Machine_go_j147 hγ this Q k2 hk2 v2 (sI M 6 this 4 (0 : Int32)) h
set_option maxRecDepth 4096 in
theorem lk_Machine_go_j120 {γ : Gm} (hγ : Gk γ) (this : Nat) (Q : Int32 → Mem → Prop) (k2 : Int32 → Mem → Prop) (hk2 : ∀ (v2 : Int32) (M : Mem), k2 v2 M → E γ k_Machine_go 137 2 [some (vr (some (6, this))), none, some (vi v2), none] [] M (Qi Q)) (v2 : Int32) (M : Mem) (h : w_Machine_go_j120 this Q k2 v2 M) : E γ k_Machine_go 137 120 [some (vr (some (6, this))), none, some (vi v2), none] [] M (Qi Q) := by
  unfold w_Machine_go_j120 at h
  refine E_blk (lv' := [some (vr (some (6, this))), none, some (vi v2), none]) (st' := [vr (mR M 6 this 2)]) (M1 := M) (pc' := 124) (tb_Machine hγ) [.aload_n 0, .getfield 24] (by decide +kernel) rfl rfl trivial ?_
  obtain ⟨i13, ei13, h⟩ := h
  rw [ei13]
  refine E_blk (lv' := [some (vr (some (6, this))), none, some (vi v2), none]) (st' := [vi (1 : Int32), vi (mI M 7 i13 11)]) (M1 := M) (pc' := 128) (tb_Machine hγ) [.getfield 149, .iconst 1] (by decide +kernel) rfl rfl trivial ?_
  refine E_icmp_ne (off := 14) (tgt := 142) (by decide +kernel) (by decide) (fun b14 => ?_) (fun b14 => ?_)
  · rw [if_pos b14] at h
    refine E_blk (lv' := [some (vr (some (6, this))), none, some (vi v2), none]) (st' := [vr (mR M 6 this 2), vr (some (6, this))]) (M1 := M) (pc' := 136) (tb_Machine hγ) [.aload_n 0, .aload_n 0, .getfield 24] (by decide +kernel) rfl rfl trivial ?_
    obtain ⟨i15, ei15, h⟩ := h
    rw [ei15]
    refine E_callV (κ' := k_Machine_waits) (As := [vr (some (7, i15))]) (st := []) mv_Machine_waits (Or.inl (tbk_mem (j := 8) (k := 123) rfl)) rfl (by decide +kernel) (Nat.le_of_ble_eq_true rfl) (Nat.le_of_ble_eq_true rfl) rfl (by decide) (lk_Machine_waits hγ this i15 _ M h) (fun _ _ => Qi_r) (fun v M16 hp => Qi_k (R := fun st => E γ k_Machine_go 137 139 [some (vr (some (6, this))), none, some (vi v2), none] st M16 (Qi Q)) hp (fun r17 h => ?_))
    refine E_if_eq (off := 8) (tgt := 147) (by decide +kernel) (by decide) (fun b18 => ?_) (fun b18 => ?_)
    · rw [if_pos b18] at h
      refine E_mask [true, false, true, false] rfl ?_
      exact lk_Machine_go_j147 hγ this Q k2 hk2 v2 M16 h
    · rw [if_neg b18] at h
      refine E_mask [true, false, true, false] rfl ?_
      exact lk_Machine_go_j142 hγ this Q k2 hk2 v2 M16 h
  · rw [if_neg b14] at h
    refine E_mask [true, false, true, false] rfl ?_
    exact lk_Machine_go_j142 hγ this Q k2 hk2 v2 M h
set_option maxRecDepth 4096 in
theorem lk_Machine_go_j96 {γ : Gm} (hγ : Gk γ) (this : Nat) (Q : Int32 → Mem → Prop) (k2 : Int32 → Mem → Prop) (hk2 : ∀ (v2 : Int32) (M : Mem), k2 v2 M → E γ k_Machine_go 137 2 [some (vr (some (6, this))), none, some (vi v2), none] [] M (Qi Q)) (v2 : Int32) (v3 : Int32) (M : Mem) (h : w_Machine_go_j96 this Q k2 v2 v3 M) : E γ k_Machine_go 137 96 [some (vr (some (6, this))), none, some (vi v2), some (vi v3)] [] M (Qi Q) := by
  unfold w_Machine_go_j96 at h
  refine E_blk (lv' := [some (vr (some (6, this))), none, some (vi v2), some (vi v3)]) (st' := [vr (mR M 6 this 2)]) (M1 := M) (pc' := 100) (tb_Machine hγ) [.aload_n 0, .getfield 24] (by decide +kernel) rfl rfl trivial ?_
  obtain ⟨i11, ei11, h⟩ := h
  rw [ei11]
  refine E_blk (lv' := [some (vr (some (6, this))), none, some (vi v2), some (vi v3)]) (st' := [vi v3, vi (mI M 7 i11 12)]) (M1 := M) (pc' := 104) (tb_Machine hγ) [.getfield 139, .iload_n 3] (by decide +kernel) rfl rfl trivial ?_
  refine E_icmp_le (off := 16) (tgt := 120) (by decide +kernel) (by decide) (fun b12 => ?_) (fun b12 => ?_)
  · rw [if_pos b12] at h
    refine E_mask [true, false, true, false] rfl ?_
    exact lk_Machine_go_j120 hγ this Q k2 hk2 v2 M h
  · rw [if_neg b12] at h
    refine E_blk (lv' := [some (vr (some (6, this))), none, some (vi (v2 + (-1 : Int32))), some (vi v3)]) (st' := []) (M1 := (sI M 6 this 4 ((mI M 6 this 4) - (1 : Int32)))) (pc' := 120) (tb_Machine hγ) [.iinc 2 (.negSucc 0), .aload_n 0, .dup, .getfield 98, .iconst 1, .isub, .putfield 98] (by decide +kernel) rfl rfl trivial ?_
    refine E_mask [true, false, true, false] rfl ?_
    exact lk_Machine_go_j120 hγ this Q k2 hk2 (v2 + (-1 : Int32)) (sI M 6 this 4 ((mI M 6 this 4) - (1 : Int32))) h
set_option maxRecDepth 4096 in
theorem lk_Machine_go_L2 {γ : Gm} (hγ : Gk γ) (this : Nat) (Q : Int32 → Mem → Prop) : ∀ (n : Nat) (v2 : Int32) (M : Mem), w_Machine_go_L2 this Q n v2 M → E γ k_Machine_go 137 2 [some (vr (some (6, this))), none, some (vi v2), none] [] M (Qi Q) := by
  intro n
  induction n with
  | zero => intro v2 M h; exact h.elim
  | succ n ih =>
    intro v2 M h
    unfold w_Machine_go_L2 at h
    refine E_blk (lv' := [some (vr (some (6, this))), none, some (vi v2), none]) (st' := [vi v2]) (M1 := M) (pc' := 3) (tb_Machine hγ) [.iload_n 2] (by decide +kernel) rfl rfl trivial ?_
    refine E_if_le (off := 147) (tgt := 150) (by decide +kernel) (by decide) (fun b1 => ?_) (fun b1 => ?_)
    · rw [if_pos b1] at h
      refine E_blk (lv' := [some (vr (some (6, this))), none, some (vi v2), none]) (st' := [vi (1 : Int32)]) (M1 := M) (pc' := 151) (tb_Machine hγ) [.iconst 1] (by decide +kernel) rfl rfl trivial ?_
      exact E_zret rfl (Or.inr rfl) (by decide +kernel) h
    · rw [if_neg b1] at h
      refine E_blk (lv' := [some (vr (some (6, this))), none, some (vi v2), none]) (st' := [vr (some (6, this))]) (M1 := M) (pc' := 7) (tb_Machine hγ) [.aload_n 0] (by decide +kernel) rfl rfl trivial ?_
      refine E_callV (κ' := k_Machine_hasTurn) (As := []) (st := []) mv_Machine_hasTurn (Or.inl (tbk_mem (j := 8) (k := 115) rfl)) rfl (by decide +kernel) (Nat.le_of_ble_eq_true rfl) (Nat.le_of_ble_eq_true rfl) rfl (by decide) (lk_Machine_hasTurn hγ this _ M h) (fun _ _ => Qi_r) (fun v M2 hp => Qi_k (R := fun st => E γ k_Machine_go 137 10 [some (vr (some (6, this))), none, some (vi v2), none] st M2 (Qi Q)) hp (fun r3 h => ?_))
      refine E_if_ne (off := 5) (tgt := 15) (by decide +kernel) (by decide) (fun b4 => ?_) (fun b4 => ?_)
      · rw [if_pos b4] at h
        refine E_blk (lv' := [some (vr (some (6, this))), none, some (vi v2), none]) (st' := [vi (0 : Int32)]) (M1 := M2) (pc' := 14) (tb_Machine hγ) [.iconst 0] (by decide +kernel) rfl rfl trivial ?_
        exact E_zret rfl (Or.inl rfl) (by decide +kernel) h
      · rw [if_neg b4] at h
        refine E_blk (lv' := [some (vr (some (6, this))), none, some (vi v2), none]) (st' := [vr (mR M2 6 this 2)]) (M1 := M2) (pc' := 19) (tb_Machine hγ) [.aload_n 0, .getfield 24] (by decide +kernel) rfl rfl trivial ?_
        obtain ⟨i5, ei5, h⟩ := h
        rw [ei5]
        refine E_blk (lv' := [some (vr (some (6, this))), none, some (vi v2), some (vi (mI M2 7 i5 12))]) (st' := [vr (mR M2 6 this 2)]) (M1 := M2) (pc' := 27) (tb_Machine hγ) [.getfield 139, .istore_n 3, .aload_n 0, .getfield 24] (by decide +kernel) rfl rfl trivial ?_
        obtain ⟨i6, ei6, h⟩ := h
        rw [ei6]
        refine E_blk (lv' := [some (vr (some (6, this))), none, some (vi v2), some (vi (mI M2 7 i5 12))]) (st' := [vr (mR (sI M2 7 i6 18 (0 : Int32)) 6 this 2)]) (M1 := (sI M2 7 i6 18 (0 : Int32))) (pc' := 35) (tb_Machine hγ) [.iconst 0, .putfield 160, .aload_n 0, .getfield 24] (by decide +kernel) rfl rfl trivial ?_
        obtain ⟨i7, ei7, h⟩ := h
        rw [ei7]
        refine E_blk (lv' := [some (vr (some (6, this))), none, some (vi v2), some (vi (mI M2 7 i5 12))]) (st' := [vr (mR (sI (sI M2 7 i6 18 (0 : Int32)) 7 i7 19 (-1 : Int32)) 6 this 2)]) (M1 := (sI (sI M2 7 i6 18 (0 : Int32)) 7 i7 19 (-1 : Int32))) (pc' := 43) (tb_Machine hγ) [.iconst (.negSucc 0), .putfield 167, .aload_n 0, .getfield 24] (by decide +kernel) rfl rfl trivial ?_
        obtain ⟨i8, ei8, h⟩ := h
        rw [ei8]
        refine E_blk (lv' := [some (vr (some (6, this))), none, some (vi v2), some (vi (mI M2 7 i5 12))]) (st' := [vi (mI (sI (sI M2 7 i6 18 (0 : Int32)) 7 i7 19 (-1 : Int32)) 7 i8 1)]) (M1 := (sI (sI M2 7 i6 18 (0 : Int32)) 7 i7 19 (-1 : Int32))) (pc' := 46) (tb_Machine hγ) [.getfield 152] (by decide +kernel) rfl rfl trivial ?_
        refine E_if_ne (off := 10) (tgt := 56) (by decide +kernel) (by decide) (fun b9 => ?_) (fun b9 => ?_)
        · rw [if_pos b9] at h
          refine E_blk (lv' := [some (vr (some (6, this))), none, some (vi v2), some (vi (mI M2 7 i5 12))]) (st' := [vr (some (6, this))]) (M1 := (sI (sI M2 7 i6 18 (0 : Int32)) 7 i7 19 (-1 : Int32))) (pc' := 50) (tb_Machine hγ) [.aload_n 0] (by decide +kernel) rfl rfl trivial ?_
          refine E_callV (κ' := k_Machine_first) (As := []) (st := []) mv_Machine_first (Or.inl (tbk_mem (j := 8) (k := 131) rfl)) rfl (by decide +kernel) (Nat.le_of_ble_eq_true rfl) (Nat.le_of_ble_eq_true rfl) rfl (by decide) (lk_Machine_first hγ this _ (sI (sI M2 7 i6 18 (0 : Int32)) 7 i7 19 (-1 : Int32)) h) (fun _ _ => Qv_r) (fun v M10 hp => Qv_k (R := fun st => E γ k_Machine_go 137 53 [some (vr (some (6, this))), none, some (vi v2), some (vi (mI M2 7 i5 12))] st M10 (Qi Q)) hp (fun h => ?_))
          refine E_goto (off := 43) (tgt := 96) (by decide +kernel) (by decide) ?_
          refine E_mask [true, false, true, true] rfl ?_
          exact lk_Machine_go_j96 hγ this Q (w_Machine_go_L2 this Q n) ih v2 (mI M2 7 i5 12) M10 h
        · rw [if_neg b9] at h
          refine E_blk (lv' := [some (vr (some (6, this))), none, some (vi v2), some (vi (mI M2 7 i5 12))]) (st' := [vr (mR (sI (sI M2 7 i6 18 (0 : Int32)) 7 i7 19 (-1 : Int32)) 6 this 2)]) (M1 := (sI (sI M2 7 i6 18 (0 : Int32)) 7 i7 19 (-1 : Int32))) (pc' := 60) (tb_Machine hγ) [.aload_n 0, .getfield 24] (by decide +kernel) rfl rfl trivial ?_
          obtain ⟨i19, ei19, h⟩ := h
          rw [ei19]
          refine E_blk (lv' := [some (vr (some (6, this))), none, some (vi v2), some (vi (mI M2 7 i5 12))]) (st' := [vr (mR (sI (sI M2 7 i6 18 (0 : Int32)) 7 i7 19 (-1 : Int32)) 6 this 2), vr (some (92, i19))]) (M1 := (sI (sI M2 7 i6 18 (0 : Int32)) 7 i7 19 (-1 : Int32))) (pc' := 67) (tb_Machine hγ) [.getfield 155, .aload_n 0, .getfield 24] (by decide +kernel) rfl rfl trivial ?_
          obtain ⟨i20, ei20, h⟩ := h
          rw [ei20]
          obtain ⟨c21, h⟩ := h
          refine E_blk (lv' := [some (vr (some (6, this))), none, some (vi v2), some (vi (mI M2 7 i5 12))]) (st' := [vi (mI (sI (sI M2 7 i6 18 (0 : Int32)) 7 i7 19 (-1 : Int32)) 92 i19 ((mI (sI (sI M2 7 i6 18 (0 : Int32)) 7 i7 19 (-1 : Int32)) 7 i20 1) - (1 : Int32)).toNatClampNeg)]) (M1 := (sI (sI M2 7 i6 18 (0 : Int32)) 7 i7 19 (-1 : Int32))) (pc' := 73) (tb_Machine hγ) [.getfield 152, .iconst 1, .isub, .iaload] (by decide +kernel) rfl rfl ⟨c21, trivial⟩ ?_
          refine E_if_lt (off := 19) (tgt := 92) (by decide +kernel) (by decide) (fun b22 => ?_) (fun b22 => ?_)
          · rw [if_pos b22] at h
            refine E_blk (lv' := [some (vr (some (6, this))), none, some (vi v2), some (vi (mI M2 7 i5 12))]) (st' := [vr (some (6, this))]) (M1 := (sI (sI M2 7 i6 18 (0 : Int32)) 7 i7 19 (-1 : Int32))) (pc' := 93) (tb_Machine hγ) [.aload_n 0] (by decide +kernel) rfl rfl trivial ?_
            refine E_callV (κ' := k_Machine_instruction) (As := []) (st := []) mv_Machine_instruction (Or.inl (tbk_mem (j := 9) (k := 20) rfl)) rfl (by decide +kernel) (Nat.le_of_ble_eq_true rfl) (Nat.le_of_ble_eq_true rfl) rfl (by decide) (lk_Machine_instruction hγ this _ (sI (sI M2 7 i6 18 (0 : Int32)) 7 i7 19 (-1 : Int32)) h) (fun _ _ => Qv_r) (fun v M23 hp => Qv_k (R := fun st => E γ k_Machine_go 137 96 [some (vr (some (6, this))), none, some (vi v2), some (vi (mI M2 7 i5 12))] st M23 (Qi Q)) hp (fun h => ?_))
            refine E_mask [true, false, true, true] rfl ?_
            exact lk_Machine_go_j96 hγ this Q (w_Machine_go_L2 this Q n) ih v2 (mI M2 7 i5 12) M23 h
          · rw [if_neg b22] at h
            refine E_blk (lv' := [some (vr (some (6, this))), none, some (vi v2), some (vi (mI M2 7 i5 12))]) (st' := [vr (mR (sI (sI M2 7 i6 18 (0 : Int32)) 7 i7 19 (-1 : Int32)) 6 this 2), vr (some (6, this))]) (M1 := (sI (sI M2 7 i6 18 (0 : Int32)) 7 i7 19 (-1 : Int32))) (pc' := 81) (tb_Machine hγ) [.aload_n 0, .aload_n 0, .getfield 24] (by decide +kernel) rfl rfl trivial ?_
            obtain ⟨i24, ei24, h⟩ := h
            rw [ei24]
            refine E_blk (lv' := [some (vr (some (6, this))), none, some (vi v2), some (vi (mI M2 7 i5 12))]) (st' := [vi ((mI (sI (sI M2 7 i6 18 (0 : Int32)) 7 i7 19 (-1 : Int32)) 7 i24 1) - (1 : Int32)), vr (some (6, this))]) (M1 := (sI (sI M2 7 i6 18 (0 : Int32)) 7 i7 19 (-1 : Int32))) (pc' := 86) (tb_Machine hγ) [.getfield 152, .iconst 1, .isub] (by decide +kernel) rfl rfl trivial ?_
            refine E_callV (κ' := k_Machine_start) (As := [vi ((mI (sI (sI M2 7 i6 18 (0 : Int32)) 7 i7 19 (-1 : Int32)) 7 i24 1) - (1 : Int32))]) (st := []) mv_Machine_start (Or.inl (tbk_mem (j := 9) (k := 7) rfl)) rfl (by decide +kernel) (Nat.le_of_ble_eq_true rfl) (Nat.le_of_ble_eq_true rfl) rfl (by decide) (lk_Machine_start hγ this ((mI (sI (sI M2 7 i6 18 (0 : Int32)) 7 i7 19 (-1 : Int32)) 7 i24 1) - (1 : Int32)) _ (sI (sI M2 7 i6 18 (0 : Int32)) 7 i7 19 (-1 : Int32)) h) (fun _ _ => Qv_r) (fun v M25 hp => Qv_k (R := fun st => E γ k_Machine_go 137 89 [some (vr (some (6, this))), none, some (vi v2), some (vi (mI M2 7 i5 12))] st M25 (Qi Q)) hp (fun h => ?_))
            refine E_goto (off := 7) (tgt := 96) (by decide +kernel) (by decide) ?_
            refine E_mask [true, false, true, true] rfl ?_
            exact lk_Machine_go_j96 hγ this Q (w_Machine_go_L2 this Q n) ih v2 (mI M2 7 i5 12) M25 h
set_option maxRecDepth 4096 in
theorem lk_Machine_go {γ : Gm} (hγ : Gk γ) (this : Nat) (a1 : Int32) (Q : Int32 → Mem → Prop) (M : Mem) (h : w_Machine_go this a1 Q M) : E γ k_Machine_go 137 0 [some (vr (some (6, this))), some (vi a1), none, none] [] M (Qi Q) := by
  unfold w_Machine_go at h
  refine E_blk (lv' := [some (vr (some (6, this))), some (vi a1), some (vi a1), none]) (st' := []) (M1 := M) (pc' := 2) (tb_Machine hγ) [.iload_n 1, .istore_n 2] (by decide +kernel) rfl rfl trivial ?_
  obtain ⟨n26, h⟩ := h
  refine E_mask [true, false, true, false] rfl ?_
  exact lk_Machine_go_L2 hγ this Q n26 a1 M h
