/-! B: what checker 1 has told stays as it was: printed by ck.py -/
def kf (f k : Nat) : Bool := (Nat.beq f 33 || Nat.beq f 35 || Nat.beq f 510) || (Nat.beq f 4 && (Nat.beq k 9 || Nat.beq k 10 || Nat.beq k 15 || Nat.beq k 16))
def K1 (M M' : Mem) : Prop := ∀ f k, kf f k = true → mI M' f 1 k = mI M f 1 k
theorem K1.rf (M : Mem) : K1 M M := fun _ _ _ => rfl
theorem K1.trans {M M1 M2 : Mem} (h : K1 M M1) (h1 : K1 M1 M2) : K1 M M2 := fun f k e => (h1 f k e).trans (h f k e)
theorem K1.of {M M1 M2 : Mem} (e : M2 = M1) (h : K1 M M1) : K1 M M2 := e ▸ h
theorem kf_cd {f k : Nat} (h : kf f k = true) : cd f k = 33 ∨ cd f k = 35 ∨ cd f k = 510 ∨ cd f k = 1809 ∨ cd f k = 1810 ∨ cd f k = 1815 ∨ cd f k = 1816 := by
  unfold kf at h
  simp only [Bool.or_eq_true, Bool.and_eq_true] at h
  rcases h with ((e | e) | e) | ⟨e, ((e1 | e1) | e1) | e1⟩
  · exact Or.inl (by rw [Nat.eq_of_beq_eq_true e]; rfl)
  · exact Or.inr (Or.inl (by rw [Nat.eq_of_beq_eq_true e]; rfl))
  · exact Or.inr (Or.inr (Or.inl (by rw [Nat.eq_of_beq_eq_true e]; rfl)))
  · exact Or.inr (Or.inr (Or.inr (Or.inl (by rw [Nat.eq_of_beq_eq_true e, Nat.eq_of_beq_eq_true e1]; rfl))))
  · exact Or.inr (Or.inr (Or.inr (Or.inr (Or.inl (by rw [Nat.eq_of_beq_eq_true e, Nat.eq_of_beq_eq_true e1]; rfl)))))
  · exact Or.inr (Or.inr (Or.inr (Or.inr (Or.inr (Or.inl (by rw [Nat.eq_of_beq_eq_true e, Nat.eq_of_beq_eq_true e1]; rfl))))))
  · exact Or.inr (Or.inr (Or.inr (Or.inr (Or.inr (Or.inr (by rw [Nat.eq_of_beq_eq_true e, Nat.eq_of_beq_eq_true e1]; rfl))))))
theorem K1.fr {S : Nat} {M M' : Mem} (h : Fr S M M') (e : S &&& 7133403121900744002702596035578781921004505975017144223022180768175329633806316206029762037905593808553332878175056792281020358870738871713401468066254528062050356039333212362417609066436847100082990364853696327894711164812538839177982651865265227073524340387368592330922692354584481565509153063586517780014240866455566557595446586228374117278242109598271929704285593491880738183517418380412125045093432919364872525155547574606377629171991796727819797046986474375303466702030456264495576403351914303778422718901579457471242962969189048566964813824 = 0) : K1 M M' := fun f k q => by
  refine (h.1 f k ?_ 1).1
  have t : ∀ b, (7133403121900744002702596035578781921004505975017144223022180768175329633806316206029762037905593808553332878175056792281020358870738871713401468066254528062050356039333212362417609066436847100082990364853696327894711164812538839177982651865265227073524340387368592330922692354584481565509153063586517780014240866455566557595446586228374117278242109598271929704285593491880738183517418380412125045093432919364872525155547574606377629171991796727819797046986474375303466702030456264495576403351914303778422718901579457471242962969189048566964813824 : Nat).testBit b = true → S.testBit b = false := fun b hb => by
    have z : (S &&& 7133403121900744002702596035578781921004505975017144223022180768175329633806316206029762037905593808553332878175056792281020358870738871713401468066254528062050356039333212362417609066436847100082990364853696327894711164812538839177982651865265227073524340387368592330922692354584481565509153063586517780014240866455566557595446586228374117278242109598271929704285593491880738183517418380412125045093432919364872525155547574606377629171991796727819797046986474375303466702030456264495576403351914303778422718901579457471242962969189048566964813824).testBit b = false := by rw [e]; exact Nat.zero_testBit b
    rw [Nat.testBit_and, hb, Bool.and_true] at z; exact z
  rcases kf_cd q with r | r | r | r | r | r | r <;> (rw [r]; exact t _ (by decide))
theorem K1.wJ {M M1 : Mem} {f i k : Nat} {v : Int64} (h : K1 M M1) : K1 M (sJ M1 f i k v) := h
theorem K1.wR {M M1 : Mem} {f i k : Nat} {v : Option (Nat × Nat)} (h : K1 M M1) : K1 M (sR M1 f i k v) := h
theorem K1.wI0 {M M1 : Mem} {f i k : Nat} {v : Int32} (e : kf f k = false) (h : K1 M M1) : K1 M (sI M1 f i k v) := h.trans (fun g j q => if_neg (fun z => by rw [z.1, z.2.2, e] at q; cases q))
theorem K1.wI0a {M M1 : Mem} {f i k : Nat} {v : Int32} (e : (Nat.ble 20 f && !(kf f 0)) = true) (h : K1 M M1) : K1 M (sI M1 f i k v) := h.wI0 (by
  obtain ⟨e1, e2⟩ := (Bool.and_eq_true _ _).mp e
  have e3 := Nat.le_of_ble_eq_true e1
  have n4 : Nat.beq f 4 = false := by rcases q : Nat.beq f 4 with _ | _; · rfl
                                      · have := Nat.eq_of_beq_eq_true q; omega
  unfold kf at e2 ⊢
  rw [n4, Bool.false_and, Bool.or_false] at e2 ⊢
  rcases q : (Nat.beq f 33 || Nat.beq f 35 || Nat.beq f 510) with _ | _
  · rfl
  · rw [q] at e2; cases e2)
theorem K1.wI1 {M M1 : Mem} {f i k : Nat} {v : Int32} (e : i ≠ 1) (h : K1 M M1) : K1 M (sI M1 f i k v) := h.trans (fun g j q => if_neg (fun z => e z.2.1.symm))
theorem kf_big {f k : Nat} (e : (Nat.ble 20 f && !(kf f 0)) = true) : kf f k = false := by
  obtain ⟨e1, e2⟩ := (Bool.and_eq_true _ _).mp e
  have e3 := Nat.le_of_ble_eq_true e1
  have n4 : Nat.beq f 4 = false := by
    rcases q : Nat.beq f 4 with _ | _
    · rfl
    · have := Nat.eq_of_beq_eq_true q; omega
  unfold kf at e2 ⊢
  rw [n4, Bool.false_and, Bool.or_false] at e2 ⊢
  rcases q : (Nat.beq f 33 || Nat.beq f 35 || Nat.beq f 510) with _ | _
  · rfl
  · rw [q] at e2; cases e2
theorem K1.wf0 {M M1 : Mem} {f i : Nat} {v : Int32} (e : (Nat.ble 20 f && !(kf f 0)) = true) (h : K1 M M1) : K1 M (flI M1 f i v) := h.trans (fun g j q => if_neg (fun z => by rw [z.1, kf_big e] at q; cases q))
theorem K1.wf1 {M M1 : Mem} {f i : Nat} {v : Int32} (e : i ≠ 1) (h : K1 M M1) : K1 M (flI M1 f i v) := h.trans (fun g j q => if_neg (fun z => e z.2.1.symm))
theorem K1.wmk {M M1 : Mem} {f i n : Nat} (e : (Nat.ble 20 f && !(kf f 0)) = true) (h : K1 M M1) : K1 M (mk M1 f i n) := h.trans (fun g j q => if_neg (fun z => by rw [z.1, kf_big e] at q; cases q))
theorem K1.wc0 {M M1 : Mem} {f i sp g j dp n : Nat} (e : (Nat.ble 20 g && !(kf g 0)) = true) (h : K1 M M1) : K1 M (cpI M1 f i sp g j dp n) := h.trans (fun x y q => if_neg (fun z => by rw [z.1, kf_big e] at q; cases q))
theorem K1.wc1 {M M1 : Mem} {f i sp g j dp n : Nat} (e : j ≠ 1) (h : K1 M M1) : K1 M (cpI M1 f i sp g j dp n) := h.trans (fun x y q => if_neg (fun z => e z.2.symm))
set_option maxRecDepth 20000 in
theorem mc_w_Checker_keep {this : Nat} {Q Q' : Mem → Prop} {M : Mem} (hn : this ≠ 1) (hQ : ∀ z0, K1 M z0 → Q z0 → Q' z0) : w_Checker_keep this Q M → w_Checker_keep this Q' M := by
  unfold w_Checker_keep
  exact (mf_ite (hQ _ (K1.rf M)) (mf_and fun _ => (mf_and fun _ => (Exists.imp fun M4 => (mf_and fun e1 => (mf_and fun _ => (mf_and fun _ => (mf_and fun _ => (mf_and fun _ => (mf_and fun _ => (Exists.imp fun M5 => (mf_and fun e2 => (mf_and fun _ => (mf_and fun _ => (mf_and fun _ => (mf_and fun _ => (mf_and fun _ => (Exists.imp fun M11 => (mf_and fun e3 => (hQ _ (K1.of e3 (K1.wc0 rfl (K1.of e2 (K1.wc0 rfl (K1.of e1 (K1.wI1 hn (K1.wI1 hn (K1.rf M))))))))))))))))))))))))))))
set_option maxRecDepth 20000 in
theorem mc_w_Checker_joins_L193 {this : Nat} {Q Q' : Int32 → Mem → Prop} {M0 : Mem} (hn : this ≠ 1) (hQ : ∀ z0 z1, K1 M0 z1 → Q z0 z1 → Q' z0 z1) : ∀ (n : Nat) (v2 : Int32) (v3 : Int32) (M : Mem), K1 M0 M → w_Checker_joins_L193 this Q n v2 v3 M → w_Checker_joins_L193 this Q' n v2 v3 M
  | 0, _, _, _ => fun _ h => h
  | n + 1, v2, v3, M => fun hf => by
    unfold w_Checker_joins_L193
    exact (mf_ite (hQ _ _ hf) (mf_and fun _ => (mf_and fun _ => (mf_w_Checker_joined (fun r29 M28 f1 => (mf_w_Checker_put (fun M30 f2 => (mc_w_Checker_joins_L193 hn hQ _ _ _ _ (K1.trans (K1.trans hf (K1.fr f1 rfl)) (K1.fr f2 rfl))))))))))
set_option maxRecDepth 20000 in
theorem mc_w_Checker_joins_L144 {this : Nat} {Q Q' : Int32 → Mem → Prop} {M0 : Mem} (hn : this ≠ 1) (hQ : ∀ z0 z1, K1 M0 z1 → Q z0 z1 → Q' z0 z1) : ∀ (n : Nat) (v2 : Int32) (v3 : Int32) (M : Mem), K1 M0 M → w_Checker_joins_L144 this Q n v2 v3 M → w_Checker_joins_L144 this Q' n v2 v3 M
  | 0, _, _, _ => fun _ h => h
  | n + 1, v2, v3, M => fun hf => by
    unfold w_Checker_joins_L144
    exact (Exists.imp fun i22 => (mf_and fun _ => (mf_and fun _ => (mf_ite (Exists.imp fun n31 => (mc_w_Checker_joins_L193 hn hQ _ _ _ _ hf)) (mf_and fun _ => (mf_and fun _ => (mf_w_Checker_joined (fun r35 M34 f1 => (mf_w_Checker_put (fun M36 f2 => (mc_w_Checker_joins_L144 hn hQ _ _ _ _ (K1.trans (K1.trans hf (K1.fr f1 rfl)) (K1.fr f2 rfl)))))))))))))
set_option maxRecDepth 20000 in
theorem mc_w_Checker_joins_L95 {this : Nat} {Q Q' : Int32 → Mem → Prop} {M0 : Mem} (hn : this ≠ 1) (hQ : ∀ z0 z1, K1 M0 z1 → Q z0 z1 → Q' z0 z1) : ∀ (n : Nat) (v2 : Int32) (v3 : Int32) (M : Mem), K1 M0 M → w_Checker_joins_L95 this Q n v2 v3 M → w_Checker_joins_L95 this Q' n v2 v3 M
  | 0, _, _, _ => fun _ h => h
  | n + 1, v2, v3, M => fun hf => by
    unfold w_Checker_joins_L95
    exact (mf_ite (Exists.imp fun n37 => (mc_w_Checker_joins_L144 hn hQ _ _ _ _ hf)) (mf_and fun _ => (mf_and fun _ => (mf_w_Checker_joined (fun r41 M40 f1 => (mf_ite (mf_w_Checker_breaks (fun r44 M43 f2 => (mf_and fun _ => (hQ _ _ (K1.trans (K1.trans hf (K1.fr f1 rfl)) (K1.fr f2 rfl)))))) (mc_w_Checker_joins_L95 hn hQ _ _ _ _ (K1.trans hf (K1.fr f1 rfl)))))))))
set_option maxRecDepth 20000 in
theorem mc_w_Checker_joins {this : Nat} {a1 : Int32} {Q Q' : Int32 → Mem → Prop} {M : Mem} (hn : this ≠ 1) (hQ : ∀ z0 z1, K1 M z1 → Q z0 z1 → Q' z0 z1) : w_Checker_joins this a1 Q M → w_Checker_joins this a1 Q' M := by
  unfold w_Checker_joins
  exact (mf_and fun _ => (mf_ite (mf_and fun _ => (mf_and fun _ => (Exists.imp fun M5 => (mf_and fun e1 => (mf_and fun _ => (mf_and fun _ => (mf_and fun _ => (mf_and fun _ => (mf_and fun _ => (Exists.imp fun M6 => (mf_and fun e2 => (mf_and fun _ => (mf_and fun _ => (mf_and fun _ => (mf_and fun _ => (mf_and fun _ => (Exists.imp fun M12 => (mf_and fun e3 => (mf_and fun _ => (hQ _ _ (K1.wI0 rfl (K1.of e3 (K1.wc0 rfl (K1.of e2 (K1.wc0 rfl (K1.of e1 (K1.wI1 hn (K1.wI1 hn (K1.rf M))))))))))))))))))))))))))))) (mf_and fun _ => (mf_ite (Exists.imp fun n45 => (mc_w_Checker_joins_L95 hn hQ _ _ _ _ (K1.rf M))) (mf_w_Checker_breaks (fun r47 M46 f4 => (mf_and fun _ => (hQ _ _ (K1.trans (K1.rf M) (K1.fr f4 rfl))))))))))
set_option maxRecDepth 20000 in
theorem mc_w_Checker_handles_j76 {this : Nat} {Q Q' : Int32 → Mem → Prop} {v1 : Int32} {v2 : Int32} {v3 : Int32} {s0 : Int32} {s1 : Int32} {M : Mem} {M0 : Mem} (hn : this ≠ 1) (hQ : ∀ z0 z1, K1 M0 z1 → Q z0 z1 → Q' z0 z1) : K1 M0 M → w_Checker_handles_j76 this Q v1 v2 v3 s0 s1 M → w_Checker_handles_j76 this Q' v1 v2 v3 s0 s1 M := by
  intro hf
  unfold w_Checker_handles_j76
  exact (mf_w_Works_kindOf (fun r11 M10 f1 => (mf_and fun _ => (Exists.imp fun i13 => (mf_and fun _ => (mf_and fun _ => (mc_w_Checker_joins hn (fun r16 M15 f2 => (mf_and fun _ => (mf_and fun _ => (hQ _ _ (K1.wI0a rfl (K1.wI0 rfl (K1.trans (K1.wI0a rfl (K1.trans hf (K1.fr f1 rfl))) f2))))))))))))))
set_option maxRecDepth 20000 in
theorem mc_w_Checker_handles {this : Nat} {a1 : Int32} {Q Q' : Int32 → Mem → Prop} {M : Mem} (hn : this ≠ 1) (hQ : ∀ z0 z1, K1 M z1 → Q z0 z1 → Q' z0 z1) : w_Checker_handles this a1 Q M → w_Checker_handles this a1 Q' M := by
  unfold w_Checker_handles
  exact (Exists.imp fun i1 => (mf_and fun _ => (mf_and fun _ => (mf_ite (mf_w_Checker_breaks (fun r5 M4 f1 => (mf_and fun _ => (hQ _ _ (K1.trans (K1.rf M) (K1.fr f1 rfl)))))) (mf_and fun _ => (Exists.imp fun i7 => (mf_and fun _ => (mf_and fun _ => (mf_ite (mc_w_Checker_handles_j76 hn hQ (K1.wI0 rfl (K1.rf M))) (Exists.imp fun i18 => (mf_and fun _ => (mf_and fun _ => (mc_w_Checker_handles_j76 hn hQ (K1.wI0 rfl (K1.rf M)))))))))))))))
set_option maxRecDepth 20000 in
theorem mc_w_Checker_handlers_j234 {this : Nat} {Q Q' : Int32 → Mem → Prop} {k2 k2' : Int32 → Mem → Prop} {v1 : Int32} {M : Mem} {M0 : Mem} (hn : this ≠ 1) (hQ : ∀ z0 z1, K1 M0 z1 → Q z0 z1 → Q' z0 z1) (hk2 : ∀ z0 z1, K1 M0 z1 → k2 z0 z1 → k2' z0 z1) : K1 M0 M → w_Checker_handlers_j234 this Q k2 v1 M → w_Checker_handlers_j234 this Q' k2' v1 M := by
  intro hf
  unfold w_Checker_handlers_j234
  exact (hk2 _ _ hf)
set_option maxRecDepth 20000 in
theorem mc_w_Checker_handlers_j186 {this : Nat} {Q Q' : Int32 → Mem → Prop} {k2 k2' : Int32 → Mem → Prop} {v1 : Int32} {v3 : Int32} {s0 : Int32} {M : Mem} {M0 : Mem} (hn : this ≠ 1) (hQ : ∀ z0 z1, K1 M0 z1 → Q z0 z1 → Q' z0 z1) (hk2 : ∀ z0 z1, K1 M0 z1 → k2 z0 z1 → k2' z0 z1) : K1 M0 M → w_Checker_handlers_j186 this Q k2 v1 v3 s0 M → w_Checker_handlers_j186 this Q' k2' v1 v3 s0 M := by
  intro hf
  unfold w_Checker_handlers_j186
  exact (mf_w_Works_kindOf (fun r32 M31 f1 => (Exists.imp fun i33 => (mf_and fun _ => (Exists.imp fun i34 => (mf_and fun _ => (mf_and fun _ => (Exists.imp fun i36 => (mf_and fun _ => (mf_and fun _ => (mf_and fun _ => (mf_w_Checker_fits (fun r40 M39 f2 => (mf_ite (mf_w_Checker_breaks (fun r43 M42 f3 => (mf_and fun _ => (hQ _ _ (K1.trans (K1.trans (K1.trans hf (K1.fr f1 rfl)) (K1.fr f2 rfl)) (K1.fr f3 rfl)))))) (mc_w_Checker_handlers_j234 hn hQ hk2 (K1.trans (K1.trans hf (K1.fr f1 rfl)) (K1.fr f2 rfl)))))))))))))))))
set_option maxRecDepth 20000 in
theorem mc_w_Checker_handlers_L2 {this : Nat} {Q Q' : Int32 → Mem → Prop} {M0 : Mem} (hn : this ≠ 1) (hQ : ∀ z0 z1, K1 M0 z1 → Q z0 z1 → Q' z0 z1) : ∀ (n : Nat) (v1 : Int32) (M : Mem), K1 M0 M → w_Checker_handlers_L2 this Q n v1 M → w_Checker_handlers_L2 this Q' n v1 M
  | 0, _, _ => fun _ h => h
  | n + 1, v1, M => fun hf => by
    unfold w_Checker_handlers_L2
    exact (Exists.imp fun i1 => (mf_and fun _ => (mf_and fun _ => (mf_ite (hQ _ _ hf) (Exists.imp fun i4 => (mf_and fun _ => (mf_and fun _ => (Exists.imp fun x6 => (mf_and fun _ => (Exists.imp fun i7 => (mf_and fun _ => (mf_and fun _ => (mf_ite (mc_w_Checker_handlers_j234 hn hQ (mc_w_Checker_handlers_L2 hn hQ n) hf) (Exists.imp fun i10 => (mf_and fun _ => (mf_and fun _ => (mf_ite (mf_ite (Exists.imp fun i14 => (mf_and fun _ => (mf_and fun _ => (Exists.imp fun i16 => (mf_and fun _ => (mf_and fun _ => (Exists.imp fun x18 => (mf_and fun _ => (mf_w_Checker_isRight (fun r20 M19 f1 => (mf_ite (hQ _ _ (K1.trans hf (K1.fr f1 rfl))) (Exists.imp fun i22 => (mf_and fun _ => (mf_and fun _ => (mf_ite (mf_w_Checker_localsFit (fun r26 M25 f2 => (mf_ite (hQ _ _ (K1.trans (K1.trans hf (K1.fr f1 rfl)) (K1.fr f2 rfl))) (Exists.imp fun i28 => (mf_and fun _ => (mf_and fun _ => (mf_ite (mc_w_Checker_handlers_j186 hn hQ (mc_w_Checker_handlers_L2 hn hQ n) (K1.trans (K1.trans hf (K1.fr f1 rfl)) (K1.fr f2 rfl))) (Exists.imp fun i44 => (mf_and fun _ => (mf_and fun _ => (mc_w_Checker_handlers_j186 hn hQ (mc_w_Checker_handlers_L2 hn hQ n) (K1.trans (K1.trans hf (K1.fr f1 rfl)) (K1.fr f2 rfl))))))))))))) (mf_w_Checker_breaks (fun r47 M46 f3 => (mf_and fun _ => (hQ _ _ (K1.trans (K1.trans hf (K1.fr f1 rfl)) (K1.fr f3 rfl))))))))))))))))))))) (mc_w_Checker_handles hn (fun r49 M48 f4 => (mf_ite (hQ _ _ (K1.trans hf f4)) (mc_w_Checker_handlers_j234 hn hQ (mc_w_Checker_handlers_L2 hn hQ n) (K1.trans hf f4)))))) (mc_w_Checker_handlers_j234 hn hQ (mc_w_Checker_handlers_L2 hn hQ n) hf))))))))))))))))))
set_option maxRecDepth 20000 in
theorem mc_w_Checker_handlers {this : Nat} {Q Q' : Int32 → Mem → Prop} {M : Mem} (hn : this ≠ 1) (hQ : ∀ z0 z1, K1 M z1 → Q z0 z1 → Q' z0 z1) : w_Checker_handlers this Q M → w_Checker_handlers this Q' M := by
  unfold w_Checker_handlers
  exact (Exists.imp fun n51 => (mc_w_Checker_handlers_L2 hn hQ _ _ _ (K1.rf M)))
set_option maxRecDepth 20000 in
theorem mc_w_Checker_call_j315 {this : Nat} {Q Q' : Int32 → Mem → Prop} {M : Mem} {M0 : Mem} (hn : this ≠ 1) (hQ : ∀ z0 z1, K1 M0 z1 → Q z0 z1 → Q' z0 z1) : K1 M0 M → w_Checker_call_j315 this Q M → w_Checker_call_j315 this Q' M := by
  intro hf
  unfold w_Checker_call_j315
  exact (mf_w_Checker_breaks (fun r32 M31 f1 => (mf_and fun _ => (hQ _ _ (K1.trans hf (K1.fr f1 rfl))))))
set_option maxRecDepth 20000 in
theorem mc_w_Checker_call_j378 {this : Nat} {Q Q' : Int32 → Mem → Prop} {v2 : Int32} {M : Mem} {M0 : Mem} (hn : this ≠ 1) (hQ : ∀ z0 z1, K1 M0 z1 → Q z0 z1 → Q' z0 z1) : K1 M0 M → w_Checker_call_j378 this Q v2 M → w_Checker_call_j378 this Q' v2 M := by
  intro hf
  unfold w_Checker_call_j378
  exact (Exists.imp fun i34 => (mf_and fun _ => (mf_w_World_refType (fun r36 M35 f1 => (mf_ite (hQ _ _ (K1.trans hf (K1.fr f1 rfl))) (Exists.imp fun i38 => (mf_and fun _ => (mf_w_World_refType (fun r40 M39 f2 => (mf_w_Checker_push (fun r42 M41 f3 => (mf_ite (hQ _ _ (K1.trans (K1.trans (K1.trans hf (K1.fr f1 rfl)) (K1.fr f2 rfl)) (K1.fr f3 rfl))) (hQ _ _ (K1.trans (K1.trans (K1.trans hf (K1.fr f1 rfl)) (K1.fr f2 rfl)) (K1.fr f3 rfl)))))))))))))))
set_option maxRecDepth 20000 in
theorem mc_w_Checker_call_j366 {this : Nat} {Q Q' : Int32 → Mem → Prop} {v2 : Int32} {s0 : Int32} {s1 : Int32} {M : Mem} {M0 : Mem} (hn : this ≠ 1) (hQ : ∀ z0 z1, K1 M0 z1 → Q z0 z1 → Q' z0 z1) : K1 M0 M → w_Checker_call_j366 this Q v2 s0 s1 M → w_Checker_call_j366 this Q' v2 s0 s1 M := by
  intro hf
  unfold w_Checker_call_j366
  exact (mf_w_Checker_change (fun M47 f1 => (mc_w_Checker_handlers hn (fun r49 M48 f2 => (mf_ite (hQ _ _ (K1.trans (K1.trans hf (K1.fr f1 rfl)) f2)) (mc_w_Checker_call_j378 hn hQ (K1.trans (K1.trans hf (K1.fr f1 rfl)) f2)))))))
set_option maxRecDepth 20000 in
theorem mc_w_Checker_call_j322 {this : Nat} {Q Q' : Int32 → Mem → Prop} {v2 : Int32} {v4 : Int32} {v6 : Int32} {v7 : Int32} {M : Mem} {M0 : Mem} (hn : this ≠ 1) (hQ : ∀ z0 z1, K1 M0 z1 → Q z0 z1 → Q' z0 z1) : K1 M0 M → w_Checker_call_j322 this Q v2 v4 v6 v7 M → w_Checker_call_j322 this Q' v2 v4 v6 v7 M := by
  intro hf
  unfold w_Checker_call_j322
  exact (mf_ite (mc_w_Checker_call_j378 hn hQ (K1.wI0 rfl hf)) (mf_ite (mf_w_Checker_classKind (fun r46 M45 f1 => (mc_w_Checker_call_j366 hn hQ (K1.trans (K1.wI0 rfl hf) (K1.fr f1 rfl))))) (Exists.imp fun i51 => (mf_and fun _ => (mf_w_World_refClass (fun r53 M52 f2 => (mf_w_Works_kindOf (fun r55 M54 f3 => (mc_w_Checker_call_j366 hn hQ (K1.trans (K1.trans (K1.wI0 rfl hf) (K1.fr f2 rfl)) (K1.fr f3 rfl)))))))))))
set_option maxRecDepth 20000 in
theorem mc_w_Checker_call_j269 {this : Nat} {Q Q' : Int32 → Mem → Prop} {v1 : Int32} {v2 : Int32} {v4 : Int32} {v6 : Int32} {v7 : Int32} {M : Mem} {M0 : Mem} (hn : this ≠ 1) (hQ : ∀ z0 z1, K1 M0 z1 → Q z0 z1 → Q' z0 z1) : K1 M0 M → w_Checker_call_j269 this Q v1 v2 v4 v6 v7 M → w_Checker_call_j269 this Q' v1 v2 v4 v6 v7 M := by
  intro hf
  unfold w_Checker_call_j269
  exact (mf_ite (mf_ite (Exists.imp fun i25 => (mf_and fun _ => (mf_w_World_refClass (fun r27 M26 f1 => (mf_w_Checker_isNear (fun r29 M28 f2 => (mf_ite (mc_w_Checker_call_j315 hn hQ (K1.trans (K1.trans hf (K1.fr f1 rfl)) (K1.fr f2 rfl))) (mc_w_Checker_call_j322 hn hQ (K1.trans (K1.trans hf (K1.fr f1 rfl)) (K1.fr f2 rfl)))))))))) (Exists.imp fun i56 => (mf_and fun _ => (mf_w_World_refClass (fun r58 M57 f3 => (mf_w_Checker_makesRight (fun r60 M59 f4 => (mf_ite (mc_w_Checker_call_j315 hn hQ (K1.trans (K1.trans hf (K1.fr f3 rfl)) (K1.fr f4 rfl))) (mc_w_Checker_call_j322 hn hQ (K1.trans (K1.trans hf (K1.fr f3 rfl)) (K1.fr f4 rfl))))))))))) (mc_w_Checker_call_j322 hn hQ hf))
set_option maxRecDepth 20000 in
theorem mc_w_Checker_call_j251 {this : Nat} {Q Q' : Int32 → Mem → Prop} {v1 : Int32} {v2 : Int32} {v4 : Int32} {v6 : Int32} {v7 : Int32} {M : Mem} {M0 : Mem} (hn : this ≠ 1) (hQ : ∀ z0 z1, K1 M0 z1 → Q z0 z1 → Q' z0 z1) : K1 M0 M → w_Checker_call_j251 this Q v1 v2 v4 v6 v7 M → w_Checker_call_j251 this Q' v1 v2 v4 v6 v7 M := by
  intro hf
  unfold w_Checker_call_j251
  exact (mf_ite (mc_w_Checker_call_j269 hn hQ hf) (mf_ite (mc_w_Checker_call_j269 hn hQ hf) (mf_w_Checker_breaks (fun r64 M63 f1 => (mf_and fun _ => (hQ _ _ (K1.trans hf (K1.fr f1 rfl))))))))
set_option maxRecDepth 20000 in
theorem mc_w_Checker_call_L192 {this : Nat} {Q Q' : Int32 → Mem → Prop} {M0 : Mem} (hn : this ≠ 1) (hQ : ∀ z0 z1, K1 M0 z1 → Q z0 z1 → Q' z0 z1) : ∀ (n : Nat) (v1 : Int32) (v2 : Int32) (v3 : Int32) (v4 : Int32) (v5 : Int32) (v6 : Int32) (v7 : Int32) (v8 : Int32) (v9 : Int32) (M : Mem), K1 M0 M → w_Checker_call_L192 this Q n v1 v2 v3 v4 v5 v6 v7 v8 v9 M → w_Checker_call_L192 this Q' n v1 v2 v3 v4 v5 v6 v7 v8 v9 M
  | 0, _, _, _, _, _, _, _, _, _, _ => fun _ h => h
  | n + 1, v1, v2, v3, v4, v5, v6, v7, v8, v9, M => fun hf => by
    unfold w_Checker_call_L192
    exact (mf_ite (mf_ite (mc_w_Checker_call_j251 hn hQ hf) (mf_w_Checker_isMade (fun r66 M65 f1 => (mf_ite (hQ _ _ (K1.trans hf (K1.fr f1 rfl))) (mc_w_Checker_call_j251 hn hQ (K1.trans hf (K1.fr f1 rfl))))))) (Exists.imp fun i68 => (mf_and fun _ => (mf_and fun _ => (mf_w_Checker_isMade (fun r71 M70 f2 => (mf_ite (hQ _ _ (K1.trans hf (K1.fr f2 rfl))) (mc_w_Checker_call_L192 hn hQ _ _ _ _ _ _ _ _ _ _ _ (K1.trans hf (K1.fr f2 rfl))))))))))
set_option maxRecDepth 20000 in
theorem mc_w_Checker_call_j189 {this : Nat} {Q Q' : Int32 → Mem → Prop} {v1 : Int32} {v2 : Int32} {v3 : Int32} {v4 : Int32} {v5 : Int32} {v6 : Int32} {v7 : Int32} {v8 : Int32} {M : Mem} {M0 : Mem} (hn : this ≠ 1) (hQ : ∀ z0 z1, K1 M0 z1 → Q z0 z1 → Q' z0 z1) : K1 M0 M → w_Checker_call_j189 this Q v1 v2 v3 v4 v5 v6 v7 v8 M → w_Checker_call_j189 this Q' v1 v2 v3 v4 v5 v6 v7 v8 M := by
  intro hf
  unfold w_Checker_call_j189
  exact (Exists.imp fun n73 => (mc_w_Checker_call_L192 hn hQ _ _ _ _ _ _ _ _ _ _ _ hf))
set_option maxRecDepth 20000 in
theorem mc_w_Checker_call_L130 {this : Nat} {Q Q' : Int32 → Mem → Prop} {M0 : Mem} (hn : this ≠ 1) (hQ : ∀ z0 z1, K1 M0 z1 → Q z0 z1 → Q' z0 z1) : ∀ (n : Nat) (v1 : Int32) (v2 : Int32) (v3 : Int32) (v4 : Int32) (v5 : Int32) (v6 : Int32) (v7 : Int32) (v8 : Int32) (v9 : Int32) (M : Mem), K1 M0 M → w_Checker_call_L130 this Q n v1 v2 v3 v4 v5 v6 v7 v8 v9 M → w_Checker_call_L130 this Q' n v1 v2 v3 v4 v5 v6 v7 v8 v9 M
  | 0, _, _, _, _, _, _, _, _, _, _ => fun _ h => h
  | n + 1, v1, v2, v3, v4, v5, v6, v7, v8, v9, M => fun hf => by
    unfold w_Checker_call_L130
    exact (mf_ite (mf_ite (mc_w_Checker_call_j189 hn hQ hf) (mf_w_Checker_is (fun r75 M74 f1 => (mf_ite (hQ _ _ (K1.trans hf (K1.fr f1 rfl))) (mc_w_Checker_call_j189 hn hQ (K1.trans hf (K1.fr f1 rfl))))))) (Exists.imp fun i77 => (mf_and fun _ => (mf_and fun _ => (mf_w_Checker_is (fun r80 M79 f2 => (mf_ite (hQ _ _ (K1.trans hf (K1.fr f2 rfl))) (mc_w_Checker_call_L130 hn hQ _ _ _ _ _ _ _ _ _ _ _ (K1.trans hf (K1.fr f2 rfl))))))))))
set_option maxRecDepth 20000 in
theorem mc_w_Checker_call_j125 {this : Nat} {Q Q' : Int32 → Mem → Prop} {v1 : Int32} {v2 : Int32} {v3 : Int32} {v4 : Int32} {v5 : Int32} {v6 : Int32} {v7 : Int32} {s0 : Int32} {M : Mem} {M0 : Mem} (hn : this ≠ 1) (hQ : ∀ z0 z1, K1 M0 z1 → Q z0 z1 → Q' z0 z1) : K1 M0 M → w_Checker_call_j125 this Q v1 v2 v3 v4 v5 v6 v7 s0 M → w_Checker_call_j125 this Q' v1 v2 v3 v4 v5 v6 v7 s0 M := by
  intro hf
  unfold w_Checker_call_j125
  exact (Exists.imp fun n82 => (mc_w_Checker_call_L130 hn hQ _ _ _ _ _ _ _ _ _ _ _ hf))
set_option maxRecDepth 20000 in
theorem mc_w_Checker_call_j89 {this : Nat} {Q Q' : Int32 → Mem → Prop} {v1 : Int32} {v2 : Int32} {v3 : Int32} {v4 : Int32} {v5 : Int32} {v6 : Int32} {s0 : Int32} {M : Mem} {M0 : Mem} (hn : this ≠ 1) (hQ : ∀ z0 z1, K1 M0 z1 → Q z0 z1 → Q' z0 z1) : K1 M0 M → w_Checker_call_j89 this Q v1 v2 v3 v4 v5 v6 s0 M → w_Checker_call_j89 this Q' v1 v2 v3 v4 v5 v6 s0 M := by
  intro hf
  unfold w_Checker_call_j89
  exact (mf_ite (mf_ite (mf_w_Checker_classKind (fun r17 M16 f1 => (mc_w_Checker_call_j125 hn hQ (K1.trans hf (K1.fr f1 rfl))))) (mc_w_Checker_call_j125 hn hQ hf)) (Exists.imp fun i83 => (mf_and fun _ => (mf_w_World_refClass (fun r85 M84 f2 => (mf_w_Works_kindOf (fun r87 M86 f3 => (mc_w_Checker_call_j125 hn hQ (K1.trans (K1.trans hf (K1.fr f2 rfl)) (K1.fr f3 rfl))))))))))
set_option maxRecDepth 20000 in
theorem mc_w_Checker_call_j53 {this : Nat} {Q Q' : Int32 → Mem → Prop} {v1 : Int32} {v2 : Int32} {v3 : Int32} {v4 : Int32} {v5 : Int32} {s0 : Int32} {s1 : Int32} {M : Mem} {M0 : Mem} (hn : this ≠ 1) (hQ : ∀ z0 z1, K1 M0 z1 → Q z0 z1 → Q' z0 z1) : K1 M0 M → w_Checker_call_j53 this Q v1 v2 v3 v4 v5 s0 s1 M → w_Checker_call_j53 this Q' v1 v2 v3 v4 v5 s0 s1 M := by
  intro hf
  unfold w_Checker_call_j53
  exact (mf_w_Checker_needs (fun r11 M10 f1 => (mf_ite (hQ _ _ (K1.trans hf (K1.fr f1 rfl))) (mf_ite (mc_w_Checker_call_j89 hn hQ (K1.trans hf (K1.fr f1 rfl))) (mf_and fun _ => (mc_w_Checker_call_j89 hn hQ (K1.trans hf (K1.fr f1 rfl))))))))
set_option maxRecDepth 20000 in
theorem mc_w_Checker_call_j40 {this : Nat} {Q Q' : Int32 → Mem → Prop} {v1 : Int32} {v2 : Int32} {v3 : Int32} {v4 : Int32} {s0 : Int32} {M : Mem} {M0 : Mem} (hn : this ≠ 1) (hQ : ∀ z0 z1, K1 M0 z1 → Q z0 z1 → Q' z0 z1) : K1 M0 M → w_Checker_call_j40 this Q v1 v2 v3 v4 s0 M → w_Checker_call_j40 this Q' v1 v2 v3 v4 s0 M := by
  intro hf
  unfold w_Checker_call_j40
  exact (mf_ite (mc_w_Checker_call_j53 hn hQ hf) (mc_w_Checker_call_j53 hn hQ hf))
set_option maxRecDepth 20000 in
theorem mc_w_Checker_call_j27 {this : Nat} {Q Q' : Int32 → Mem → Prop} {v1 : Int32} {v2 : Int32} {v3 : Int32} {s0 : Int32} {M : Mem} {M0 : Mem} (hn : this ≠ 1) (hQ : ∀ z0 z1, K1 M0 z1 → Q z0 z1 → Q' z0 z1) : K1 M0 M → w_Checker_call_j27 this Q v1 v2 v3 s0 M → w_Checker_call_j27 this Q' v1 v2 v3 s0 M := by
  intro hf
  unfold w_Checker_call_j27
  exact (mf_ite (mc_w_Checker_call_j40 hn hQ hf) (mc_w_Checker_call_j40 hn hQ hf))
set_option maxRecDepth 20000 in
theorem mc_w_Checker_call {this : Nat} {a1 : Int32} {a2 : Int32} {Q Q' : Int32 → Mem → Prop} {M : Mem} (hn : this ≠ 1) (hQ : ∀ z0 z1, K1 M z1 → Q z0 z1 → Q' z0 z1) : w_Checker_call this a1 a2 Q M → w_Checker_call this a1 a2 Q' M := by
  unfold w_Checker_call
  exact (Exists.imp fun i1 => (mf_and fun _ => (mf_w_World_refArguments (fun r3 M2 f1 => (Exists.imp fun i4 => (mf_and fun _ => (mf_w_World_refName (fun r6 M5 f2 => (mf_ite (mc_w_Checker_call_j27 hn hQ (K1.trans (K1.trans (K1.rf M) (K1.fr f1 rfl)) (K1.fr f2 rfl))) (mc_w_Checker_call_j27 hn hQ (K1.trans (K1.trans (K1.rf M) (K1.fr f1 rfl)) (K1.fr f2 rfl))))))))))))
set_option maxRecDepth 20000 in
theorem mc_w_Checker_store {this : Nat} {a1 : Int32} {Q Q' : Int32 → Mem → Prop} {M : Mem} (hn : this ≠ 1) (hQ : ∀ z0 z1, K1 M z1 → Q z0 z1 → Q' z0 z1) : w_Checker_store this a1 Q M → w_Checker_store this a1 Q' M := by
  unfold w_Checker_store
  exact (mf_and fun _ => (mf_and fun _ => (Exists.imp fun M3 => (mf_and fun e1 => (mc_w_Checker_handlers hn (fun r5 M4 f2 => (mf_and fun _ => (hQ _ _ (K1.trans (K1.of e1 (K1.wI0a rfl (K1.wI0 rfl (K1.rf M)))) f2)))))))))
set_option maxRecDepth 20000 in
theorem mc_w_Checker_act_j78 {this : Nat} {Q Q' : Int32 → Mem → Prop} {M : Mem} {M0 : Mem} (hn : this ≠ 1) (hQ : ∀ z0 z1, K1 M0 z1 → Q z0 z1 → Q' z0 z1) : K1 M0 M → w_Checker_act_j78 this Q M → w_Checker_act_j78 this Q' M := by
  intro hf
  unfold w_Checker_act_j78
  exact (mf_w_Checker_wants1 (fun r13 M12 f1 => (mf_ite (hQ _ _ (K1.trans hf (K1.fr f1 rfl))) (mf_w_Checker_comes (fun r16 M15 f2 => (mf_ite (hQ _ _ (K1.trans (K1.trans hf (K1.fr f1 rfl)) (K1.fr f2 rfl))) (hQ _ _ (K1.trans (K1.trans hf (K1.fr f1 rfl)) (K1.fr f2 rfl)))))))))
set_option maxRecDepth 20000 in
theorem mc_w_Checker_act_j657 {this : Nat} {Q Q' : Int32 → Mem → Prop} {v3 : Int32} {M : Mem} {M0 : Mem} (hn : this ≠ 1) (hQ : ∀ z0 z1, K1 M0 z1 → Q z0 z1 → Q' z0 z1) : K1 M0 M → w_Checker_act_j657 this Q v3 M → w_Checker_act_j657 this Q' v3 M := by
  intro hf
  unfold w_Checker_act_j657
  exact (mc_w_Checker_store hn (fun r296 M295 f1 => (mf_ite (hQ _ _ (K1.trans hf f1)) (hQ _ _ (K1.trans hf f1)))))
set_option maxRecDepth 20000 in
theorem mc_w_Checker_act_j564 {this : Nat} {Q Q' : Int32 → Mem → Prop} {v3 : Int32} {M : Mem} {M0 : Mem} (hn : this ≠ 1) (hQ : ∀ z0 z1, K1 M0 z1 → Q z0 z1 → Q' z0 z1) : K1 M0 M → w_Checker_act_j564 this Q v3 M → w_Checker_act_j564 this Q' v3 M := by
  intro hf
  unfold w_Checker_act_j564
  exact (mf_and fun _ => (mf_w_Checker_push (fun r323 M322 f1 => (mf_ite (hQ _ _ (K1.trans hf (K1.fr f1 rfl))) (hQ _ _ (K1.trans hf (K1.fr f1 rfl)))))))
set_option maxRecDepth 20000 in
theorem mc_w_Checker_act_j476 {this : Nat} {Q Q' : Int32 → Mem → Prop} {M : Mem} {M0 : Mem} (hn : this ≠ 1) (hQ : ∀ z0 z1, K1 M0 z1 → Q z0 z1 → Q' z0 z1) : K1 M0 M → w_Checker_act_j476 this Q M → w_Checker_act_j476 this Q' M := by
  intro hf
  unfold w_Checker_act_j476
  exact (mf_w_Checker_push (fun r331 M330 f1 => (mf_ite (hQ _ _ (K1.trans hf (K1.fr f1 rfl))) (hQ _ _ (K1.trans hf (K1.fr f1 rfl))))))
set_option maxRecDepth 20000 in
theorem mc_w_Checker_act_j61 {this : Nat} {Q Q' : Int32 → Mem → Prop} {v2 : Int32} {v3 : Int32} {M : Mem} {M0 : Mem} (hn : this ≠ 1) (hQ : ∀ z0 z1, K1 M0 z1 → Q z0 z1 → Q' z0 z1) : K1 M0 M → w_Checker_act_j61 this Q v2 v3 M → w_Checker_act_j61 this Q' v2 v3 M := by
  intro hf
  unfold w_Checker_act_j61
  exact (mf_w_Works_isIn (fun r9 M8 f1 => (mf_ite (mf_ite (mc_w_Checker_act_j78 hn hQ (K1.trans hf (K1.fr f1 rfl))) (mf_w_Works_isIn (fun r19 M18 f2 => (mf_ite (mf_w_Works_isIn (fun r22 M21 f3 => (mf_ite (mf_w_Works_isIn (fun r25 M24 f4 => (mf_ite (mf_ite (hQ _ _ (K1.trans (K1.trans (K1.trans (K1.trans hf (K1.fr f1 rfl)) (K1.fr f2 rfl)) (K1.fr f3 rfl)) (K1.fr f4 rfl))) (mf_ite (mf_w_Checker_push (fun r339 M338 f5 => (mf_and fun _ => (hQ _ _ (K1.trans (K1.trans (K1.trans (K1.trans (K1.trans hf (K1.fr f1 rfl)) (K1.fr f2 rfl)) (K1.fr f3 rfl)) (K1.fr f4 rfl)) (K1.fr f5 rfl)))))) (mf_ite (mf_w_Checker_push (fun r337 M336 f6 => (mf_and fun _ => (hQ _ _ (K1.trans (K1.trans (K1.trans (K1.trans (K1.trans hf (K1.fr f1 rfl)) (K1.fr f2 rfl)) (K1.fr f3 rfl)) (K1.fr f4 rfl)) (K1.fr f6 rfl)))))) (mf_ite (mf_w_Checker_isThere (fun r326 M325 f7 => (mf_ite (hQ _ _ (K1.trans (K1.trans (K1.trans (K1.trans (K1.trans hf (K1.fr f1 rfl)) (K1.fr f2 rfl)) (K1.fr f3 rfl)) (K1.fr f4 rfl)) (K1.fr f7 rfl))) (mf_and fun _ => (mf_ite (mc_w_Checker_act_j476 hn hQ (K1.trans (K1.trans (K1.trans (K1.trans (K1.trans hf (K1.fr f1 rfl)) (K1.fr f2 rfl)) (K1.fr f3 rfl)) (K1.fr f4 rfl)) (K1.fr f7 rfl))) (mf_w_Checker_breaks (fun r334 M333 f8 => (mf_ite (hQ _ _ (K1.trans (K1.trans (K1.trans (K1.trans (K1.trans (K1.trans hf (K1.fr f1 rfl)) (K1.fr f2 rfl)) (K1.fr f3 rfl)) (K1.fr f4 rfl)) (K1.fr f7 rfl)) (K1.fr f8 rfl))) (mc_w_Checker_act_j476 hn hQ (K1.trans (K1.trans (K1.trans (K1.trans (K1.trans (K1.trans hf (K1.fr f1 rfl)) (K1.fr f2 rfl)) (K1.fr f3 rfl)) (K1.fr f4 rfl)) (K1.fr f7 rfl)) (K1.fr f8 rfl))))))))))) (mf_ite (mf_w_Checker_isThere (fun r308 M307 f9 => (mf_ite (hQ _ _ (K1.trans (K1.trans (K1.trans (K1.trans (K1.trans hf (K1.fr f1 rfl)) (K1.fr f2 rfl)) (K1.fr f3 rfl)) (K1.fr f4 rfl)) (K1.fr f9 rfl))) (mf_and fun _ => (mf_w_Works_isReference (fun r312 M311 f10 => (mf_ite (mf_and fun _ => (mf_w_Checker_isUnmade (fun r316 M315 f11 => (mf_ite (mf_w_Checker_breaks (fun r319 M318 f12 => (mf_ite (hQ _ _ (K1.trans (K1.trans (K1.trans (K1.trans (K1.trans (K1.trans (K1.trans (K1.trans hf (K1.fr f1 rfl)) (K1.fr f2 rfl)) (K1.fr f3 rfl)) (K1.fr f4 rfl)) (K1.fr f9 rfl)) (K1.fr f10 rfl)) (K1.fr f11 rfl)) (K1.fr f12 rfl))) (mc_w_Checker_act_j564 hn hQ (K1.trans (K1.trans (K1.trans (K1.trans (K1.trans (K1.trans (K1.trans (K1.trans hf (K1.fr f1 rfl)) (K1.fr f2 rfl)) (K1.fr f3 rfl)) (K1.fr f4 rfl)) (K1.fr f9 rfl)) (K1.fr f10 rfl)) (K1.fr f11 rfl)) (K1.fr f12 rfl)))))) (mc_w_Checker_act_j564 hn hQ (K1.trans (K1.trans (K1.trans (K1.trans (K1.trans (K1.trans (K1.trans hf (K1.fr f1 rfl)) (K1.fr f2 rfl)) (K1.fr f3 rfl)) (K1.fr f4 rfl)) (K1.fr f9 rfl)) (K1.fr f10 rfl)) (K1.fr f11 rfl))))))) (mc_w_Checker_act_j564 hn hQ (K1.trans (K1.trans (K1.trans (K1.trans (K1.trans (K1.trans hf (K1.fr f1 rfl)) (K1.fr f2 rfl)) (K1.fr f3 rfl)) (K1.fr f4 rfl)) (K1.fr f9 rfl)) (K1.fr f10 rfl)))))))))) (mf_ite (mf_w_Checker_isThere (fun r299 M298 f13 => (mf_ite (hQ _ _ (K1.trans (K1.trans (K1.trans (K1.trans (K1.trans hf (K1.fr f1 rfl)) (K1.fr f2 rfl)) (K1.fr f3 rfl)) (K1.fr f4 rfl)) (K1.fr f13 rfl))) (mf_w_Checker_wants1 (fun r302 M301 f14 => (mf_ite (hQ _ _ (K1.trans (K1.trans (K1.trans (K1.trans (K1.trans (K1.trans hf (K1.fr f1 rfl)) (K1.fr f2 rfl)) (K1.fr f3 rfl)) (K1.fr f4 rfl)) (K1.fr f13 rfl)) (K1.fr f14 rfl))) (mc_w_Checker_store hn (fun r305 M304 f15 => (mf_ite (hQ _ _ (K1.trans (K1.trans (K1.trans (K1.trans (K1.trans (K1.trans (K1.trans hf (K1.fr f1 rfl)) (K1.fr f2 rfl)) (K1.fr f3 rfl)) (K1.fr f4 rfl)) (K1.fr f13 rfl)) (K1.fr f14 rfl)) f15)) (hQ _ _ (K1.trans (K1.trans (K1.trans (K1.trans (K1.trans (K1.trans (K1.trans hf (K1.fr f1 rfl)) (K1.fr f2 rfl)) (K1.fr f3 rfl)) (K1.fr f4 rfl)) (K1.fr f13 rfl)) (K1.fr f14 rfl)) f15))))))))))) (mf_ite (mf_w_Checker_isThere (fun r283 M282 f16 => (mf_ite (hQ _ _ (K1.trans (K1.trans (K1.trans (K1.trans (K1.trans hf (K1.fr f1 rfl)) (K1.fr f2 rfl)) (K1.fr f3 rfl)) (K1.fr f4 rfl)) (K1.fr f16 rfl))) (mf_w_Checker_needs (fun r286 M285 f17 => (mf_ite (hQ _ _ (K1.trans (K1.trans (K1.trans (K1.trans (K1.trans (K1.trans hf (K1.fr f1 rfl)) (K1.fr f2 rfl)) (K1.fr f3 rfl)) (K1.fr f4 rfl)) (K1.fr f16 rfl)) (K1.fr f17 rfl))) (mf_and fun _ => (mf_w_Checker_isUnmade (fun r290 M289 f18 => (mf_ite (mf_w_Checker_is (fun r293 M292 f19 => (mf_ite (hQ _ _ (K1.trans (K1.trans (K1.trans (K1.trans (K1.trans (K1.trans (K1.trans (K1.trans hf (K1.fr f1 rfl)) (K1.fr f2 rfl)) (K1.fr f3 rfl)) (K1.fr f4 rfl)) (K1.fr f16 rfl)) (K1.fr f17 rfl)) (K1.fr f18 rfl)) (K1.fr f19 rfl))) (mc_w_Checker_act_j657 hn hQ (K1.trans (K1.trans (K1.trans (K1.trans (K1.trans (K1.trans (K1.trans (K1.trans hf (K1.fr f1 rfl)) (K1.fr f2 rfl)) (K1.fr f3 rfl)) (K1.fr f4 rfl)) (K1.fr f16 rfl)) (K1.fr f17 rfl)) (K1.fr f18 rfl)) (K1.fr f19 rfl)))))) (mc_w_Checker_act_j657 hn hQ (K1.trans (K1.trans (K1.trans (K1.trans (K1.trans (K1.trans (K1.trans hf (K1.fr f1 rfl)) (K1.fr f2 rfl)) (K1.fr f3 rfl)) (K1.fr f4 rfl)) (K1.fr f16 rfl)) (K1.fr f17 rfl)) (K1.fr f18 rfl))))))))))))) (mf_ite (mf_w_Checker_isThere (fun r275 M274 f20 => (mf_ite (hQ _ _ (K1.trans (K1.trans (K1.trans (K1.trans (K1.trans hf (K1.fr f1 rfl)) (K1.fr f2 rfl)) (K1.fr f3 rfl)) (K1.fr f4 rfl)) (K1.fr f20 rfl))) (mf_and fun _ => (mf_ite (hQ _ _ (K1.trans (K1.trans (K1.trans (K1.trans (K1.trans hf (K1.fr f1 rfl)) (K1.fr f2 rfl)) (K1.fr f3 rfl)) (K1.fr f4 rfl)) (K1.fr f20 rfl))) (mf_w_Checker_breaks (fun r280 M279 f21 => (mf_ite (hQ _ _ (K1.trans (K1.trans (K1.trans (K1.trans (K1.trans (K1.trans hf (K1.fr f1 rfl)) (K1.fr f2 rfl)) (K1.fr f3 rfl)) (K1.fr f4 rfl)) (K1.fr f20 rfl)) (K1.fr f21 rfl))) (hQ _ _ (K1.trans (K1.trans (K1.trans (K1.trans (K1.trans (K1.trans hf (K1.fr f1 rfl)) (K1.fr f2 rfl)) (K1.fr f3 rfl)) (K1.fr f4 rfl)) (K1.fr f20 rfl)) (K1.fr f21 rfl))))))))))) (mf_ite (mf_w_Checker_leaves (fun r273 M272 f22 => (mf_and fun _ => (hQ _ _ (K1.trans (K1.trans (K1.trans (K1.trans (K1.trans hf (K1.fr f1 rfl)) (K1.fr f2 rfl)) (K1.fr f3 rfl)) (K1.fr f4 rfl)) (K1.fr f22 rfl)))))) (mf_ite (mf_w_Checker_leaves (fun r271 M270 f23 => (mf_and fun _ => (hQ _ _ (K1.trans (K1.trans (K1.trans (K1.trans (K1.trans hf (K1.fr f1 rfl)) (K1.fr f2 rfl)) (K1.fr f3 rfl)) (K1.fr f4 rfl)) (K1.fr f23 rfl)))))) (mf_ite (mf_w_Checker_leaves (fun r269 M268 f24 => (mf_and fun _ => (hQ _ _ (K1.trans (K1.trans (K1.trans (K1.trans (K1.trans hf (K1.fr f1 rfl)) (K1.fr f2 rfl)) (K1.fr f3 rfl)) (K1.fr f4 rfl)) (K1.fr f24 rfl)))))) (mf_ite (mf_w_Checker_leaves (fun r267 M266 f25 => (mf_and fun _ => (hQ _ _ (K1.trans (K1.trans (K1.trans (K1.trans (K1.trans hf (K1.fr f1 rfl)) (K1.fr f2 rfl)) (K1.fr f3 rfl)) (K1.fr f4 rfl)) (K1.fr f25 rfl)))))) (mf_ite (mf_w_Checker_leaves (fun r265 M264 f26 => (mf_and fun _ => (hQ _ _ (K1.trans (K1.trans (K1.trans (K1.trans (K1.trans hf (K1.fr f1 rfl)) (K1.fr f2 rfl)) (K1.fr f3 rfl)) (K1.fr f4 rfl)) (K1.fr f26 rfl)))))) (mf_ite (mf_w_Checker_wants1 (fun r259 M258 f27 => (mf_ite (hQ _ _ (K1.trans (K1.trans (K1.trans (K1.trans (K1.trans hf (K1.fr f1 rfl)) (K1.fr f2 rfl)) (K1.fr f3 rfl)) (K1.fr f4 rfl)) (K1.fr f27 rfl))) (mf_w_Checker_comes (fun r262 M261 f28 => (mf_ite (hQ _ _ (K1.trans (K1.trans (K1.trans (K1.trans (K1.trans (K1.trans hf (K1.fr f1 rfl)) (K1.fr f2 rfl)) (K1.fr f3 rfl)) (K1.fr f4 rfl)) (K1.fr f27 rfl)) (K1.fr f28 rfl))) (hQ _ _ (K1.trans (K1.trans (K1.trans (K1.trans (K1.trans (K1.trans hf (K1.fr f1 rfl)) (K1.fr f2 rfl)) (K1.fr f3 rfl)) (K1.fr f4 rfl)) (K1.fr f27 rfl)) (K1.fr f28 rfl))))))))) (mf_ite (mf_w_Checker_leaves (fun r257 M256 f29 => (mf_and fun _ => (hQ _ _ (K1.trans (K1.trans (K1.trans (K1.trans (K1.trans hf (K1.fr f1 rfl)) (K1.fr f2 rfl)) (K1.fr f3 rfl)) (K1.fr f4 rfl)) (K1.fr f29 rfl)))))) (mf_ite (mf_w_Checker_leaves (fun r255 M254 f30 => (mf_and fun _ => (hQ _ _ (K1.trans (K1.trans (K1.trans (K1.trans (K1.trans hf (K1.fr f1 rfl)) (K1.fr f2 rfl)) (K1.fr f3 rfl)) (K1.fr f4 rfl)) (K1.fr f30 rfl)))))) (mf_ite (mf_w_Checker_leaves (fun r253 M252 f31 => (mf_and fun _ => (hQ _ _ (K1.trans (K1.trans (K1.trans (K1.trans (K1.trans hf (K1.fr f1 rfl)) (K1.fr f2 rfl)) (K1.fr f3 rfl)) (K1.fr f4 rfl)) (K1.fr f31 rfl)))))) (mf_ite (mf_w_Checker_leaves (fun r251 M250 f32 => (mf_and fun _ => (hQ _ _ (K1.trans (K1.trans (K1.trans (K1.trans (K1.trans hf (K1.fr f1 rfl)) (K1.fr f2 rfl)) (K1.fr f3 rfl)) (K1.fr f4 rfl)) (K1.fr f32 rfl)))))) (mf_ite (mf_w_Checker_leaves (fun r249 M248 f33 => (mf_and fun _ => (hQ _ _ (K1.trans (K1.trans (K1.trans (K1.trans (K1.trans hf (K1.fr f1 rfl)) (K1.fr f2 rfl)) (K1.fr f3 rfl)) (K1.fr f4 rfl)) (K1.fr f33 rfl)))))) (mf_ite (mf_w_Checker_needs (fun r243 M242 f34 => (mf_ite (hQ _ _ (K1.trans (K1.trans (K1.trans (K1.trans (K1.trans hf (K1.fr f1 rfl)) (K1.fr f2 rfl)) (K1.fr f3 rfl)) (K1.fr f4 rfl)) (K1.fr f34 rfl))) (mf_w_Checker_comes (fun r246 M245 f35 => (mf_ite (hQ _ _ (K1.trans (K1.trans (K1.trans (K1.trans (K1.trans (K1.trans hf (K1.fr f1 rfl)) (K1.fr f2 rfl)) (K1.fr f3 rfl)) (K1.fr f4 rfl)) (K1.fr f34 rfl)) (K1.fr f35 rfl))) (hQ _ _ (K1.trans (K1.trans (K1.trans (K1.trans (K1.trans (K1.trans hf (K1.fr f1 rfl)) (K1.fr f2 rfl)) (K1.fr f3 rfl)) (K1.fr f4 rfl)) (K1.fr f34 rfl)) (K1.fr f35 rfl))))))))) (mf_ite (mf_w_Checker_needs (fun r236 M235 f36 => (mf_ite (hQ _ _ (K1.trans (K1.trans (K1.trans (K1.trans (K1.trans hf (K1.fr f1 rfl)) (K1.fr f2 rfl)) (K1.fr f3 rfl)) (K1.fr f4 rfl)) (K1.fr f36 rfl))) (mf_and fun _ => (mf_w_Checker_push (fun r240 M239 f37 => (mf_ite (hQ _ _ (K1.trans (K1.trans (K1.trans (K1.trans (K1.trans (K1.trans hf (K1.fr f1 rfl)) (K1.fr f2 rfl)) (K1.fr f3 rfl)) (K1.fr f4 rfl)) (K1.fr f36 rfl)) (K1.fr f37 rfl))) (hQ _ _ (K1.trans (K1.trans (K1.trans (K1.trans (K1.trans (K1.trans hf (K1.fr f1 rfl)) (K1.fr f2 rfl)) (K1.fr f3 rfl)) (K1.fr f4 rfl)) (K1.fr f36 rfl)) (K1.fr f37 rfl)))))))))) (mf_ite (mf_w_Checker_needs (fun r230 M229 f38 => (mf_ite (hQ _ _ (K1.trans (K1.trans (K1.trans (K1.trans (K1.trans hf (K1.fr f1 rfl)) (K1.fr f2 rfl)) (K1.fr f3 rfl)) (K1.fr f4 rfl)) (K1.fr f38 rfl))) (mf_w_Checker_under (fun r233 M232 f39 => (mf_ite (hQ _ _ (K1.trans (K1.trans (K1.trans (K1.trans (K1.trans (K1.trans hf (K1.fr f1 rfl)) (K1.fr f2 rfl)) (K1.fr f3 rfl)) (K1.fr f4 rfl)) (K1.fr f38 rfl)) (K1.fr f39 rfl))) (hQ _ _ (K1.trans (K1.trans (K1.trans (K1.trans (K1.trans (K1.trans hf (K1.fr f1 rfl)) (K1.fr f2 rfl)) (K1.fr f3 rfl)) (K1.fr f4 rfl)) (K1.fr f38 rfl)) (K1.fr f39 rfl))))))))) (mf_ite (mf_w_Checker_needs (fun r224 M223 f40 => (mf_ite (hQ _ _ (K1.trans (K1.trans (K1.trans (K1.trans (K1.trans hf (K1.fr f1 rfl)) (K1.fr f2 rfl)) (K1.fr f3 rfl)) (K1.fr f4 rfl)) (K1.fr f40 rfl))) (mf_w_Checker_swap (fun r227 M226 f41 => (mf_ite (hQ _ _ (K1.trans (K1.trans (K1.trans (K1.trans (K1.trans (K1.trans hf (K1.fr f1 rfl)) (K1.fr f2 rfl)) (K1.fr f3 rfl)) (K1.fr f4 rfl)) (K1.fr f40 rfl)) (K1.fr f41 rfl))) (hQ _ _ (K1.trans (K1.trans (K1.trans (K1.trans (K1.trans (K1.trans hf (K1.fr f1 rfl)) (K1.fr f2 rfl)) (K1.fr f3 rfl)) (K1.fr f4 rfl)) (K1.fr f40 rfl)) (K1.fr f41 rfl))))))))) (mf_ite (hQ _ _ (K1.trans (K1.trans (K1.trans (K1.trans hf (K1.fr f1 rfl)) (K1.fr f2 rfl)) (K1.fr f3 rfl)) (K1.fr f4 rfl))) (mf_ite (mf_w_Checker_leaves (fun r222 M221 f42 => (mf_and fun _ => (hQ _ _ (K1.trans (K1.trans (K1.trans (K1.trans (K1.trans hf (K1.fr f1 rfl)) (K1.fr f2 rfl)) (K1.fr f3 rfl)) (K1.fr f4 rfl)) (K1.fr f42 rfl)))))) (mf_ite (mf_w_Checker_leaves (fun r220 M219 f43 => (mf_and fun _ => (hQ _ _ (K1.trans (K1.trans (K1.trans (K1.trans (K1.trans hf (K1.fr f1 rfl)) (K1.fr f2 rfl)) (K1.fr f3 rfl)) (K1.fr f4 rfl)) (K1.fr f43 rfl)))))) (mf_ite (mf_w_Checker_leaves (fun r218 M217 f44 => (mf_and fun _ => (hQ _ _ (K1.trans (K1.trans (K1.trans (K1.trans (K1.trans hf (K1.fr f1 rfl)) (K1.fr f2 rfl)) (K1.fr f3 rfl)) (K1.fr f4 rfl)) (K1.fr f44 rfl)))))) (mf_ite (mf_w_Checker_leaves (fun r216 M215 f45 => (mf_and fun _ => (hQ _ _ (K1.trans (K1.trans (K1.trans (K1.trans (K1.trans hf (K1.fr f1 rfl)) (K1.fr f2 rfl)) (K1.fr f3 rfl)) (K1.fr f4 rfl)) (K1.fr f45 rfl)))))) (mf_ite (mf_w_Checker_leaves (fun r214 M213 f46 => (mf_and fun _ => (hQ _ _ (K1.trans (K1.trans (K1.trans (K1.trans (K1.trans hf (K1.fr f1 rfl)) (K1.fr f2 rfl)) (K1.fr f3 rfl)) (K1.fr f4 rfl)) (K1.fr f46 rfl)))))) (mf_ite (mf_w_Checker_leaves (fun r212 M211 f47 => (mf_and fun _ => (hQ _ _ (K1.trans (K1.trans (K1.trans (K1.trans (K1.trans hf (K1.fr f1 rfl)) (K1.fr f2 rfl)) (K1.fr f3 rfl)) (K1.fr f4 rfl)) (K1.fr f47 rfl)))))) (mf_ite (mf_w_Checker_leaves (fun r210 M209 f48 => (mf_and fun _ => (hQ _ _ (K1.trans (K1.trans (K1.trans (K1.trans (K1.trans hf (K1.fr f1 rfl)) (K1.fr f2 rfl)) (K1.fr f3 rfl)) (K1.fr f4 rfl)) (K1.fr f48 rfl)))))) (mf_ite (mf_w_Checker_leaves (fun r208 M207 f49 => (mf_and fun _ => (hQ _ _ (K1.trans (K1.trans (K1.trans (K1.trans (K1.trans hf (K1.fr f1 rfl)) (K1.fr f2 rfl)) (K1.fr f3 rfl)) (K1.fr f4 rfl)) (K1.fr f49 rfl)))))) (mf_ite (mf_w_Checker_leaves (fun r206 M205 f50 => (mf_and fun _ => (hQ _ _ (K1.trans (K1.trans (K1.trans (K1.trans (K1.trans hf (K1.fr f1 rfl)) (K1.fr f2 rfl)) (K1.fr f3 rfl)) (K1.fr f4 rfl)) (K1.fr f50 rfl)))))) (mf_ite (mf_w_Checker_leaves (fun r204 M203 f51 => (mf_and fun _ => (hQ _ _ (K1.trans (K1.trans (K1.trans (K1.trans (K1.trans hf (K1.fr f1 rfl)) (K1.fr f2 rfl)) (K1.fr f3 rfl)) (K1.fr f4 rfl)) (K1.fr f51 rfl)))))) (mf_ite (mf_w_Checker_leaves (fun r202 M201 f52 => (mf_and fun _ => (hQ _ _ (K1.trans (K1.trans (K1.trans (K1.trans (K1.trans hf (K1.fr f1 rfl)) (K1.fr f2 rfl)) (K1.fr f3 rfl)) (K1.fr f4 rfl)) (K1.fr f52 rfl)))))) (mf_ite (mf_w_Checker_leaves (fun r200 M199 f53 => (mf_and fun _ => (hQ _ _ (K1.trans (K1.trans (K1.trans (K1.trans (K1.trans hf (K1.fr f1 rfl)) (K1.fr f2 rfl)) (K1.fr f3 rfl)) (K1.fr f4 rfl)) (K1.fr f53 rfl)))))) (mf_ite (mf_w_Checker_wants1 (fun r194 M193 f54 => (mf_ite (hQ _ _ (K1.trans (K1.trans (K1.trans (K1.trans (K1.trans hf (K1.fr f1 rfl)) (K1.fr f2 rfl)) (K1.fr f3 rfl)) (K1.fr f4 rfl)) (K1.fr f54 rfl))) (mf_w_Checker_comes (fun r197 M196 f55 => (mf_ite (hQ _ _ (K1.trans (K1.trans (K1.trans (K1.trans (K1.trans (K1.trans hf (K1.fr f1 rfl)) (K1.fr f2 rfl)) (K1.fr f3 rfl)) (K1.fr f4 rfl)) (K1.fr f54 rfl)) (K1.fr f55 rfl))) (hQ _ _ (K1.trans (K1.trans (K1.trans (K1.trans (K1.trans (K1.trans hf (K1.fr f1 rfl)) (K1.fr f2 rfl)) (K1.fr f3 rfl)) (K1.fr f4 rfl)) (K1.fr f54 rfl)) (K1.fr f55 rfl))))))))) (mf_ite (mf_w_Checker_wants1 (fun r188 M187 f56 => (mf_ite (hQ _ _ (K1.trans (K1.trans (K1.trans (K1.trans (K1.trans hf (K1.fr f1 rfl)) (K1.fr f2 rfl)) (K1.fr f3 rfl)) (K1.fr f4 rfl)) (K1.fr f56 rfl))) (mf_w_Checker_comes (fun r191 M190 f57 => (mf_ite (hQ _ _ (K1.trans (K1.trans (K1.trans (K1.trans (K1.trans (K1.trans hf (K1.fr f1 rfl)) (K1.fr f2 rfl)) (K1.fr f3 rfl)) (K1.fr f4 rfl)) (K1.fr f56 rfl)) (K1.fr f57 rfl))) (hQ _ _ (K1.trans (K1.trans (K1.trans (K1.trans (K1.trans (K1.trans hf (K1.fr f1 rfl)) (K1.fr f2 rfl)) (K1.fr f3 rfl)) (K1.fr f4 rfl)) (K1.fr f56 rfl)) (K1.fr f57 rfl))))))))) (mf_ite (mf_w_Checker_wants2 (fun r182 M181 f58 => (mf_ite (hQ _ _ (K1.trans (K1.trans (K1.trans (K1.trans (K1.trans hf (K1.fr f1 rfl)) (K1.fr f2 rfl)) (K1.fr f3 rfl)) (K1.fr f4 rfl)) (K1.fr f58 rfl))) (mf_w_Checker_comes (fun r185 M184 f59 => (mf_ite (hQ _ _ (K1.trans (K1.trans (K1.trans (K1.trans (K1.trans (K1.trans hf (K1.fr f1 rfl)) (K1.fr f2 rfl)) (K1.fr f3 rfl)) (K1.fr f4 rfl)) (K1.fr f58 rfl)) (K1.fr f59 rfl))) (hQ _ _ (K1.trans (K1.trans (K1.trans (K1.trans (K1.trans (K1.trans hf (K1.fr f1 rfl)) (K1.fr f2 rfl)) (K1.fr f3 rfl)) (K1.fr f4 rfl)) (K1.fr f58 rfl)) (K1.fr f59 rfl))))))))) (mf_ite (mf_w_Checker_wants2 (fun r176 M175 f60 => (mf_ite (hQ _ _ (K1.trans (K1.trans (K1.trans (K1.trans (K1.trans hf (K1.fr f1 rfl)) (K1.fr f2 rfl)) (K1.fr f3 rfl)) (K1.fr f4 rfl)) (K1.fr f60 rfl))) (mf_w_Checker_comes (fun r179 M178 f61 => (mf_ite (hQ _ _ (K1.trans (K1.trans (K1.trans (K1.trans (K1.trans (K1.trans hf (K1.fr f1 rfl)) (K1.fr f2 rfl)) (K1.fr f3 rfl)) (K1.fr f4 rfl)) (K1.fr f60 rfl)) (K1.fr f61 rfl))) (hQ _ _ (K1.trans (K1.trans (K1.trans (K1.trans (K1.trans (K1.trans hf (K1.fr f1 rfl)) (K1.fr f2 rfl)) (K1.fr f3 rfl)) (K1.fr f4 rfl)) (K1.fr f60 rfl)) (K1.fr f61 rfl))))))))) (mf_ite (mf_w_Checker_leaves (fun r174 M173 f62 => (mf_and fun _ => (hQ _ _ (K1.trans (K1.trans (K1.trans (K1.trans (K1.trans hf (K1.fr f1 rfl)) (K1.fr f2 rfl)) (K1.fr f3 rfl)) (K1.fr f4 rfl)) (K1.fr f62 rfl)))))) (mf_ite (mf_w_Checker_push (fun r172 M171 f63 => (mf_and fun _ => (hQ _ _ (K1.trans (K1.trans (K1.trans (K1.trans (K1.trans hf (K1.fr f1 rfl)) (K1.fr f2 rfl)) (K1.fr f3 rfl)) (K1.fr f4 rfl)) (K1.fr f63 rfl)))))) (mf_ite (mf_w_Checker_wants1 (fun r166 M165 f64 => (mf_ite (hQ _ _ (K1.trans (K1.trans (K1.trans (K1.trans (K1.trans hf (K1.fr f1 rfl)) (K1.fr f2 rfl)) (K1.fr f3 rfl)) (K1.fr f4 rfl)) (K1.fr f64 rfl))) (mf_w_Checker_comes (fun r169 M168 f65 => (mf_ite (hQ _ _ (K1.trans (K1.trans (K1.trans (K1.trans (K1.trans (K1.trans hf (K1.fr f1 rfl)) (K1.fr f2 rfl)) (K1.fr f3 rfl)) (K1.fr f4 rfl)) (K1.fr f64 rfl)) (K1.fr f65 rfl))) (hQ _ _ (K1.trans (K1.trans (K1.trans (K1.trans (K1.trans (K1.trans hf (K1.fr f1 rfl)) (K1.fr f2 rfl)) (K1.fr f3 rfl)) (K1.fr f4 rfl)) (K1.fr f64 rfl)) (K1.fr f65 rfl))))))))) (mf_ite (mf_w_Checker_wants2 (fun r160 M159 f66 => (mf_ite (hQ _ _ (K1.trans (K1.trans (K1.trans (K1.trans (K1.trans hf (K1.fr f1 rfl)) (K1.fr f2 rfl)) (K1.fr f3 rfl)) (K1.fr f4 rfl)) (K1.fr f66 rfl))) (mf_w_Checker_comes (fun r163 M162 f67 => (mf_ite (hQ _ _ (K1.trans (K1.trans (K1.trans (K1.trans (K1.trans (K1.trans hf (K1.fr f1 rfl)) (K1.fr f2 rfl)) (K1.fr f3 rfl)) (K1.fr f4 rfl)) (K1.fr f66 rfl)) (K1.fr f67 rfl))) (hQ _ _ (K1.trans (K1.trans (K1.trans (K1.trans (K1.trans (K1.trans hf (K1.fr f1 rfl)) (K1.fr f2 rfl)) (K1.fr f3 rfl)) (K1.fr f4 rfl)) (K1.fr f66 rfl)) (K1.fr f67 rfl))))))))) (mf_ite (mf_w_Checker_wants3 (fun r154 M153 f68 => (mf_ite (hQ _ _ (K1.trans (K1.trans (K1.trans (K1.trans (K1.trans hf (K1.fr f1 rfl)) (K1.fr f2 rfl)) (K1.fr f3 rfl)) (K1.fr f4 rfl)) (K1.fr f68 rfl))) (mf_w_Checker_comes (fun r157 M156 f69 => (mf_ite (hQ _ _ (K1.trans (K1.trans (K1.trans (K1.trans (K1.trans (K1.trans hf (K1.fr f1 rfl)) (K1.fr f2 rfl)) (K1.fr f3 rfl)) (K1.fr f4 rfl)) (K1.fr f68 rfl)) (K1.fr f69 rfl))) (hQ _ _ (K1.trans (K1.trans (K1.trans (K1.trans (K1.trans (K1.trans hf (K1.fr f1 rfl)) (K1.fr f2 rfl)) (K1.fr f3 rfl)) (K1.fr f4 rfl)) (K1.fr f68 rfl)) (K1.fr f69 rfl))))))))) (mf_ite (mf_w_Checker_wants1 (fun r148 M147 f70 => (mf_ite (hQ _ _ (K1.trans (K1.trans (K1.trans (K1.trans (K1.trans hf (K1.fr f1 rfl)) (K1.fr f2 rfl)) (K1.fr f3 rfl)) (K1.fr f4 rfl)) (K1.fr f70 rfl))) (mf_w_Checker_comes (fun r151 M150 f71 => (mf_ite (hQ _ _ (K1.trans (K1.trans (K1.trans (K1.trans (K1.trans (K1.trans hf (K1.fr f1 rfl)) (K1.fr f2 rfl)) (K1.fr f3 rfl)) (K1.fr f4 rfl)) (K1.fr f70 rfl)) (K1.fr f71 rfl))) (hQ _ _ (K1.trans (K1.trans (K1.trans (K1.trans (K1.trans (K1.trans hf (K1.fr f1 rfl)) (K1.fr f2 rfl)) (K1.fr f3 rfl)) (K1.fr f4 rfl)) (K1.fr f70 rfl)) (K1.fr f71 rfl))))))))) (mf_ite (mf_w_Checker_leaves (fun r146 M145 f72 => (mf_and fun _ => (hQ _ _ (K1.trans (K1.trans (K1.trans (K1.trans (K1.trans hf (K1.fr f1 rfl)) (K1.fr f2 rfl)) (K1.fr f3 rfl)) (K1.fr f4 rfl)) (K1.fr f72 rfl)))))) (mf_ite (mf_w_Checker_leaves (fun r144 M143 f73 => (mf_and fun _ => (hQ _ _ (K1.trans (K1.trans (K1.trans (K1.trans (K1.trans hf (K1.fr f1 rfl)) (K1.fr f2 rfl)) (K1.fr f3 rfl)) (K1.fr f4 rfl)) (K1.fr f73 rfl)))))) (mf_ite (mf_w_Checker_leaves (fun r142 M141 f74 => (mf_and fun _ => (hQ _ _ (K1.trans (K1.trans (K1.trans (K1.trans (K1.trans hf (K1.fr f1 rfl)) (K1.fr f2 rfl)) (K1.fr f3 rfl)) (K1.fr f4 rfl)) (K1.fr f74 rfl)))))) (mf_ite (mf_w_Checker_leaves (fun r140 M139 f75 => (mf_and fun _ => (hQ _ _ (K1.trans (K1.trans (K1.trans (K1.trans (K1.trans hf (K1.fr f1 rfl)) (K1.fr f2 rfl)) (K1.fr f3 rfl)) (K1.fr f4 rfl)) (K1.fr f75 rfl)))))) (mf_ite (mf_w_Checker_leaves (fun r138 M137 f76 => (mf_and fun _ => (hQ _ _ (K1.trans (K1.trans (K1.trans (K1.trans (K1.trans hf (K1.fr f1 rfl)) (K1.fr f2 rfl)) (K1.fr f3 rfl)) (K1.fr f4 rfl)) (K1.fr f76 rfl)))))) (mf_ite (mf_w_Checker_leaves (fun r136 M135 f77 => (mf_and fun _ => (hQ _ _ (K1.trans (K1.trans (K1.trans (K1.trans (K1.trans hf (K1.fr f1 rfl)) (K1.fr f2 rfl)) (K1.fr f3 rfl)) (K1.fr f4 rfl)) (K1.fr f77 rfl)))))) (mf_ite (mf_w_Checker_leaves (fun r134 M133 f78 => (mf_and fun _ => (hQ _ _ (K1.trans (K1.trans (K1.trans (K1.trans (K1.trans hf (K1.fr f1 rfl)) (K1.fr f2 rfl)) (K1.fr f3 rfl)) (K1.fr f4 rfl)) (K1.fr f78 rfl)))))) (mf_ite (mf_w_Checker_leaves (fun r132 M131 f79 => (mf_and fun _ => (hQ _ _ (K1.trans (K1.trans (K1.trans (K1.trans (K1.trans hf (K1.fr f1 rfl)) (K1.fr f2 rfl)) (K1.fr f3 rfl)) (K1.fr f4 rfl)) (K1.fr f79 rfl)))))) (mf_ite (mf_w_Checker_wants1 (fun r124 M123 f80 => (mf_ite (hQ _ _ (K1.trans (K1.trans (K1.trans (K1.trans (K1.trans hf (K1.fr f1 rfl)) (K1.fr f2 rfl)) (K1.fr f3 rfl)) (K1.fr f4 rfl)) (K1.fr f80 rfl))) (mf_w_Works_kindOf (fun r127 M126 f81 => (mf_w_Checker_comes (fun r129 M128 f82 => (mf_ite (hQ _ _ (K1.trans (K1.trans (K1.trans (K1.trans (K1.trans (K1.trans (K1.trans hf (K1.fr f1 rfl)) (K1.fr f2 rfl)) (K1.fr f3 rfl)) (K1.fr f4 rfl)) (K1.fr f80 rfl)) (K1.fr f81 rfl)) (K1.fr f82 rfl))) (hQ _ _ (K1.trans (K1.trans (K1.trans (K1.trans (K1.trans (K1.trans (K1.trans hf (K1.fr f1 rfl)) (K1.fr f2 rfl)) (K1.fr f3 rfl)) (K1.fr f4 rfl)) (K1.fr f80 rfl)) (K1.fr f81 rfl)) (K1.fr f82 rfl))))))))))) (mf_ite (mf_w_Checker_wants1 (fun r118 M117 f83 => (mf_ite (hQ _ _ (K1.trans (K1.trans (K1.trans (K1.trans (K1.trans hf (K1.fr f1 rfl)) (K1.fr f2 rfl)) (K1.fr f3 rfl)) (K1.fr f4 rfl)) (K1.fr f83 rfl))) (mf_w_Checker_comes (fun r121 M120 f84 => (mf_ite (hQ _ _ (K1.trans (K1.trans (K1.trans (K1.trans (K1.trans (K1.trans hf (K1.fr f1 rfl)) (K1.fr f2 rfl)) (K1.fr f3 rfl)) (K1.fr f4 rfl)) (K1.fr f83 rfl)) (K1.fr f84 rfl))) (hQ _ _ (K1.trans (K1.trans (K1.trans (K1.trans (K1.trans (K1.trans hf (K1.fr f1 rfl)) (K1.fr f2 rfl)) (K1.fr f3 rfl)) (K1.fr f4 rfl)) (K1.fr f83 rfl)) (K1.fr f84 rfl))))))))) (mf_ite (mf_w_Works_kindOf (fun r110 M109 f85 => (mf_w_Checker_wants1 (fun r112 M111 f86 => (mf_ite (hQ _ _ (K1.trans (K1.trans (K1.trans (K1.trans (K1.trans (K1.trans hf (K1.fr f1 rfl)) (K1.fr f2 rfl)) (K1.fr f3 rfl)) (K1.fr f4 rfl)) (K1.fr f85 rfl)) (K1.fr f86 rfl))) (mf_w_Checker_comes (fun r115 M114 f87 => (mf_ite (hQ _ _ (K1.trans (K1.trans (K1.trans (K1.trans (K1.trans (K1.trans (K1.trans hf (K1.fr f1 rfl)) (K1.fr f2 rfl)) (K1.fr f3 rfl)) (K1.fr f4 rfl)) (K1.fr f85 rfl)) (K1.fr f86 rfl)) (K1.fr f87 rfl))) (hQ _ _ (K1.trans (K1.trans (K1.trans (K1.trans (K1.trans (K1.trans (K1.trans hf (K1.fr f1 rfl)) (K1.fr f2 rfl)) (K1.fr f3 rfl)) (K1.fr f4 rfl)) (K1.fr f85 rfl)) (K1.fr f86 rfl)) (K1.fr f87 rfl))))))))))) (mf_ite (mf_w_Checker_leaves (fun r108 M107 f88 => (mf_and fun _ => (hQ _ _ (K1.trans (K1.trans (K1.trans (K1.trans (K1.trans hf (K1.fr f1 rfl)) (K1.fr f2 rfl)) (K1.fr f3 rfl)) (K1.fr f4 rfl)) (K1.fr f88 rfl)))))) (mf_ite (mf_w_Checker_leaves (fun r106 M105 f89 => (mf_and fun _ => (hQ _ _ (K1.trans (K1.trans (K1.trans (K1.trans (K1.trans hf (K1.fr f1 rfl)) (K1.fr f2 rfl)) (K1.fr f3 rfl)) (K1.fr f4 rfl)) (K1.fr f89 rfl)))))) (mf_ite (mf_w_Checker_leaves (fun r104 M103 f90 => (mf_and fun _ => (hQ _ _ (K1.trans (K1.trans (K1.trans (K1.trans (K1.trans hf (K1.fr f1 rfl)) (K1.fr f2 rfl)) (K1.fr f3 rfl)) (K1.fr f4 rfl)) (K1.fr f90 rfl)))))) (mf_ite (mf_w_Checker_wants1 (fun r98 M97 f91 => (mf_ite (hQ _ _ (K1.trans (K1.trans (K1.trans (K1.trans (K1.trans hf (K1.fr f1 rfl)) (K1.fr f2 rfl)) (K1.fr f3 rfl)) (K1.fr f4 rfl)) (K1.fr f91 rfl))) (mf_w_Checker_comes (fun r101 M100 f92 => (mf_ite (hQ _ _ (K1.trans (K1.trans (K1.trans (K1.trans (K1.trans (K1.trans hf (K1.fr f1 rfl)) (K1.fr f2 rfl)) (K1.fr f3 rfl)) (K1.fr f4 rfl)) (K1.fr f91 rfl)) (K1.fr f92 rfl))) (hQ _ _ (K1.trans (K1.trans (K1.trans (K1.trans (K1.trans (K1.trans hf (K1.fr f1 rfl)) (K1.fr f2 rfl)) (K1.fr f3 rfl)) (K1.fr f4 rfl)) (K1.fr f91 rfl)) (K1.fr f92 rfl))))))))) (mf_ite (mf_w_Checker_wants1 (fun r92 M91 f93 => (mf_ite (hQ _ _ (K1.trans (K1.trans (K1.trans (K1.trans (K1.trans hf (K1.fr f1 rfl)) (K1.fr f2 rfl)) (K1.fr f3 rfl)) (K1.fr f4 rfl)) (K1.fr f93 rfl))) (mf_w_Checker_comes (fun r95 M94 f94 => (mf_ite (hQ _ _ (K1.trans (K1.trans (K1.trans (K1.trans (K1.trans (K1.trans hf (K1.fr f1 rfl)) (K1.fr f2 rfl)) (K1.fr f3 rfl)) (K1.fr f4 rfl)) (K1.fr f93 rfl)) (K1.fr f94 rfl))) (hQ _ _ (K1.trans (K1.trans (K1.trans (K1.trans (K1.trans (K1.trans hf (K1.fr f1 rfl)) (K1.fr f2 rfl)) (K1.fr f3 rfl)) (K1.fr f4 rfl)) (K1.fr f93 rfl)) (K1.fr f94 rfl))))))))) (mf_w_Checker_leaves (fun r28 M27 f95 => (mf_and fun _ => (hQ _ _ (K1.trans (K1.trans (K1.trans (K1.trans (K1.trans hf (K1.fr f1 rfl)) (K1.fr f2 rfl)) (K1.fr f3 rfl)) (K1.fr f4 rfl)) (K1.fr f95 rfl)))))))))))))))))))))))))))))))))))))))))))))))))))))))))))))))))))) (mc_w_Checker_call hn (fun r341 M340 f96 => (mf_and fun _ => (hQ _ _ (K1.trans (K1.trans (K1.trans (K1.trans (K1.trans hf (K1.fr f1 rfl)) (K1.fr f2 rfl)) (K1.fr f3 rfl)) (K1.fr f4 rfl)) f96)))))))) (mf_w_Checker_field (fun r343 M342 f97 => (mf_and fun _ => (hQ _ _ (K1.trans (K1.trans (K1.trans (K1.trans hf (K1.fr f1 rfl)) (K1.fr f2 rfl)) (K1.fr f3 rfl)) (K1.fr f97 rfl))))))))) (mf_w_Checker_wants2 (fun r345 M344 f98 => (mf_ite (hQ _ _ (K1.trans (K1.trans (K1.trans hf (K1.fr f1 rfl)) (K1.fr f2 rfl)) (K1.fr f98 rfl))) (mf_w_Checker_comes (fun r348 M347 f99 => (mf_ite (hQ _ _ (K1.trans (K1.trans (K1.trans (K1.trans hf (K1.fr f1 rfl)) (K1.fr f2 rfl)) (K1.fr f98 rfl)) (K1.fr f99 rfl))) (hQ _ _ (K1.trans (K1.trans (K1.trans (K1.trans hf (K1.fr f1 rfl)) (K1.fr f2 rfl)) (K1.fr f98 rfl)) (K1.fr f99 rfl))))))))))))) (mc_w_Checker_act_j78 hn hQ (K1.trans hf (K1.fr f1 rfl))))))
set_option maxRecDepth 20000 in
theorem mc_w_Checker_act {this : Nat} {a1 : Int32} {Q Q' : Int32 → Mem → Prop} {M : Mem} (hn : this ≠ 1) (hQ : ∀ z0 z1, K1 M z1 → Q z0 z1 → Q' z0 z1) : w_Checker_act this a1 Q M → w_Checker_act this a1 Q' M := by
  unfold w_Checker_act
  exact (Exists.imp fun i1 => (mf_and fun _ => (mf_and fun _ => (Exists.imp fun i3 => (mf_and fun _ => (mf_and fun _ => (mf_w_Works_isIn (fun r6 M5 f1 => (mf_ite (mc_w_Checker_act_j61 hn hQ (K1.trans (K1.rf M) (K1.fr f1 rfl))) (mf_ite (mc_w_Checker_act_j61 hn hQ (K1.trans (K1.rf M) (K1.fr f1 rfl))) (mf_w_Checker_wants2 (fun r352 M351 f2 => (mf_ite (hQ _ _ (K1.trans (K1.trans (K1.rf M) (K1.fr f1 rfl)) (K1.fr f2 rfl))) (mf_w_Checker_comes (fun r355 M354 f3 => (mf_ite (hQ _ _ (K1.trans (K1.trans (K1.trans (K1.rf M) (K1.fr f1 rfl)) (K1.fr f2 rfl)) (K1.fr f3 rfl))) (hQ _ _ (K1.trans (K1.trans (K1.trans (K1.rf M) (K1.fr f1 rfl)) (K1.fr f2 rfl)) (K1.fr f3 rfl)))))))))))))))))))
set_option maxRecDepth 20000 in
theorem mc_w_Checker_one_j177 {this : Nat} {Q Q' : Int32 → Mem → Prop} {v1 : Int32} {M : Mem} {M0 : Mem} (hn : this ≠ 1) (hQ : ∀ z0 z1, K1 M0 z1 → Q z0 z1 → Q' z0 z1) : K1 M0 M → w_Checker_one_j177 this Q v1 M → w_Checker_one_j177 this Q' v1 M := by
  intro hf
  unfold w_Checker_one_j177
  exact (mc_w_Checker_keep hn (fun M9 f1 => (mc_w_Checker_handlers hn (fun r11 M10 f2 => (mf_ite (hQ _ _ (K1.trans (K1.trans hf f1) f2)) (mc_w_Checker_act hn (fun r14 M13 f3 => (mf_ite (hQ _ _ (K1.trans (K1.trans (K1.trans hf f1) f2) f3)) (mf_w_Checker_ends (fun r17 M16 f4 => (mf_ite (hQ _ _ (K1.trans (K1.trans (K1.trans (K1.trans hf f1) f2) f3) (K1.fr f4 rfl))) (hQ _ _ (K1.trans (K1.trans (K1.trans (K1.trans hf f1) f2) f3) (K1.fr f4 rfl))))))))))))))
set_option maxRecDepth 20000 in
theorem mc_w_Checker_one_L114 {this : Nat} {Q Q' : Int32 → Mem → Prop} {M0 : Mem} (hn : this ≠ 1) (hQ : ∀ z0 z1, K1 M0 z1 → Q z0 z1 → Q' z0 z1) : ∀ (n : Nat) (v1 : Int32) (v2 : Int32) (v3 : Int32) (M : Mem), K1 M0 M → w_Checker_one_L114 this Q n v1 v2 v3 M → w_Checker_one_L114 this Q' n v1 v2 v3 M
  | 0, _, _, _, _ => fun _ h => h
  | n + 1, v1, v2, v3, M => fun hf => by
    unfold w_Checker_one_L114
    exact (mf_ite (mf_and fun _ => (mc_w_Checker_one_j177 hn hQ (K1.wI0 rfl hf))) (Exists.imp fun i31 => (mf_and fun _ => (Exists.imp fun i32 => (mf_and fun _ => (mf_and fun _ => (mf_and fun _ => (mf_and fun _ => (Exists.imp fun M36 => (mf_and fun e1 => (mc_w_Checker_one_L114 hn hQ _ _ _ _ _ (K1.of e1 (K1.wI0a rfl hf)))))))))))))
set_option maxRecDepth 20000 in
theorem mc_w_Checker_one_j92 {this : Nat} {Q Q' : Int32 → Mem → Prop} {k42 k42' : Int32 → Int32 → Int32 → Mem → Prop} {v1 : Int32} {v2 : Int32} {v3 : Int32} {s0 : Int32} {s1 : Int32} {M : Mem} {M0 : Mem} (hn : this ≠ 1) (hQ : ∀ z0 z1, K1 M0 z1 → Q z0 z1 → Q' z0 z1) (hk42 : ∀ z0 z1 z2 z3, K1 M0 z3 → k42 z0 z1 z2 z3 → k42' z0 z1 z2 z3) : K1 M0 M → w_Checker_one_j92 this Q k42 v1 v2 v3 s0 s1 M → w_Checker_one_j92 this Q' k42' v1 v2 v3 s0 s1 M := by
  intro hf
  unfold w_Checker_one_j92
  exact (mf_and fun _ => (hk42 _ _ _ _ (K1.wI0a rfl hf)))
set_option maxRecDepth 20000 in
theorem mc_w_Checker_one_L42 {this : Nat} {Q Q' : Int32 → Mem → Prop} {M0 : Mem} (hn : this ≠ 1) (hQ : ∀ z0 z1, K1 M0 z1 → Q z0 z1 → Q' z0 z1) : ∀ (n : Nat) (v1 : Int32) (v2 : Int32) (v3 : Int32) (M : Mem), K1 M0 M → w_Checker_one_L42 this Q n v1 v2 v3 M → w_Checker_one_L42 this Q' n v1 v2 v3 M
  | 0, _, _, _, _ => fun _ h => h
  | n + 1, v1, v2, v3, M => fun hf => by
    unfold w_Checker_one_L42
    exact (Exists.imp fun i24 => (mf_and fun _ => (mf_and fun _ => (mf_ite (Exists.imp fun i27 => (mf_and fun _ => (mf_and fun _ => (Exists.imp fun n37 => (mc_w_Checker_one_L114 hn hQ _ _ _ _ _ (K1.wI0 rfl hf)))))) (Exists.imp fun i38 => (mf_and fun _ => (mf_and fun _ => (mf_ite (mc_w_Checker_one_j92 hn hQ (mc_w_Checker_one_L42 hn hQ n) hf) (Exists.imp fun i42 => (mf_and fun _ => (mf_and fun _ => (mc_w_Checker_one_j92 hn hQ (mc_w_Checker_one_L42 hn hQ n) hf))))))))))))
set_option maxRecDepth 20000 in
theorem mc_w_Checker_one {this : Nat} {Q Q' : Int32 → Mem → Prop} {M : Mem} (hn : this ≠ 1) (hQ : ∀ z0 z1, K1 M z1 → Q z0 z1 → Q' z0 z1) : w_Checker_one this Q M → w_Checker_one this Q' M := by
  unfold w_Checker_one
  exact (mf_w_Checker_code (fun r2 M1 f1 => (Exists.imp fun i3 => (mf_and fun _ => (mf_and fun _ => (mf_ite (mf_ite (mf_w_Checker_breaks (fun r8 M7 f2 => (mf_and fun _ => (hQ _ _ (K1.trans (K1.trans (K1.rf M) (K1.fr f1 rfl)) (K1.fr f2 rfl)))))) (mc_w_Checker_one_j177 hn hQ (K1.trans (K1.rf M) (K1.fr f1 rfl)))) (mf_w_Checker_goes (fun r20 M19 f3 => (mf_ite (hQ _ _ (K1.trans (K1.trans (K1.rf M) (K1.fr f1 rfl)) (K1.fr f3 rfl))) (Exists.imp fun i22 => (mf_and fun _ => (mf_and fun _ => (Exists.imp fun n44 => (mc_w_Checker_one_L42 hn hQ _ _ _ _ _ (K1.trans (K1.trans (K1.rf M) (K1.fr f1 rfl)) (K1.fr f3 rfl))))))))))))))))
set_option maxRecDepth 20000 in
theorem mc_w_Checker_all_L9 {this : Nat} {Q Q' : Mem → Prop} {M0 : Mem} (hn : this ≠ 1) (hQ : ∀ z0, K1 M0 z0 → Q z0 → Q' z0) : ∀ (n : Nat) (M : Mem), K1 M0 M → w_Checker_all_L9 this Q n M → w_Checker_all_L9 this Q' n M
  | 0, _ => fun _ h => h
  | n + 1, M => fun hf => by
    unfold w_Checker_all_L9
    exact (Exists.imp fun i2 => (mf_and fun _ => (mf_and fun _ => (mf_ite (hQ _ (K1.wI0 rfl hf)) (mc_w_Checker_one hn (fun r6 M5 f1 => (mf_ite (hQ _ (K1.trans hf f1)) (mc_w_Checker_all_L9 hn hQ _ _ (K1.wI0 rfl (K1.trans hf f1))))))))))
set_option maxRecDepth 20000 in
theorem mc_w_Checker_all {this : Nat} {Q Q' : Mem → Prop} {M : Mem} (hn : this ≠ 1) (hQ : ∀ z0, K1 M z0 → Q z0 → Q' z0) : w_Checker_all this Q M → w_Checker_all this Q' M := by
  unfold w_Checker_all
  exact (mf_w_Checker_begin (fun M1 f1 => (Exists.imp fun n8 => (mc_w_Checker_all_L9 hn hQ _ _ (K1.wI0 rfl (K1.trans (K1.rf M) (K1.fr f1 rfl)))))))
set_option maxRecDepth 20000 in
theorem mc_w_Checker_check_j133 {this : Nat} {Q Q' : Int32 → Mem → Prop} {k20 k20' : Int32 → Int32 → Mem → Prop} {v2 : Int32} {v3 : Int32} {M : Mem} {M0 : Mem} (hn : this ≠ 1) (hQ : ∀ z0 z1, K1 M0 z1 → Q z0 z1 → Q' z0 z1) (hk20 : ∀ z0 z1 z2, K1 M0 z2 → k20 z0 z1 z2 → k20' z0 z1 z2) : K1 M0 M → w_Checker_check_j133 this Q k20 v2 v3 M → w_Checker_check_j133 this Q' k20' v2 v3 M := by
  intro hf
  unfold w_Checker_check_j133
  exact (hk20 _ _ _ hf)
set_option maxRecDepth 20000 in
theorem mc_w_Checker_check_L20 {this : Nat} {Q Q' : Int32 → Mem → Prop} {M0 : Mem} (hn : this ≠ 1) (hQ : ∀ z0 z1, K1 M0 z1 → Q z0 z1 → Q' z0 z1) : ∀ (n : Nat) (v2 : Int32) (v3 : Int32) (M : Mem), K1 M0 M → w_Checker_check_L20 this Q n v2 v3 M → w_Checker_check_L20 this Q' n v2 v3 M
  | 0, _, _, _ => fun _ h => h
  | n + 1, v2, v3, M => fun hf => by
    unfold w_Checker_check_L20
    exact (Exists.imp fun i4 => (mf_and fun _ => (mf_and fun _ => (Exists.imp fun i6 => (mf_and fun _ => (mf_and fun _ => (mf_ite (hQ _ _ hf) (Exists.imp fun i9 => (mf_and fun _ => (mf_and fun _ => (mf_ite (mc_w_Checker_all hn (fun M12 f1 => (mf_ite (mc_w_Checker_check_j133 hn hQ (mc_w_Checker_check_L20 hn hQ n) (K1.trans (K1.wI0 rfl (K1.wI0 rfl hf)) f1)) (Exists.imp fun i14 => (mf_and fun _ => (Exists.imp fun i15 => (mf_and fun _ => (Exists.imp fun i16 => (mf_and fun _ => (mf_and fun _ => (Exists.imp fun M18 => (mf_and fun e2 => (Exists.imp fun i19 => (mf_and fun _ => (hQ _ _ (K1.wI0 rfl (K1.of e2 (K1.wI0 rfl (K1.wI0 rfl (K1.trans (K1.wI0 rfl (K1.wI0 rfl hf)) f1)))))))))))))))))))) (mc_w_Checker_check_j133 hn hQ (mc_w_Checker_check_L20 hn hQ n) hf))))))))))))
set_option maxRecDepth 20000 in
theorem mc_w_Checker_check {this : Nat} {a1 : Nat} {a2 : Int32} {Q Q' : Int32 → Mem → Prop} {M : Mem} (hn : this ≠ 1) (hQ : ∀ z0 z1, K1 M z1 → Q z0 z1 → Q' z0 z1) : w_Checker_check this a1 a2 Q M → w_Checker_check this a1 a2 Q' M := by
  unfold w_Checker_check
  exact (Exists.imp fun i1 => (mf_and fun _ => (mf_and fun _ => (Exists.imp fun x3 => (mf_and fun _ => (Exists.imp fun n20 => (mc_w_Checker_check_L20 hn hQ _ _ _ _ (K1.wI0 rfl (K1.wR (K1.rf M))))))))))
set_option maxRecDepth 20000 in
theorem mc_wk_World_ask_j205 {K K' : Nat → Int32 → (Int32 → Mem → Prop) → Mem → Prop} {this : Nat} {Q Q' : Int32 → Mem → Prop} {v1 : Int32} {M : Mem} {M0 : Mem} (hK : ∀ {x0 : Nat} {x1 : Int32} {x3 : Mem} {q q' : Int32 → Mem → Prop}, (∀ z0 z1, K1 x3 z1 → q z0 z1 → q' z0 z1) → K x0 x1 q x3 → K' x0 x1 q' x3) (hQ : ∀ z0 z1, K1 M0 z1 → Q z0 z1 → Q' z0 z1) : K1 M0 M → wk_World_ask_j205 K this Q v1 M → wk_World_ask_j205 K' this Q' v1 M := by
  intro hf
  unfold wk_World_ask_j205
  exact (mf_w_World_up (fun r22 M21 f1 => (mf_w_World_lay (fun M23 f2 => (mc_w_Checker_check (show (0 : Nat) ≠ 1 from by decide) (fun r25 M24 f3 => (hQ _ _ (K1.trans (K1.trans (K1.trans hf (K1.fr f1 rfl)) (K1.fr f2 rfl)) f3))))))))
set_option maxRecDepth 20000 in
theorem mc_wk_World_ask_L129 {K K' : Nat → Int32 → (Int32 → Mem → Prop) → Mem → Prop} {this : Nat} {Q Q' : Int32 → Mem → Prop} {M0 : Mem} (hK : ∀ {x0 : Nat} {x1 : Int32} {x3 : Mem} {q q' : Int32 → Mem → Prop}, (∀ z0 z1, K1 x3 z1 → q z0 z1 → q' z0 z1) → K x0 x1 q x3 → K' x0 x1 q' x3) (hQ : ∀ z0 z1, K1 M0 z1 → Q z0 z1 → Q' z0 z1) : ∀ (n : Nat) (v1 : Int32) (v3 : Int32) (M : Mem), K1 M0 M → wk_World_ask_L129 K this Q n v1 v3 M → wk_World_ask_L129 K' this Q' n v1 v3 M
  | 0, _, _, _ => fun _ h => h
  | n + 1, v1, v3, M => fun hf => by
    unfold wk_World_ask_L129
    exact (mf_and fun _ => (mf_ite (mf_w_World_asks (fun r19 M18 f1 => (mf_ite (mc_wk_World_ask_j205 @hK hQ (K1.trans hf (K1.fr f1 rfl))) (mf_w_World_up (fun r27 M26 f2 => (mf_w_World_changesFinal (fun r29 M28 f3 => (mf_ite (mc_wk_World_ask_j205 @hK hQ (K1.trans (K1.trans (K1.trans hf (K1.fr f1 rfl)) (K1.fr f2 rfl)) (K1.fr f3 rfl))) (hQ _ _ (K1.trans (K1.trans (K1.trans hf (K1.fr f1 rfl)) (K1.fr f2 rfl)) (K1.fr f3 rfl))))))))))) (mf_and fun _ => (mf_w_World_find (fun r33 M32 f4 => (hK (fun r35 M34 f5 => (mf_ite (mc_wk_World_ask_L129 @hK hQ _ _ _ _ (K1.trans (K1.trans hf (K1.fr f4 rfl)) f5)) (mf_and fun _ => (hQ _ _ (K1.trans (K1.trans hf (K1.fr f4 rfl)) f5)))))))))))
set_option maxRecDepth 20000 in
theorem mc_wk_World_ask_L57 {K K' : Nat → Int32 → (Int32 → Mem → Prop) → Mem → Prop} {this : Nat} {Q Q' : Int32 → Mem → Prop} {M0 : Mem} (hK : ∀ {x0 : Nat} {x1 : Int32} {x3 : Mem} {q q' : Int32 → Mem → Prop}, (∀ z0 z1, K1 x3 z1 → q z0 z1 → q' z0 z1) → K x0 x1 q x3 → K' x0 x1 q' x3) (hQ : ∀ z0 z1, K1 M0 z1 → Q z0 z1 → Q' z0 z1) : ∀ (n : Nat) (v1 : Int32) (v2 : Int32) (v3 : Int32) (M : Mem), K1 M0 M → wk_World_ask_L57 K this Q n v1 v2 v3 M → wk_World_ask_L57 K' this Q' n v1 v2 v3 M
  | 0, _, _, _, _ => fun _ h => h
  | n + 1, v1, v2, v3, M => fun hf => by
    unfold wk_World_ask_L57
    exact (mf_and fun _ => (mf_ite (hK (fun r14 M13 f1 => (mf_ite (Exists.imp fun n38 => (mc_wk_World_ask_L129 @hK hQ _ _ _ _ (K1.trans hf f1))) (mf_and fun _ => (hQ _ _ (K1.trans hf f1)))))) (mf_and fun _ => (mf_w_World_find (fun r42 M41 f2 => (mf_ite (mf_w_World_isFace (fun r45 M44 f3 => (mf_ite (hQ _ _ (K1.trans (K1.trans hf (K1.fr f2 rfl)) (K1.fr f3 rfl))) (mc_wk_World_ask_L57 @hK hQ _ _ _ _ _ (K1.trans (K1.trans hf (K1.fr f2 rfl)) (K1.fr f3 rfl)))))) (hQ _ _ (K1.trans hf (K1.fr f2 rfl)))))))))
set_option maxRecDepth 20000 in
theorem mc_wk_World_ask_j55 {K K' : Nat → Int32 → (Int32 → Mem → Prop) → Mem → Prop} {this : Nat} {Q Q' : Int32 → Mem → Prop} {v1 : Int32} {v2 : Int32} {M : Mem} {M0 : Mem} (hK : ∀ {x0 : Nat} {x1 : Int32} {x3 : Mem} {q q' : Int32 → Mem → Prop}, (∀ z0 z1, K1 x3 z1 → q z0 z1 → q' z0 z1) → K x0 x1 q x3 → K' x0 x1 q' x3) (hQ : ∀ z0 z1, K1 M0 z1 → Q z0 z1 → Q' z0 z1) : K1 M0 M → wk_World_ask_j55 K this Q v1 v2 M → wk_World_ask_j55 K' this Q' v1 v2 M := by
  intro hf
  unfold wk_World_ask_j55
  exact (Exists.imp fun n47 => (mc_wk_World_ask_L57 @hK hQ _ _ _ _ _ hf))
set_option maxRecDepth 20000 in
theorem mc_wk_World_ask {K K' : Nat → Int32 → (Int32 → Mem → Prop) → Mem → Prop} {this : Nat} {a1 : Int32} {Q Q' : Int32 → Mem → Prop} {M : Mem} (hK : ∀ {x0 : Nat} {x1 : Int32} {x3 : Mem} {q q' : Int32 → Mem → Prop}, (∀ z0 z1, K1 x3 z1 → q z0 z1 → q' z0 z1) → K x0 x1 q x3 → K' x0 x1 q' x3) (hQ : ∀ z0 z1, K1 M z1 → Q z0 z1 → Q' z0 z1) : wk_World_ask K this a1 Q M → wk_World_ask K' this a1 Q' M := by
  unfold wk_World_ask
  exact (mf_w_World_comesBack (fun r2 M1 f1 => (mf_ite (mf_and fun _ => (mf_w_World_find (fun r6 M5 f2 => (mf_ite (mf_w_World_asks (fun r9 M8 f3 => (mf_ite (mc_wk_World_ask_j55 @hK hQ (K1.trans (K1.trans (K1.trans (K1.rf M) (K1.fr f1 rfl)) (K1.fr f2 rfl)) (K1.fr f3 rfl))) (mf_and fun _ => (mf_ite (mc_wk_World_ask_j55 @hK hQ (K1.trans (K1.trans (K1.trans (K1.rf M) (K1.fr f1 rfl)) (K1.fr f2 rfl)) (K1.fr f3 rfl))) (hQ _ _ (K1.trans (K1.trans (K1.trans (K1.rf M) (K1.fr f1 rfl)) (K1.fr f2 rfl)) (K1.fr f3 rfl)))))))) (hQ _ _ (K1.trans (K1.trans (K1.rf M) (K1.fr f1 rfl)) (K1.fr f2 rfl))))))) (hQ _ _ (K1.trans (K1.rf M) (K1.fr f1 rfl))))))
set_option maxRecDepth 20000 in
theorem mc_wk_World_link {K K' : Nat → Int32 → (Int32 → Mem → Prop) → Mem → Prop} {this : Nat} {a1 : Int32} {Q Q' : Int32 → Mem → Prop} {M : Mem} (hK : ∀ {x0 : Nat} {x1 : Int32} {x3 : Mem} {q q' : Int32 → Mem → Prop}, (∀ z0 z1, K1 x3 z1 → q z0 z1 → q' z0 z1) → K x0 x1 q x3 → K' x0 x1 q' x3) (hQ : ∀ z0 z1, K1 M z1 → Q z0 z1 → Q' z0 z1) : wk_World_link K this a1 Q M → wk_World_link K' this a1 Q' M := by
  unfold wk_World_link
  exact (mf_and fun _ => (mf_ite (mc_wk_World_ask @hK (fun r4 M3 f1 => (mf_and fun _ => (mf_and fun _ => (hQ _ _ (K1.wI0a rfl (K1.trans (K1.rf M) f1))))))) (mf_and fun _ => (hQ _ _ (K1.rf M)))))
set_option maxRecDepth 20000 in
theorem mc_wr_World_link : ∀ (n : Nat) {x0 : Nat} {x1 : Int32} {x3 : Mem} {Q Q' : Int32 → Mem → Prop}, (∀ z0 z1, K1 x3 z1 → Q z0 z1 → Q' z0 z1) → wr_World_link n x0 x1 Q x3 → wr_World_link n x0 x1 Q' x3
  | 0 => fun _ h => h
  | n + 1 => fun hq => mc_wk_World_link (fun hq => mc_wr_World_link n hq) hq
set_option maxRecDepth 20000 in
theorem mc_w_World_link {this : Nat} {a1 : Int32} {Q Q' : Int32 → Mem → Prop} {M : Mem} (hQ : ∀ z0 z1, K1 M z1 → Q z0 z1 → Q' z0 z1) : w_World_link this a1 Q M → w_World_link this a1 Q' M := by
  unfold w_World_link
  exact (Exists.imp fun n => (mf_and fun _ => (mc_wr_World_link _ (fun z2 z3 f1 => hQ z2 z3 (K1.trans (K1.rf M) f1)))))
set_option maxRecDepth 20000 in
theorem mc_w_Machine_linkedClass {this : Nat} {a1 : Int32} {Q Q' : Int32 → Mem → Prop} {M : Mem} (hQ : ∀ z0 z1, K1 M z1 → Q z0 z1 → Q' z0 z1) : w_Machine_linkedClass this a1 Q M → w_Machine_linkedClass this a1 Q' M := by
  unfold w_Machine_linkedClass
  exact (mf_w_Machine_findClass (fun r2 M1 f1 => (mf_ite (mc_w_World_link (fun r5 M4 f2 => (mf_ite (hQ _ _ (K1.trans (K1.trans (K1.rf M) (K1.fr f1 rfl)) f2)) (hQ _ _ (K1.trans (K1.trans (K1.rf M) (K1.fr f1 rfl)) f2))))) (hQ _ _ (K1.trans (K1.rf M) (K1.fr f1 rfl))))))
set_option maxRecDepth 20000 in
theorem mc_w_Machine_findMethod_j58 {this : Nat} {Q Q' : Int32 → Mem → Prop} {M : Mem} {M0 : Mem} (hQ : ∀ z0 z1, K1 M0 z1 → Q z0 z1 → Q' z0 z1) : K1 M0 M → w_Machine_findMethod_j58 this Q M → w_Machine_findMethod_j58 this Q' M := by
  intro hf
  unfold w_Machine_findMethod_j58
  exact (mf_w_Machine_thrown (fun r15 M14 f1 => (hQ _ _ (K1.trans hf (K1.fr f1 rfl)))))
set_option maxRecDepth 20000 in
theorem mc_w_Machine_findMethod_j252 {this : Nat} {Q Q' : Int32 → Mem → Prop} {v5 : Int32} {v6 : Int32} {s0 : Int32} {M : Mem} {M0 : Mem} (hQ : ∀ z0 z1, K1 M0 z1 → Q z0 z1 → Q' z0 z1) : K1 M0 M → w_Machine_findMethod_j252 this Q v5 v6 s0 M → w_Machine_findMethod_j252 this Q' v5 v6 s0 M := by
  intro hf
  unfold w_Machine_findMethod_j252
  exact (mf_ite (hQ _ _ hf) (mf_ite (hQ _ _ hf) (mf_w_Machine_thrown (fun r31 M30 f1 => (hQ _ _ (K1.trans hf (K1.fr f1 rfl)))))))
set_option maxRecDepth 20000 in
theorem mc_w_Machine_findMethod_j247 {this : Nat} {Q Q' : Int32 → Mem → Prop} {v5 : Int32} {v6 : Int32} {M : Mem} {M0 : Mem} (hQ : ∀ z0 z1, K1 M0 z1 → Q z0 z1 → Q' z0 z1) : K1 M0 M → w_Machine_findMethod_j247 this Q v5 v6 M → w_Machine_findMethod_j247 this Q' v5 v6 M := by
  intro hf
  unfold w_Machine_findMethod_j247
  exact (mc_w_Machine_findMethod_j252 hQ hf)
set_option maxRecDepth 20000 in
theorem mc_w_Machine_findMethod_j216 {this : Nat} {Q Q' : Int32 → Mem → Prop} {v2 : Int32} {v5 : Int32} {v6 : Int32} {s0 : Int32} {s1 : Int32} {M : Mem} {M0 : Mem} (hQ : ∀ z0 z1, K1 M0 z1 → Q z0 z1 → Q' z0 z1) : K1 M0 M → w_Machine_findMethod_j216 this Q v2 v5 v6 s0 s1 M → w_Machine_findMethod_j216 this Q' v2 v5 v6 s0 s1 M := by
  intro hf
  unfold w_Machine_findMethod_j216
  exact (mf_ite (mf_ite (mc_w_Machine_findMethod_j247 hQ hf) (mf_ite (mc_w_Machine_findMethod_j247 hQ hf) (mf_ite (mc_w_Machine_findMethod_j252 hQ hf) (mc_w_Machine_findMethod_j247 hQ hf)))) (mf_w_Machine_thrown (fun r35 M34 f1 => (hQ _ _ (K1.trans hf (K1.fr f1 rfl))))))
set_option maxRecDepth 20000 in
theorem mc_w_Machine_findMethod_j205 {this : Nat} {Q Q' : Int32 → Mem → Prop} {v2 : Int32} {v5 : Int32} {v6 : Int32} {s0 : Int32} {M : Mem} {M0 : Mem} (hQ : ∀ z0 z1, K1 M0 z1 → Q z0 z1 → Q' z0 z1) : K1 M0 M → w_Machine_findMethod_j205 this Q v2 v5 v6 s0 M → w_Machine_findMethod_j205 this Q' v2 v5 v6 s0 M := by
  intro hf
  unfold w_Machine_findMethod_j205
  exact (mf_ite (mc_w_Machine_findMethod_j216 hQ hf) (mc_w_Machine_findMethod_j216 hQ hf))
set_option maxRecDepth 20000 in
theorem mc_w_Machine_findMethod_j193 {this : Nat} {Q Q' : Int32 → Mem → Prop} {v2 : Int32} {v5 : Int32} {v6 : Int32} {M : Mem} {M0 : Mem} (hQ : ∀ z0 z1, K1 M0 z1 → Q z0 z1 → Q' z0 z1) : K1 M0 M → w_Machine_findMethod_j193 this Q v2 v5 v6 M → w_Machine_findMethod_j193 this Q' v2 v5 v6 M := by
  intro hf
  unfold w_Machine_findMethod_j193
  exact (mf_ite (mc_w_Machine_findMethod_j205 hQ hf) (mc_w_Machine_findMethod_j205 hQ hf))
set_option maxRecDepth 20000 in
theorem mc_w_Machine_findMethod_j172 {this : Nat} {Q Q' : Int32 → Mem → Prop} {v2 : Int32} {v5 : Int32} {v6 : Int32} {M : Mem} {M0 : Mem} (hQ : ∀ z0 z1, K1 M0 z1 → Q z0 z1 → Q' z0 z1) : K1 M0 M → w_Machine_findMethod_j172 this Q v2 v5 v6 M → w_Machine_findMethod_j172 this Q' v2 v5 v6 M := by
  intro hf
  unfold w_Machine_findMethod_j172
  exact (mf_w_World_asks (fun r39 M38 f1 => (mf_ite (mc_w_Machine_findMethod_j193 hQ (K1.trans hf (K1.fr f1 rfl))) (mf_w_Machine_thrown (fun r42 M41 f2 => (hQ _ _ (K1.trans (K1.trans hf (K1.fr f1 rfl)) (K1.fr f2 rfl))))))))
set_option maxRecDepth 20000 in
theorem mc_w_Machine_findMethod_j105 {this : Nat} {Q Q' : Int32 → Mem → Prop} {v2 : Int32} {v3 : Int32} {s0 : Int32} {M : Mem} {M0 : Mem} (hQ : ∀ z0 z1, K1 M0 z1 → Q z0 z1 → Q' z0 z1) : K1 M0 M → w_Machine_findMethod_j105 this Q v2 v3 s0 M → w_Machine_findMethod_j105 this Q' v2 v3 s0 M := by
  intro hf
  unfold w_Machine_findMethod_j105
  exact (mf_ite (mf_and fun _ => (mf_ite (mc_w_Machine_findMethod_j193 hQ hf) (mf_ite (mc_w_Machine_findMethod_j193 hQ hf) (mf_ite (mc_w_Machine_findMethod_j172 hQ hf) (mf_and fun _ => (mf_and fun _ => (mf_ite (mc_w_Machine_findMethod_j193 hQ hf) (mc_w_Machine_findMethod_j172 hQ hf)))))))) (mf_w_Machine_thrown (fun r47 M46 f1 => (hQ _ _ (K1.trans hf (K1.fr f1 rfl))))))
set_option maxRecDepth 20000 in
theorem mc_w_Machine_findMethod_j67 {this : Nat} {Q Q' : Int32 → Mem → Prop} {v1 : Int32} {v2 : Int32} {v3 : Int32} {v4 : Int32} {M : Mem} {M0 : Mem} (hQ : ∀ z0 z1, K1 M0 z1 → Q z0 z1 → Q' z0 z1) : K1 M0 M → w_Machine_findMethod_j67 this Q v1 v2 v3 v4 M → w_Machine_findMethod_j67 this Q' v1 v2 v3 v4 M := by
  intro hf
  unfold w_Machine_findMethod_j67
  exact (mf_w_World_refName (fun r17 M16 f1 => (mf_ite (mf_w_World_ownLike (fun r20 M19 f2 => (mc_w_Machine_findMethod_j105 hQ (K1.trans (K1.trans hf (K1.fr f1 rfl)) (K1.fr f2 rfl))))) (mf_w_World_method (fun r49 M48 f3 => (mc_w_Machine_findMethod_j105 hQ (K1.trans (K1.trans hf (K1.fr f1 rfl)) (K1.fr f3 rfl))))))))
set_option maxRecDepth 20000 in
theorem mc_w_Machine_findMethod_j40 {this : Nat} {Q Q' : Int32 → Mem → Prop} {v1 : Int32} {v2 : Int32} {v3 : Int32} {v4 : Int32} {M : Mem} {M0 : Mem} (hQ : ∀ z0 z1, K1 M0 z1 → Q z0 z1 → Q' z0 z1) : K1 M0 M → w_Machine_findMethod_j40 this Q v1 v2 v3 v4 M → w_Machine_findMethod_j40 this Q' v1 v2 v3 v4 M := by
  intro hf
  unfold w_Machine_findMethod_j40
  exact (mf_ite (mf_w_World_isFace (fun r12 M11 f1 => (mf_ite (mc_w_Machine_findMethod_j58 hQ (K1.trans hf (K1.fr f1 rfl))) (mc_w_Machine_findMethod_j67 hQ (K1.trans hf (K1.fr f1 rfl)))))) (mc_w_Machine_findMethod_j67 hQ hf))
set_option maxRecDepth 20000 in
theorem mc_w_Machine_findMethod {this : Nat} {a1 : Int32} {a2 : Int32} {a3 : Int32} {Q Q' : Int32 → Mem → Prop} {M : Mem} (hQ : ∀ z0 z1, K1 M z1 → Q z0 z1 → Q' z0 z1) : w_Machine_findMethod this a1 a2 a3 Q M → w_Machine_findMethod this a1 a2 a3 Q' M := by
  unfold w_Machine_findMethod
  exact (mf_w_World_refClass (fun r2 M1 f1 => (mc_w_Machine_linkedClass (fun r4 M3 f2 => (mf_ite (mf_ite (mf_w_World_isFace (fun r8 M7 f3 => (mf_ite (mc_w_Machine_findMethod_j40 hQ (K1.trans (K1.trans (K1.trans (K1.rf M) (K1.fr f1 rfl)) f2) (K1.fr f3 rfl))) (mc_w_Machine_findMethod_j58 hQ (K1.trans (K1.trans (K1.trans (K1.rf M) (K1.fr f1 rfl)) f2) (K1.fr f3 rfl)))))) (mc_w_Machine_findMethod_j40 hQ (K1.trans (K1.trans (K1.rf M) (K1.fr f1 rfl)) f2))) (hQ _ _ (K1.trans (K1.trans (K1.rf M) (K1.fr f1 rfl)) f2)))))))
set_option maxRecDepth 20000 in
theorem mc_w_Machine_mustStart_j82 {this : Nat} {Q Q' : Int32 → Mem → Prop} {v1 : Int32} {s0 : Int32} {M : Mem} {M0 : Mem} (hQ : ∀ z0 z1, K1 M0 z1 → Q z0 z1 → Q' z0 z1) : K1 M0 M → w_Machine_mustStart_j82 this Q v1 s0 M → w_Machine_mustStart_j82 this Q' v1 s0 M := by
  intro hf
  unfold w_Machine_mustStart_j82
  exact (mf_ite (mf_w_Machine_begins (fun M12 f1 => (hQ _ _ (K1.trans hf (K1.fr f1 rfl))))) (hQ _ _ (K1.wI0 rfl hf)))
set_option maxRecDepth 20000 in
theorem mc_w_Machine_mustStart {this : Nat} {a1 : Int32} {Q Q' : Int32 → Mem → Prop} {M : Mem} (hQ : ∀ z0 z1, K1 M z1 → Q z0 z1 → Q' z0 z1) : w_Machine_mustStart this a1 Q M → w_Machine_mustStart this a1 Q' M := by
  unfold w_Machine_mustStart
  exact (mf_and fun _ => (mf_ite (hQ _ _ (K1.rf M)) (mf_and fun _ => (mf_ite (mf_and fun _ => (Exists.imp fun i6 => (mf_and fun _ => (mf_ite (hQ _ _ (K1.rf M)) (Exists.imp fun i8 => (mf_and fun _ => (hQ _ _ (K1.wI0 rfl (K1.rf M))))))))) (mf_and fun _ => (mf_ite (mc_w_Machine_mustStart_j82 hQ (K1.rf M)) (mc_w_World_link (fun r14 M13 f1 => (mc_w_Machine_mustStart_j82 hQ (K1.trans (K1.rf M) f1))))))))))
set_option maxRecDepth 20000 in
theorem mc_w_Machine_isReady_j20 {this : Nat} {Q Q' : Int32 → Mem → Prop} {v2 : Int32} {M : Mem} {M0 : Mem} (hQ : ∀ z0 z1, K1 M0 z1 → Q z0 z1 → Q' z0 z1) : K1 M0 M → w_Machine_isReady_j20 this Q v2 M → w_Machine_isReady_j20 this Q' v2 M := by
  intro hf
  unfold w_Machine_isReady_j20
  exact (mf_ite (hQ _ _ hf) (hQ _ _ hf))
set_option maxRecDepth 20000 in
theorem mc_w_Machine_isReady {this : Nat} {a1 : Int32} {Q Q' : Int32 → Mem → Prop} {M : Mem} (hQ : ∀ z0 z1, K1 M z1 → Q z0 z1 → Q' z0 z1) : w_Machine_isReady this a1 Q M → w_Machine_isReady this a1 Q' M := by
  unfold w_Machine_isReady
  exact (mc_w_Machine_mustStart (fun r2 M1 f1 => (mf_ite (mf_w_Machine_fails (fun M4 f2 => (mc_w_Machine_isReady_j20 hQ (K1.trans (K1.trans (K1.rf M) f1) (K1.fr f2 rfl))))) (mc_w_Machine_isReady_j20 hQ (K1.trans (K1.rf M) f1)))))
set_option maxRecDepth 20000 in
theorem mc_w_Machine_first_L53 {this : Nat} {Q Q' : Mem → Prop} {M0 : Mem} (hQ : ∀ z0, K1 M0 z0 → Q z0 → Q' z0) : ∀ (n : Nat) (v1 : Int32) (v2 : Int32) (M : Mem), K1 M0 M → w_Machine_first_L53 this Q n v1 v2 M → w_Machine_first_L53 this Q' n v1 v2 M
  | 0, _, _, _ => fun _ h => h
  | n + 1, v1, v2, M => fun hf => by
    unfold w_Machine_first_L53
    exact (mf_and fun _ => (mf_ite (hQ _ hf) (Exists.imp fun i14 => (mf_and fun _ => (mf_and fun _ => (mf_w_Machine_set (fun M16 f1 => (mc_w_Machine_first_L53 hQ _ _ _ _ (K1.trans hf (K1.fr f1 rfl))))))))))
set_option maxRecDepth 20000 in
theorem mc_w_Machine_first {this : Nat} {Q Q' : Mem → Prop} {M : Mem} (hQ : ∀ z0, K1 M z0 → Q z0 → Q' z0) : w_Machine_first this Q M → w_Machine_first this Q' M := by
  unfold w_Machine_first
  exact (Exists.imp fun i1 => (mf_and fun _ => (mc_w_Machine_findMethod (fun r3 M2 f1 => (mf_ite (mf_and fun _ => (mc_w_Machine_isReady (fun r7 M6 f2 => (mf_ite (hQ _ (K1.trans (K1.trans (K1.rf M) f1) f2)) (mf_w_Machine_enter (fun r10 M9 f3 => (mf_ite (hQ _ (K1.trans (K1.trans (K1.trans (K1.rf M) f1) f2) (K1.fr f3 rfl))) (Exists.imp fun n17 => (mc_w_Machine_first_L53 hQ _ _ _ _ (K1.trans (K1.trans (K1.trans (K1.rf M) f1) f2) (K1.fr f3 rfl))))))))))) (mf_w_Machine_fails (fun M18 f4 => (hQ _ (K1.trans (K1.trans (K1.rf M) f1) (K1.fr f4 rfl))))))))))
set_option maxRecDepth 20000 in
theorem mc_w_Machine_start_j49 {this : Nat} {Q Q' : Mem → Prop} {v1 : Int32} {v2 : Int32} {M : Mem} {M0 : Mem} (hQ : ∀ z0, K1 M0 z0 → Q z0 → Q' z0) : K1 M0 M → w_Machine_start_j49 this Q v1 v2 M → w_Machine_start_j49 this Q' v1 v2 M := by
  intro hf
  unfold w_Machine_start_j49
  exact (Exists.imp fun i14 => (mf_and fun _ => (mf_and fun _ => (mf_w_Machine_ownStart (fun r17 M16 f1 => (mf_ite (mf_w_Machine_startEnds (fun M19 f2 => (hQ _ (K1.trans (K1.trans (K1.wI0a rfl hf) (K1.fr f1 rfl)) (K1.fr f2 rfl))))) (mf_w_Machine_enter (fun r21 M20 f3 => (hQ _ (K1.trans (K1.trans (K1.wI0a rfl hf) (K1.fr f1 rfl)) (K1.fr f3 rfl)))))))))))
set_option maxRecDepth 20000 in
theorem mc_w_Machine_start {this : Nat} {a1 : Int32} {Q Q' : Mem → Prop} {M : Mem} (hQ : ∀ z0, K1 M z0 → Q z0 → Q' z0) : w_Machine_start this a1 Q M → w_Machine_start this a1 Q' M := by
  unfold w_Machine_start
  exact (Exists.imp fun i1 => (mf_and fun _ => (mf_and fun _ => (Exists.imp fun i3 => (mf_and fun _ => (mf_and fun _ => (mf_ite (mf_w_World_isFace (fun r7 M6 f1 => (mf_ite (mf_w_World_up (fun r10 M9 f2 => (mc_w_Machine_isReady (fun r12 M11 f3 => (mf_ite (hQ _ (K1.trans (K1.trans (K1.trans (K1.rf M) (K1.fr f1 rfl)) (K1.fr f2 rfl)) f3)) (mc_w_Machine_start_j49 hQ (K1.trans (K1.trans (K1.trans (K1.rf M) (K1.fr f1 rfl)) (K1.fr f2 rfl)) f3))))))) (mc_w_Machine_start_j49 hQ (K1.trans (K1.rf M) (K1.fr f1 rfl)))))) (mc_w_Machine_start_j49 hQ (K1.rf M)))))))))
set_option maxRecDepth 20000 in
theorem mc_w_Machine_findField_j214 {this : Nat} {Q Q' : Int32 → Mem → Prop} {v3 : Int32} {v6 : Int32} {v8 : Int32} {s0 : Int32} {M : Mem} {M0 : Mem} (hQ : ∀ z0 z1, K1 M0 z1 → Q z0 z1 → Q' z0 z1) : K1 M0 M → w_Machine_findField_j214 this Q v3 v6 v8 s0 M → w_Machine_findField_j214 this Q' v3 v6 v8 s0 M := by
  intro hf
  unfold w_Machine_findField_j214
  exact (mf_ite (hQ _ _ hf) (mf_ite (hQ _ _ hf) (mf_ite (mf_w_World_asks (fun r32 M31 f1 => (mf_ite (hQ _ _ (K1.trans hf (K1.fr f1 rfl))) (mf_w_Machine_thrown (fun r35 M34 f2 => (hQ _ _ (K1.trans (K1.trans hf (K1.fr f1 rfl)) (K1.fr f2 rfl)))))))) (hQ _ _ hf))))
set_option maxRecDepth 20000 in
theorem mc_w_Machine_findField_j213 {this : Nat} {Q Q' : Int32 → Mem → Prop} {v3 : Int32} {v6 : Int32} {v8 : Int32} {M : Mem} {M0 : Mem} (hQ : ∀ z0 z1, K1 M0 z1 → Q z0 z1 → Q' z0 z1) : K1 M0 M → w_Machine_findField_j213 this Q v3 v6 v8 M → w_Machine_findField_j213 this Q' v3 v6 v8 M := by
  intro hf
  unfold w_Machine_findField_j213
  exact (mc_w_Machine_findField_j214 hQ hf)
set_option maxRecDepth 20000 in
theorem mc_w_Machine_findField_j206 {this : Nat} {Q Q' : Int32 → Mem → Prop} {v3 : Int32} {v6 : Int32} {v8 : Int32} {s0 : Int32} {s1 : Int32} {M : Mem} {M0 : Mem} (hQ : ∀ z0 z1, K1 M0 z1 → Q z0 z1 → Q' z0 z1) : K1 M0 M → w_Machine_findField_j206 this Q v3 v6 v8 s0 s1 M → w_Machine_findField_j206 this Q' v3 v6 v8 s0 s1 M := by
  intro hf
  unfold w_Machine_findField_j206
  exact (mf_ite (mc_w_Machine_findField_j214 hQ hf) (mc_w_Machine_findField_j213 hQ hf))
set_option maxRecDepth 20000 in
theorem mc_w_Machine_findField_j170 {this : Nat} {Q Q' : Int32 → Mem → Prop} {v2 : Int32} {v3 : Int32} {v4 : Int32} {v6 : Int32} {v7 : Int32} {v8 : Int32} {M : Mem} {M0 : Mem} (hQ : ∀ z0 z1, K1 M0 z1 → Q z0 z1 → Q' z0 z1) : K1 M0 M → w_Machine_findField_j170 this Q v2 v3 v4 v6 v7 v8 M → w_Machine_findField_j170 this Q' v2 v3 v4 v6 v7 v8 M := by
  intro hf
  unfold w_Machine_findField_j170
  exact (mf_and fun _ => (mf_ite (mf_and fun _ => (mf_ite (mc_w_Machine_findField_j206 hQ hf) (mc_w_Machine_findField_j206 hQ hf))) (mc_w_Machine_findField_j213 hQ hf)))
set_option maxRecDepth 20000 in
theorem mc_w_Machine_findField_j161 {this : Nat} {Q Q' : Int32 → Mem → Prop} {M : Mem} {M0 : Mem} (hQ : ∀ z0 z1, K1 M0 z1 → Q z0 z1 → Q' z0 z1) : K1 M0 M → w_Machine_findField_j161 this Q M → w_Machine_findField_j161 this Q' M := by
  intro hf
  unfold w_Machine_findField_j161
  exact (mf_w_Machine_thrown (fun r37 M36 f1 => (hQ _ _ (K1.trans hf (K1.fr f1 rfl)))))
set_option maxRecDepth 20000 in
theorem mc_w_Machine_findField_j141 {this : Nat} {Q Q' : Int32 → Mem → Prop} {v2 : Int32} {v3 : Int32} {v4 : Int32} {v6 : Int32} {v7 : Int32} {v8 : Int32} {s0 : Int32} {M : Mem} {M0 : Mem} (hQ : ∀ z0 z1, K1 M0 z1 → Q z0 z1 → Q' z0 z1) : K1 M0 M → w_Machine_findField_j141 this Q v2 v3 v4 v6 v7 v8 s0 M → w_Machine_findField_j141 this Q' v2 v3 v4 v6 v7 v8 s0 M := by
  intro hf
  unfold w_Machine_findField_j141
  exact (mf_ite (mf_ite (mf_w_World_isFace (fun r21 M20 f1 => (mf_ite (mc_w_Machine_findField_j170 hQ (K1.trans hf (K1.fr f1 rfl))) (mc_w_Machine_findField_j161 hQ (K1.trans hf (K1.fr f1 rfl)))))) (mc_w_Machine_findField_j170 hQ hf)) (mc_w_Machine_findField_j161 hQ hf))
set_option maxRecDepth 20000 in
theorem mc_w_Machine_findField_j129 {this : Nat} {Q Q' : Int32 → Mem → Prop} {v2 : Int32} {v3 : Int32} {v4 : Int32} {v6 : Int32} {v7 : Int32} {v8 : Int32} {M : Mem} {M0 : Mem} (hQ : ∀ z0 z1, K1 M0 z1 → Q z0 z1 → Q' z0 z1) : K1 M0 M → w_Machine_findField_j129 this Q v2 v3 v4 v6 v7 v8 M → w_Machine_findField_j129 this Q' v2 v3 v4 v6 v7 v8 M := by
  intro hf
  unfold w_Machine_findField_j129
  exact (mf_ite (mc_w_Machine_findField_j141 hQ hf) (mc_w_Machine_findField_j141 hQ hf))
set_option maxRecDepth 20000 in
theorem mc_w_Machine_findField {this : Nat} {a1 : Int32} {a2 : Int32} {a3 : Int32} {a4 : Int32} {Q Q' : Int32 → Mem → Prop} {M : Mem} (hQ : ∀ z0 z1, K1 M z1 → Q z0 z1 → Q' z0 z1) : w_Machine_findField this a1 a2 a3 a4 Q M → w_Machine_findField this a1 a2 a3 a4 Q' M := by
  unfold w_Machine_findField
  exact (mf_w_World_refClass (fun r2 M1 f1 => (mc_w_Machine_linkedClass (fun r4 M3 f2 => (mf_ite (mf_w_World_refName (fun r7 M6 f3 => (mf_w_World_refType (fun r9 M8 f4 => (mf_w_World_field (fun r11 M10 f5 => (mf_ite (mf_w_World_classOfField (fun r14 M13 f6 => (mf_and fun _ => (mf_ite (mc_w_Machine_findField_j129 hQ (K1.trans (K1.trans (K1.trans (K1.trans (K1.trans (K1.trans (K1.rf M) (K1.fr f1 rfl)) f2) (K1.fr f3 rfl)) (K1.fr f4 rfl)) (K1.fr f5 rfl)) (K1.fr f6 rfl))) (mf_and fun _ => (mf_ite (mc_w_Machine_findField_j129 hQ (K1.trans (K1.trans (K1.trans (K1.trans (K1.trans (K1.trans (K1.rf M) (K1.fr f1 rfl)) f2) (K1.fr f3 rfl)) (K1.fr f4 rfl)) (K1.fr f5 rfl)) (K1.fr f6 rfl))) (mf_w_World_asks (fun r41 M40 f7 => (mf_ite (mc_w_Machine_findField_j129 hQ (K1.trans (K1.trans (K1.trans (K1.trans (K1.trans (K1.trans (K1.trans (K1.rf M) (K1.fr f1 rfl)) f2) (K1.fr f3 rfl)) (K1.fr f4 rfl)) (K1.fr f5 rfl)) (K1.fr f6 rfl)) (K1.fr f7 rfl))) (mf_w_Machine_thrown (fun r44 M43 f8 => (hQ _ _ (K1.trans (K1.trans (K1.trans (K1.trans (K1.trans (K1.trans (K1.trans (K1.trans (K1.rf M) (K1.fr f1 rfl)) f2) (K1.fr f3 rfl)) (K1.fr f4 rfl)) (K1.fr f5 rfl)) (K1.fr f6 rfl)) (K1.fr f7 rfl)) (K1.fr f8 rfl)))))))))))))) (mf_w_Machine_thrown (fun r46 M45 f9 => (hQ _ _ (K1.trans (K1.trans (K1.trans (K1.trans (K1.trans (K1.trans (K1.rf M) (K1.fr f1 rfl)) f2) (K1.fr f3 rfl)) (K1.fr f4 rfl)) (K1.fr f5 rfl)) (K1.fr f9 rfl)))))))))))) (hQ _ _ (K1.trans (K1.trans (K1.rf M) (K1.fr f1 rfl)) f2)))))))
set_option maxRecDepth 20000 in
theorem mc_w_Machine_finds_j33 {this : Nat} {Q Q' : Int32 → Mem → Prop} {v4 : Int32} {M : Mem} {M0 : Mem} (hQ : ∀ z0 z1, K1 M0 z1 → Q z0 z1 → Q' z0 z1) : K1 M0 M → w_Machine_finds_j33 this Q v4 M → w_Machine_finds_j33 this Q' v4 M := by
  intro hf
  unfold w_Machine_finds_j33
  exact (mf_w_Machine_findClass (fun r5 M4 f1 => (hQ _ _ (K1.trans hf (K1.fr f1 rfl)))))
set_option maxRecDepth 20000 in
theorem mc_w_Machine_finds_j143 {this : Nat} {Q Q' : Int32 → Mem → Prop} {v1 : Int32} {s0 : Int32} {s1 : Int32} {s2 : Int32} {M : Mem} {M0 : Mem} (hQ : ∀ z0 z1, K1 M0 z1 → Q z0 z1 → Q' z0 z1) : K1 M0 M → w_Machine_finds_j143 this Q v1 s0 s1 s2 M → w_Machine_finds_j143 this Q' v1 s0 s1 s2 M := by
  intro hf
  unfold w_Machine_finds_j143
  exact (mc_w_Machine_findField (fun r29 M28 f1 => (hQ _ _ (K1.trans hf f1))))
set_option maxRecDepth 20000 in
theorem mc_w_Machine_finds_j138 {this : Nat} {Q Q' : Int32 → Mem → Prop} {v1 : Int32} {s0 : Int32} {s1 : Int32} {M : Mem} {M0 : Mem} (hQ : ∀ z0 z1, K1 M0 z1 → Q z0 z1 → Q' z0 z1) : K1 M0 M → w_Machine_finds_j138 this Q v1 s0 s1 M → w_Machine_finds_j138 this Q' v1 s0 s1 M := by
  intro hf
  unfold w_Machine_finds_j138
  exact (mc_w_Machine_finds_j143 hQ hf)
set_option maxRecDepth 20000 in
theorem mc_w_Machine_finds_j126 {this : Nat} {Q Q' : Int32 → Mem → Prop} {v1 : Int32} {v3 : Int32} {s0 : Int32} {s1 : Int32} {M : Mem} {M0 : Mem} (hQ : ∀ z0 z1, K1 M0 z1 → Q z0 z1 → Q' z0 z1) : K1 M0 M → w_Machine_finds_j126 this Q v1 v3 s0 s1 M → w_Machine_finds_j126 this Q' v1 v3 s0 s1 M := by
  intro hf
  unfold w_Machine_finds_j126
  exact (mf_ite (mc_w_Machine_finds_j138 hQ hf) (mf_ite (mc_w_Machine_finds_j138 hQ hf) (mc_w_Machine_finds_j143 hQ hf)))
set_option maxRecDepth 20000 in
theorem mc_w_Machine_finds {this : Nat} {a1 : Int32} {a2 : Int32} {Q Q' : Int32 → Mem → Prop} {M : Mem} (hQ : ∀ z0 z1, K1 M z1 → Q z0 z1 → Q' z0 z1) : w_Machine_finds this a1 a2 Q M → w_Machine_finds this a1 a2 Q' M := by
  unfold w_Machine_finds
  exact (mf_and fun _ => (mf_and fun _ => (mf_ite (mc_w_Machine_finds_j33 hQ (K1.rf M)) (mf_ite (mc_w_Machine_finds_j33 hQ (K1.rf M)) (mf_ite (mc_w_Machine_linkedClass (fun r9 M8 f1 => (mf_ite (hQ _ _ (K1.trans (K1.rf M) f1)) (mf_and fun _ => (mf_ite (hQ _ _ (K1.trans (K1.rf M) f1)) (mf_w_World_asks (fun r14 M13 f2 => (mf_ite (hQ _ _ (K1.trans (K1.trans (K1.rf M) f1) (K1.fr f2 rfl))) (mf_w_Machine_thrown (fun r17 M16 f3 => (hQ _ _ (K1.trans (K1.trans (K1.trans (K1.rf M) f1) (K1.fr f2 rfl)) (K1.fr f3 rfl))))))))))))) (mf_w_Works_isIn (fun r19 M18 f4 => (mf_ite (mf_w_Works_isIn (fun r22 M21 f5 => (mf_ite (hQ _ _ (K1.trans (K1.trans (K1.rf M) (K1.fr f4 rfl)) (K1.fr f5 rfl))) (mc_w_Machine_findMethod (fun r25 M24 f6 => (hQ _ _ (K1.trans (K1.trans (K1.trans (K1.rf M) (K1.fr f4 rfl)) (K1.fr f5 rfl)) f6))))))) (mf_ite (mc_w_Machine_finds_j126 hQ (K1.trans (K1.rf M) (K1.fr f4 rfl))) (mc_w_Machine_finds_j126 hQ (K1.trans (K1.rf M) (K1.fr f4 rfl))))))))))))
set_option maxRecDepth 20000 in
theorem mc_w_Machine_instruction_j304 {this : Nat} {Q Q' : Mem → Prop} {s0 : Int32} {M : Mem} {M0 : Mem} (hQ : ∀ z0, K1 M0 z0 → Q z0 → Q' z0) : K1 M0 M → w_Machine_instruction_j304 this Q s0 M → w_Machine_instruction_j304 this Q' s0 M := by
  intro hf
  unfold w_Machine_instruction_j304
  exact (mf_w_Machine_fails (fun M25 f1 => (hQ _ (K1.trans hf (K1.fr f1 rfl)))))
set_option maxRecDepth 20000 in
theorem mc_w_Machine_instruction_j284 {this : Nat} {Q Q' : Mem → Prop} {M : Mem} {M0 : Mem} (hQ : ∀ z0, K1 M0 z0 → Q z0 → Q' z0) : K1 M0 M → w_Machine_instruction_j284 this Q M → w_Machine_instruction_j284 this Q' M := by
  intro hf
  unfold w_Machine_instruction_j284
  exact (mf_ite (mc_w_Machine_instruction_j304 hQ hf) (mc_w_Machine_instruction_j304 hQ hf))
set_option maxRecDepth 20000 in
theorem mc_w_Machine_instruction_j252 {this : Nat} {Q Q' : Mem → Prop} {v1 : Int32} {v2 : Int32} {v3 : Int32} {v4 : Int32} {v5 : Int32} {M : Mem} {M0 : Mem} (hQ : ∀ z0, K1 M0 z0 → Q z0 → Q' z0) : K1 M0 M → w_Machine_instruction_j252 this Q v1 v2 v3 v4 v5 M → w_Machine_instruction_j252 this Q' v1 v2 v3 v4 v5 M := by
  intro hf
  unfold w_Machine_instruction_j252
  exact (mf_ite (hQ _ hf) (mf_ite (hQ _ hf) (mf_w_Machine_step (fun M22 f1 => (mf_ite (mc_w_Machine_instruction_j284 hQ (K1.trans hf (K1.fr f1 rfl))) (mf_ite (mc_w_Machine_instruction_j284 hQ (K1.trans hf (K1.fr f1 rfl))) (mf_w_Machine_act (fun M27 f2 => (hQ _ (K1.trans (K1.trans hf (K1.fr f1 rfl)) (K1.fr f2 rfl)))))))))))
set_option maxRecDepth 20000 in
theorem mc_w_Machine_instruction_j206 {this : Nat} {Q Q' : Mem → Prop} {v1 : Int32} {v2 : Int32} {v3 : Int32} {v4 : Int32} {v5 : Int32} {M : Mem} {M0 : Mem} (hQ : ∀ z0, K1 M0 z0 → Q z0 → Q' z0) : K1 M0 M → w_Machine_instruction_j206 this Q v1 v2 v3 v4 v5 M → w_Machine_instruction_j206 this Q' v1 v2 v3 v4 v5 M := by
  intro hf
  unfold w_Machine_instruction_j206
  exact (mf_ite (mf_w_Machine_number (fun r18 M17 f1 => (mf_ite (mc_w_Machine_instruction_j252 hQ (K1.trans hf (K1.fr f1 rfl))) (Exists.imp fun i28 => (mf_and fun _ => (mf_w_Machine_number (fun r30 M29 f2 => (mf_w_Machine_isLockedFor (fun r32 M31 f3 => (mf_ite (mc_w_Machine_instruction_j252 hQ (K1.trans (K1.trans (K1.trans hf (K1.fr f1 rfl)) (K1.fr f2 rfl)) (K1.fr f3 rfl))) (Exists.imp fun i34 => (mf_and fun _ => (mf_w_Machine_number (fun r36 M35 f4 => (mc_w_Machine_instruction_j252 hQ (K1.wI0 rfl (K1.trans (K1.trans (K1.trans (K1.trans hf (K1.fr f1 rfl)) (K1.fr f2 rfl)) (K1.fr f3 rfl)) (K1.fr f4 rfl)))))))))))))))))) (mc_w_Machine_instruction_j252 hQ hf))
set_option maxRecDepth 20000 in
theorem mc_w_Machine_instruction_j171 {this : Nat} {Q Q' : Mem → Prop} {v1 : Int32} {v2 : Int32} {v3 : Int32} {v4 : Int32} {v5 : Int32} {M : Mem} {M0 : Mem} (hQ : ∀ z0, K1 M0 z0 → Q z0 → Q' z0) : K1 M0 M → w_Machine_instruction_j171 this Q v1 v2 v3 v4 v5 M → w_Machine_instruction_j171 this Q' v1 v2 v3 v4 v5 M := by
  intro hf
  unfold w_Machine_instruction_j171
  exact (mf_ite (mc_w_Machine_instruction_j206 hQ hf) (mf_ite (mf_and fun _ => (mc_w_Machine_mustStart (fun r40 M39 f1 => (mc_w_Machine_instruction_j252 hQ (K1.trans hf f1))))) (mc_w_Machine_instruction_j206 hQ hf)))
set_option maxRecDepth 20000 in
theorem mc_w_Machine_instruction_j151 {this : Nat} {Q Q' : Mem → Prop} {v1 : Int32} {v2 : Int32} {v3 : Int32} {v4 : Int32} {M : Mem} {M0 : Mem} (hQ : ∀ z0, K1 M0 z0 → Q z0 → Q' z0) : K1 M0 M → w_Machine_instruction_j151 this Q v1 v2 v3 v4 M → w_Machine_instruction_j151 this Q' v1 v2 v3 v4 M := by
  intro hf
  unfold w_Machine_instruction_j151
  exact (mf_w_World_classOfField (fun r43 M42 f1 => (mc_w_Machine_mustStart (fun r45 M44 f2 => (mc_w_Machine_instruction_j252 hQ (K1.trans (K1.trans hf (K1.fr f1 rfl)) f2))))))
set_option maxRecDepth 20000 in
theorem mc_w_Machine_instruction_j130 {this : Nat} {Q Q' : Mem → Prop} {v1 : Int32} {v2 : Int32} {v3 : Int32} {v4 : Int32} {v5 : Int32} {M : Mem} {M0 : Mem} (hQ : ∀ z0, K1 M0 z0 → Q z0 → Q' z0) : K1 M0 M → w_Machine_instruction_j130 this Q v1 v2 v3 v4 v5 M → w_Machine_instruction_j130 this Q' v1 v2 v3 v4 v5 M := by
  intro hf
  unfold w_Machine_instruction_j130
  exact (mf_ite (mc_w_Machine_instruction_j171 hQ hf) (mf_ite (mc_w_Machine_instruction_j151 hQ hf) (mf_ite (mc_w_Machine_instruction_j151 hQ hf) (mc_w_Machine_instruction_j171 hQ hf))))
set_option maxRecDepth 20000 in
theorem mc_w_Machine_instruction_j97 {this : Nat} {Q Q' : Mem → Prop} {v1 : Int32} {v2 : Int32} {v3 : Int32} {v4 : Int32} {s0 : Int32} {M : Mem} {M0 : Mem} (hQ : ∀ z0, K1 M0 z0 → Q z0 → Q' z0) : K1 M0 M → w_Machine_instruction_j97 this Q v1 v2 v3 v4 s0 M → w_Machine_instruction_j97 this Q' v1 v2 v3 v4 s0 M := by
  intro hf
  unfold w_Machine_instruction_j97
  exact (mf_ite (mc_w_Machine_instruction_j130 hQ (K1.wI0 rfl hf)) (mf_ite (mc_w_Machine_mustStart (fun r49 M48 f1 => (mc_w_Machine_instruction_j252 hQ (K1.trans (K1.wI0 rfl hf) f1)))) (mc_w_Machine_instruction_j130 hQ (K1.wI0 rfl hf))))
set_option maxRecDepth 20000 in
theorem mc_w_Machine_instruction_j87 {this : Nat} {Q Q' : Mem → Prop} {v1 : Int32} {v2 : Int32} {v3 : Int32} {v4 : Int32} {M : Mem} {M0 : Mem} (hQ : ∀ z0, K1 M0 z0 → Q z0 → Q' z0) : K1 M0 M → w_Machine_instruction_j87 this Q v1 v2 v3 v4 M → w_Machine_instruction_j87 this Q' v1 v2 v3 v4 M := by
  intro hf
  unfold w_Machine_instruction_j87
  exact (mc_w_Machine_instruction_j97 hQ hf)
set_option maxRecDepth 20000 in
theorem mc_w_Machine_instruction {this : Nat} {Q Q' : Mem → Prop} {M : Mem} (hQ : ∀ z0, K1 M z0 → Q z0 → Q' z0) : w_Machine_instruction this Q M → w_Machine_instruction this Q' M := by
  unfold w_Machine_instruction
  exact (Exists.imp fun i1 => (mf_and fun _ => (Exists.imp fun i2 => (mf_and fun _ => (mf_and fun _ => (mf_and fun _ => (Exists.imp fun i5 => (mf_and fun _ => (mf_and fun _ => (Exists.imp fun x7 => (mf_and fun _ => (mf_and fun _ => (Exists.imp fun i9 => (mf_and fun _ => (mf_and fun _ => (Exists.imp fun M11 => (mf_and fun e1 => (mf_ite (mc_w_Machine_instruction_j87 hQ (K1.of e1 (K1.wI0 rfl (K1.wI0 rfl (K1.rf M))))) (mf_ite (mc_w_Machine_instruction_j87 hQ (K1.of e1 (K1.wI0 rfl (K1.wI0 rfl (K1.rf M))))) (mc_w_Machine_finds (fun r52 M51 f2 => (mc_w_Machine_instruction_j97 hQ (K1.trans (K1.of e1 (K1.wI0 rfl (K1.wI0 rfl (K1.rf M)))) f2)))))))))))))))))))))))
set_option maxRecDepth 20000 in
theorem mc_w_Machine_go_j147 {this : Nat} {Q Q' : Int32 → Mem → Prop} {k2 k2' : Int32 → Mem → Prop} {v2 : Int32} {M : Mem} {M0 : Mem} (hQ : ∀ z0 z1, K1 M0 z1 → Q z0 z1 → Q' z0 z1) (hk2 : ∀ z0 z1, K1 M0 z1 → k2 z0 z1 → k2' z0 z1) : K1 M0 M → w_Machine_go_j147 this Q k2 v2 M → w_Machine_go_j147 this Q' k2' v2 M := by
  intro hf
  unfold w_Machine_go_j147
  exact (hk2 _ _ hf)
set_option maxRecDepth 20000 in
theorem mc_w_Machine_go_j142 {this : Nat} {Q Q' : Int32 → Mem → Prop} {k2 k2' : Int32 → Mem → Prop} {v2 : Int32} {M : Mem} {M0 : Mem} (hQ : ∀ z0 z1, K1 M0 z1 → Q z0 z1 → Q' z0 z1) (hk2 : ∀ z0 z1, K1 M0 z1 → k2 z0 z1 → k2' z0 z1) : K1 M0 M → w_Machine_go_j142 this Q k2 v2 M → w_Machine_go_j142 this Q' k2' v2 M := by
  intro hf
  unfold w_Machine_go_j142
  exact (mc_w_Machine_go_j147 hQ hk2 (K1.wI0 rfl hf))
set_option maxRecDepth 20000 in
theorem mc_w_Machine_go_j120 {this : Nat} {Q Q' : Int32 → Mem → Prop} {k2 k2' : Int32 → Mem → Prop} {v2 : Int32} {M : Mem} {M0 : Mem} (hQ : ∀ z0 z1, K1 M0 z1 → Q z0 z1 → Q' z0 z1) (hk2 : ∀ z0 z1, K1 M0 z1 → k2 z0 z1 → k2' z0 z1) : K1 M0 M → w_Machine_go_j120 this Q k2 v2 M → w_Machine_go_j120 this Q' k2' v2 M := by
  intro hf
  unfold w_Machine_go_j120
  exact (Exists.imp fun i13 => (mf_and fun _ => (mf_ite (Exists.imp fun i15 => (mf_and fun _ => (mf_w_Machine_waits (fun r17 M16 f1 => (mf_ite (mc_w_Machine_go_j147 hQ hk2 (K1.trans hf (K1.fr f1 rfl))) (mc_w_Machine_go_j142 hQ hk2 (K1.trans hf (K1.fr f1 rfl)))))))) (mc_w_Machine_go_j142 hQ hk2 hf))))
set_option maxRecDepth 20000 in
theorem mc_w_Machine_go_j96 {this : Nat} {Q Q' : Int32 → Mem → Prop} {k2 k2' : Int32 → Mem → Prop} {v2 : Int32} {v3 : Int32} {M : Mem} {M0 : Mem} (hQ : ∀ z0 z1, K1 M0 z1 → Q z0 z1 → Q' z0 z1) (hk2 : ∀ z0 z1, K1 M0 z1 → k2 z0 z1 → k2' z0 z1) : K1 M0 M → w_Machine_go_j96 this Q k2 v2 v3 M → w_Machine_go_j96 this Q' k2' v2 v3 M := by
  intro hf
  unfold w_Machine_go_j96
  exact (Exists.imp fun i11 => (mf_and fun _ => (mf_ite (mc_w_Machine_go_j120 hQ hk2 hf) (mc_w_Machine_go_j120 hQ hk2 (K1.wI0 rfl hf)))))
set_option maxRecDepth 20000 in
theorem mc_w_Machine_go_L2 {this : Nat} {Q Q' : Int32 → Mem → Prop} {M0 : Mem} (hQ : ∀ z0 z1, K1 M0 z1 → Q z0 z1 → Q' z0 z1) : ∀ (n : Nat) (v2 : Int32) (M : Mem), K1 M0 M → w_Machine_go_L2 this Q n v2 M → w_Machine_go_L2 this Q' n v2 M
  | 0, _, _ => fun _ h => h
  | n + 1, v2, M => fun hf => by
    unfold w_Machine_go_L2
    exact (mf_ite (hQ _ _ hf) (mf_w_Machine_hasTurn (fun r3 M2 f1 => (mf_ite (hQ _ _ (K1.trans hf (K1.fr f1 rfl))) (Exists.imp fun i5 => (mf_and fun _ => (Exists.imp fun i6 => (mf_and fun _ => (Exists.imp fun i7 => (mf_and fun _ => (Exists.imp fun i8 => (mf_and fun _ => (mf_ite (mc_w_Machine_first (fun M10 f2 => (mc_w_Machine_go_j96 hQ (mc_w_Machine_go_L2 hQ n) (K1.trans (K1.wI0 rfl (K1.wI0 rfl (K1.trans hf (K1.fr f1 rfl)))) f2)))) (Exists.imp fun i19 => (mf_and fun _ => (Exists.imp fun i20 => (mf_and fun _ => (mf_and fun _ => (mf_ite (mc_w_Machine_instruction (fun M23 f3 => (mc_w_Machine_go_j96 hQ (mc_w_Machine_go_L2 hQ n) (K1.trans (K1.wI0 rfl (K1.wI0 rfl (K1.trans hf (K1.fr f1 rfl)))) f3)))) (Exists.imp fun i24 => (mf_and fun _ => (mc_w_Machine_start (fun M25 f4 => (mc_w_Machine_go_j96 hQ (mc_w_Machine_go_L2 hQ n) (K1.trans (K1.wI0 rfl (K1.wI0 rfl (K1.trans hf (K1.fr f1 rfl)))) f4)))))))))))))))))))))))))
set_option maxRecDepth 20000 in
theorem mc_w_Machine_go {this : Nat} {a1 : Int32} {Q Q' : Int32 → Mem → Prop} {M : Mem} (hQ : ∀ z0 z1, K1 M z1 → Q z0 z1 → Q' z0 z1) : w_Machine_go this a1 Q M → w_Machine_go this a1 Q' M := by
  unfold w_Machine_go
  exact (Exists.imp fun n26 => (mc_w_Machine_go_L2 hQ _ _ _ (K1.rf M)))
set_option maxRecDepth 20000 in
theorem mc_w_Works_work1_j242 {this : Nat} {Q Q' : Mem → Prop} {X X' : Mem → Prop} {s0 : Int32} {s1 : Int32} {M : Mem} {M0 : Mem} (hQ : ∀ z0, K1 M0 z0 → Q z0 → Q' z0) (hX : ∀ z0, K1 M0 z0 → X z0 → X' z0) : K1 M0 M → w_Works_work1_j242 this Q X s0 s1 M → w_Works_work1_j242 this Q' X' s0 s1 M := by
  intro hf
  unfold w_Works_work1_j242
  exact (hQ _ (K1.wI0 rfl hf))
set_option maxRecDepth 20000 in
theorem mc_w_Works_work1_j296 {this : Nat} {Q Q' : Mem → Prop} {X X' : Mem → Prop} {s0 : Int32} {M : Mem} {M0 : Mem} (hQ : ∀ z0, K1 M0 z0 → Q z0 → Q' z0) (hX : ∀ z0, K1 M0 z0 → X z0 → X' z0) : K1 M0 M → w_Works_work1_j296 this Q X s0 M → w_Works_work1_j296 this Q' X' s0 M := by
  intro hf
  unfold w_Works_work1_j296
  exact (hQ _ (K1.wI0 rfl hf))
set_option maxRecDepth 20000 in
theorem mc_w_Works_work1_j264 {this : Nat} {Q Q' : Mem → Prop} {X X' : Mem → Prop} {v5 : Nat} {s0 : Int32} {M : Mem} {M0 : Mem} (hQ : ∀ z0, K1 M0 z0 → Q z0 → Q' z0) (hX : ∀ z0, K1 M0 z0 → X z0 → X' z0) : K1 M0 M → w_Works_work1_j264 this Q X v5 s0 M → w_Works_work1_j264 this Q' X' v5 s0 M := by
  intro hf
  unfold w_Works_work1_j264
  exact (mf_ite (mc_w_Works_work1_j296 hQ hX (K1.wI0 rfl hf)) (mf_w_JMath_max (fun r21 M20 f1 => (mc_w_Works_work1_j296 hQ hX (K1.trans (K1.wI0 rfl hf) (K1.fr f1 rfl))))))
set_option maxRecDepth 20000 in
theorem mc_w_Works_work1_j64 {this : Nat} {Q Q' : Mem → Prop} {X X' : Mem → Prop} {s0 : Nat} {M : Mem} {M0 : Mem} (hQ : ∀ z0, K1 M0 z0 → Q z0 → Q' z0) (hX : ∀ z0, K1 M0 z0 → X z0 → X' z0) : K1 M0 M → w_Works_work1_j64 this Q X s0 M → w_Works_work1_j64 this Q' X' s0 M := by
  intro hf
  unfold w_Works_work1_j64
  exact (Exists.imp fun M23 => (mf_and fun e1 => (hQ _ (K1.of e1 (K1.wI0 rfl (K1.wI0 rfl hf))))))
set_option maxRecDepth 20000 in
theorem mc_w_Works_work1_j27 {this : Nat} {Q Q' : Mem → Prop} {X X' : Mem → Prop} {v1 : Nat} {v2 : Int32} {v3 : Int32} {v4 : Int32} {M : Mem} {M0 : Mem} (hQ : ∀ z0, K1 M0 z0 → Q z0 → Q' z0) (hX : ∀ z0, K1 M0 z0 → X z0 → X' z0) : K1 M0 M → w_Works_work1_j27 this Q X v1 v2 v3 v4 M → w_Works_work1_j27 this Q' X' v1 v2 v3 v4 M := by
  intro hf
  unfold w_Works_work1_j27
  exact (mf_w_World_begin (fun M2 f1 => (mf_and fun _ => (mf_w_Reader_define (fun r5 M4 f2 => (mf_w_Words_begin (fun M6 f3 => (mf_w_Words_next (fun M7 f4 => (mf_w_Words_next (fun M8 f5 => (mf_w_Reader_call (fun M9 f6 => (mf_and fun _ => (Exists.imp fun i11 => (mf_and fun _ => (mf_w_Line_call (fun M12 f7 => (mc_w_Machine_go (fun r14 M13 f8 => (mf_ite (hQ _ (K1.wI0 rfl (K1.wI0 rfl (K1.trans (K1.trans (K1.trans (K1.trans (K1.trans (K1.wI0 rfl (K1.trans (K1.trans (K1.wI0 rfl (K1.trans hf (K1.fr f1 rfl))) (K1.fr f2 rfl)) (K1.fr f3 rfl))) (K1.fr f4 rfl)) (K1.fr f5 rfl)) (K1.fr f6 rfl)) (K1.fr f7 rfl)) f8)))) (mf_ite (mf_ite (mc_w_Works_work1_j242 hQ hX (K1.wI0 rfl (K1.wI0 rfl (K1.trans (K1.trans (K1.trans (K1.trans (K1.trans (K1.wI0 rfl (K1.trans (K1.trans (K1.wI0 rfl (K1.trans hf (K1.fr f1 rfl))) (K1.fr f2 rfl)) (K1.fr f3 rfl))) (K1.fr f4 rfl)) (K1.fr f5 rfl)) (K1.fr f6 rfl)) (K1.fr f7 rfl)) f8)))) (mc_w_Works_work1_j242 hQ hX (K1.wI0 rfl (K1.wI0 rfl (K1.trans (K1.trans (K1.trans (K1.trans (K1.trans (K1.wI0 rfl (K1.trans (K1.trans (K1.wI0 rfl (K1.trans hf (K1.fr f1 rfl))) (K1.fr f2 rfl)) (K1.fr f3 rfl))) (K1.fr f4 rfl)) (K1.fr f5 rfl)) (K1.fr f6 rfl)) (K1.fr f7 rfl)) f8))))) (mf_ite (mc_w_Works_work1_j264 hQ hX (K1.wI0 rfl (K1.trans (K1.trans (K1.trans (K1.trans (K1.trans (K1.wI0 rfl (K1.trans (K1.trans (K1.wI0 rfl (K1.trans hf (K1.fr f1 rfl))) (K1.fr f2 rfl)) (K1.fr f3 rfl))) (K1.fr f4 rfl)) (K1.fr f5 rfl)) (K1.fr f6 rfl)) (K1.fr f7 rfl)) f8))) (mc_w_Works_work1_j264 hQ hX (K1.wI0 rfl (K1.trans (K1.trans (K1.trans (K1.trans (K1.trans (K1.wI0 rfl (K1.trans (K1.trans (K1.wI0 rfl (K1.trans hf (K1.fr f1 rfl))) (K1.fr f2 rfl)) (K1.fr f3 rfl))) (K1.fr f4 rfl)) (K1.fr f5 rfl)) (K1.fr f6 rfl)) (K1.fr f7 rfl)) f8)))))))))))))) (fun z10 f9 => hX z10 (K1.trans (K1.trans (K1.trans (K1.wI0 rfl (K1.trans (K1.trans (K1.wI0 rfl (K1.trans hf (K1.fr f1 rfl))) (K1.fr f2 rfl)) (K1.fr f3 rfl))) (K1.fr f4 rfl)) (K1.fr f5 rfl)) (K1.fr f9 rfl))))))))))) (fun M22 f11 => (mc_w_Works_work1_j64 hQ hX (K1.trans (K1.wI0 rfl (K1.trans hf (K1.fr f1 rfl))) (K1.fr f11 rfl))))))))
set_option maxRecDepth 20000 in
theorem mc_w_Works_work1_L5 {this : Nat} {Q Q' : Mem → Prop} {X X' : Mem → Prop} {M0 : Mem} (hQ : ∀ z0, K1 M0 z0 → Q z0 → Q' z0) (hX : ∀ z0, K1 M0 z0 → X z0 → X' z0) : ∀ (n : Nat) (v1 : Nat) (v2 : Int32) (v3 : Int32) (v4 : Int32) (M : Mem), K1 M0 M → w_Works_work1_L5 this Q X n v1 v2 v3 v4 M → w_Works_work1_L5 this Q' X' n v1 v2 v3 v4 M
  | 0, _, _, _, _, _ => fun _ h => h
  | n + 1, v1, v2, v3, v4, M => fun hf => by
    unfold w_Works_work1_L5
    exact (mf_ite (mc_w_Works_work1_j27 hQ hX hf) (mf_and fun _ => (mf_ite (mc_w_Works_work1_j27 hQ hX hf) (mc_w_Works_work1_L5 hQ hX _ _ _ _ _ _ hf))))
set_option maxRecDepth 20000 in
theorem mc_w_Works_work1 {this : Nat} {a1 : Nat} {a2 : Int32} {a3 : Int32} {Q Q' : Mem → Prop} {X X' : Mem → Prop} {M : Mem} (hQ : ∀ z0, K1 M z0 → Q z0 → Q' z0) (hX : ∀ z0, K1 M z0 → X z0 → X' z0) : w_Works_work1 this a1 a2 a3 Q X M → w_Works_work1 this a1 a2 a3 Q' X' M := by
  unfold w_Works_work1
  exact (Exists.imp fun n26 => (mc_w_Works_work1_L5 hQ hX _ _ _ _ _ _ (K1.rf M)))
set_option maxRecDepth 20000 in
theorem mc_w_Works_work2_j72 {this : Nat} {Q Q' : Mem → Prop} {X X' : Mem → Prop} {v1 : Int32} {v2 : Int32} {v3 : Int32} {v4 : Int32} {M : Mem} {M0 : Mem} (hQ : ∀ z0, K1 M0 z0 → Q z0 → Q' z0) (hX : ∀ z0, K1 M0 z0 → X z0 → X' z0) : K1 M0 M → w_Works_work2_j72 this Q X v1 v2 v3 v4 M → w_Works_work2_j72 this Q' X' v1 v2 v3 v4 M := by
  intro hf
  unfold w_Works_work2_j72
  exact (mf_and fun _ => (Exists.imp fun i4 => (mf_and fun _ => (mf_and fun _ => (mc_w_Works_work1 (fun M6 f1 => (mf_ite (mf_and fun _ => (mf_and fun _ => (Exists.imp fun M10 => (mf_and fun e2 => (mf_and fun _ => (hQ _ (K1.wI0a rfl (K1.of e2 (K1.wI0a rfl (K1.wI0a rfl (K1.trans hf f1))))))))))) (hQ _ (K1.trans hf f1)))) (fun z4 f3 => hX z4 (K1.trans hf f3)))))))
set_option maxRecDepth 20000 in
theorem mc_w_Works_work2_j26 {this : Nat} {Q Q' : Mem → Prop} {X X' : Mem → Prop} {v1 : Int32} {v2 : Int32} {s0 : Int32} {M : Mem} {M0 : Mem} (hQ : ∀ z0, K1 M0 z0 → Q z0 → Q' z0) (hX : ∀ z0, K1 M0 z0 → X z0 → X' z0) : K1 M0 M → w_Works_work2_j26 this Q X v1 v2 s0 M → w_Works_work2_j26 this Q' X' v1 v2 s0 M := by
  intro hf
  unfold w_Works_work2_j26
  exact (mf_ite (mc_w_Works_work2_j72 hQ hX hf) (mf_and fun _ => (mf_ite (mc_w_Works_work2_j72 hQ hX hf) (mf_and fun _ => (Exists.imp fun M15 => (mf_and fun e1 => (mf_and fun _ => (Exists.imp fun M17 => (mf_and fun e2 => (hQ _ (K1.of e2 (K1.wI0 rfl (K1.of e1 (K1.wI0 rfl hf))))))))))))))
set_option maxRecDepth 20000 in
theorem mc_w_Works_work2 {this : Nat} {a1 : Int32} {a2 : Int32} {Q Q' : Mem → Prop} {X X' : Mem → Prop} {M : Mem} (hQ : ∀ z0, K1 M z0 → Q z0 → Q' z0) (hX : ∀ z0, K1 M z0 → X z0 → X' z0) : w_Works_work2 this a1 a2 Q X M → w_Works_work2 this a1 a2 Q' X' M := by
  unfold w_Works_work2
  exact (mf_ite (mc_w_Works_work2_j26 hQ hX (K1.rf M)) (mf_w_JInteger_bitCount (fun r19 M18 f1 => (mf_ite (mf_w_JInteger_numberOfTrailingZeros (fun r22 M21 f2 => (mc_w_Works_work2_j26 hQ hX (K1.trans (K1.trans (K1.rf M) (K1.fr f1 rfl)) (K1.fr f2 rfl))))) (mc_w_Works_work2_j26 hQ hX (K1.trans (K1.rf M) (K1.fr f1 rfl)))))))
set_option maxRecDepth 20000 in
theorem mc_w_Works_ruleMet_j40 {this : Nat} {Q Q' : Int32 → Mem → Prop} {X X' : Mem → Prop} {s0 : Int32} {M : Mem} {M0 : Mem} (hQ : ∀ z0 z1, K1 M0 z1 → Q z0 z1 → Q' z0 z1) (hX : ∀ z0, K1 M0 z0 → X z0 → X' z0) : K1 M0 M → w_Works_ruleMet_j40 this Q X s0 M → w_Works_ruleMet_j40 this Q' X' s0 M := by
  intro hf
  unfold w_Works_ruleMet_j40
  exact (mf_w_Works_isRule (fun r4 M3 f1 => (mf_ite (hQ _ _ (K1.trans hf (K1.fr f1 rfl))) (hQ _ _ (K1.trans hf (K1.fr f1 rfl))))))
set_option maxRecDepth 20000 in
theorem mc_w_Works_ruleMet {this : Nat} {a1 : Int32} {Q Q' : Int32 → Mem → Prop} {X X' : Mem → Prop} {M : Mem} (hQ : ∀ z0 z1, K1 M z1 → Q z0 z1 → Q' z0 z1) (hX : ∀ z0, K1 M z0 → X z0 → X' z0) : w_Works_ruleMet this a1 Q X M → w_Works_ruleMet this a1 Q' X' M := by
  unfold w_Works_ruleMet
  exact (mc_w_Works_work2 (fun M1 f1 => (mf_ite (mc_w_Works_ruleMet_j40 hQ hX (K1.trans (K1.rf M) f1)) (mf_ite (mf_and fun _ => (mc_w_Works_ruleMet_j40 hQ hX (K1.trans (K1.rf M) f1))) (mc_w_Works_ruleMet_j40 hQ hX (K1.trans (K1.rf M) f1))))) (fun z3 f2 => hX z3 (K1.trans (K1.rf M) f2)))
set_option maxRecDepth 20000 in
theorem mc_w_Works_finds0 {this : Nat} {a1 : Int32} {a2 : Int32} {Q Q' : Int32 → Mem → Prop} {X X' : Mem → Prop} {M : Mem} (hQ : ∀ z0 z1, K1 M z1 → Q z0 z1 → Q' z0 z1) (hX : ∀ z0, K1 M z0 → X z0 → X' z0) : w_Works_finds0 this a1 a2 Q X M → w_Works_finds0 this a1 a2 Q' X' M := by
  unfold w_Works_finds0
  exact (mc_w_Works_work2 (fun M1 f1 => (mc_w_Works_work2 (fun M2 f2 => (mf_ite (mf_ite (hQ _ _ (K1.trans (K1.trans (K1.rf M) f1) f2)) (hQ _ _ (K1.trans (K1.trans (K1.rf M) f1) f2))) (hQ _ _ (K1.trans (K1.trans (K1.rf M) f1) f2)))) (fun z4 f3 => hX z4 (K1.trans (K1.trans (K1.rf M) f1) f3)))) (fun z6 f5 => hX z6 (K1.trans (K1.rf M) f5)))
set_option maxRecDepth 20000 in
theorem mc_w_Works_link {this : Nat} {a1 : Int32} {a2 : Int32} {Q Q' : Int32 → Mem → Prop} {M : Mem} (hQ : ∀ z0 z1, K1 M z1 → Q z0 z1 → Q' z0 z1) : w_Works_link this a1 a2 Q M → w_Works_link this a1 a2 Q' M := by
  unfold w_Works_link
  exact (mf_w_Works_isClass (fun r2 M1 f1 => (mf_ite (hQ _ _ (K1.trans (K1.rf M) (K1.fr f1 rfl))) (mf_and fun _ => (Exists.imp fun i5 => (mf_and fun _ => (mc_w_World_link (fun r7 M6 f2 => (mf_ite (hQ _ _ (K1.trans (K1.trans (K1.rf M) (K1.fr f1 rfl)) f2)) (hQ _ _ (K1.trans (K1.trans (K1.rf M) (K1.fr f1 rfl)) f2)))))))))))
set_option maxRecDepth 20000 in
theorem mc_w_Works_step_j70 {this : Nat} {Q Q' : Int32 → Mem → Prop} {v2 : Int32} {v3 : Nat} {M : Mem} {M0 : Mem} (hQ : ∀ z0 z1, K1 M0 z1 → Q z0 z1 → Q' z0 z1) : K1 M0 M → w_Works_step_j70 this Q v2 v3 M → w_Works_step_j70 this Q' v2 v3 M := by
  intro hf
  unfold w_Works_step_j70
  exact (mf_w_Machine_isOn (fun r19 M18 f1 => (mf_ite (hQ _ _ (K1.trans hf (K1.fr f1 rfl))) (mf_ite (mc_w_Machine_go (fun r23 M22 f2 => (mf_w_Machine_isOn (fun r25 M24 f3 => (mf_ite (hQ _ _ (K1.trans (K1.trans (K1.trans hf (K1.fr f1 rfl)) f2) (K1.fr f3 rfl))) (mf_ite (hQ _ _ (K1.trans (K1.trans (K1.trans hf (K1.fr f1 rfl)) f2) (K1.fr f3 rfl))) (hQ _ _ (K1.trans (K1.trans (K1.trans hf (K1.fr f1 rfl)) f2) (K1.fr f3 rfl))))))))) (hQ _ _ (K1.trans hf (K1.fr f1 rfl)))))))
set_option maxRecDepth 20000 in
theorem mc_w_Works_step {this : Nat} {a1 : Int32} {a2 : Int32} {Q Q' : Int32 → Mem → Prop} {M : Mem} (hQ : ∀ z0 z1, K1 M z1 → Q z0 z1 → Q' z0 z1) : w_Works_step this a1 a2 Q M → w_Works_step this a1 a2 Q' M := by
  unfold w_Works_step
  exact (mf_w_Works_isWorld (fun r2 M1 f1 => (mf_ite (hQ _ _ (K1.trans (K1.rf M) (K1.fr f1 rfl))) (mf_w_Works_isIn (fun r5 M4 f2 => (mf_ite (hQ _ _ (K1.trans (K1.trans (K1.rf M) (K1.fr f1 rfl)) (K1.fr f2 rfl))) (mf_and fun _ => (Exists.imp fun i8 => (mf_and fun _ => (mf_and fun _ => (Exists.imp fun i10 => (mf_and fun _ => (mf_ite (mf_and fun _ => (Exists.imp fun i13 => (mf_and fun _ => (mf_ite (mf_and fun _ => (Exists.imp fun i16 => (mf_and fun _ => (mf_ite (hQ _ _ (K1.trans (K1.trans (K1.rf M) (K1.fr f1 rfl)) (K1.fr f2 rfl))) (mc_w_Works_step_j70 hQ (K1.trans (K1.trans (K1.rf M) (K1.fr f1 rfl)) (K1.fr f2 rfl))))))) (mc_w_Works_step_j70 hQ (K1.trans (K1.trans (K1.rf M) (K1.fr f1 rfl)) (K1.fr f2 rfl))))))) (mc_w_Works_step_j70 hQ (K1.trans (K1.trans (K1.rf M) (K1.fr f1 rfl)) (K1.fr f2 rfl))))))))))))))))
set_option maxRecDepth 20000 in
theorem mc_w_Checker_ask_L37 {this : Nat} {Q Q' : Mem → Prop} {M0 : Mem} (hn : this ≠ 1) (hQ : ∀ z0, K1 M0 z0 → Q z0 → Q' z0) : ∀ (n : Nat) (v3 : Int32) (M : Mem), K1 M0 M → w_Checker_ask_L37 this Q n v3 M → w_Checker_ask_L37 this Q' n v3 M
  | 0, _, _ => fun _ h => h
  | n + 1, v3, M => fun hf => by
    unfold w_Checker_ask_L37
    exact (mf_ite (hQ _ hf) (mf_and fun _ => (mc_w_Checker_ask_L37 hn hQ _ _ _ (K1.wI1 hn hf))))
set_option maxRecDepth 20000 in
theorem mc_w_Checker_ask {this : Nat} {a1 : Nat} {a2 : Int32} {Q Q' : Mem → Prop} {M : Mem} (hn : this ≠ 1) (hQ : ∀ z0, K1 M z0 → Q z0 → Q' z0) : w_Checker_ask this a1 a2 Q M → w_Checker_ask this a1 a2 Q' M := by
  unfold w_Checker_ask
  exact (mf_and fun _ => (Exists.imp fun M2 => (mf_and fun e1 => (mf_and fun _ => (Exists.imp fun M4 => (mf_and fun e2 => (Exists.imp fun n7 => (mc_w_Checker_ask_L37 hn hQ _ _ _ (K1.of e2 (K1.wI1 hn (K1.wI0 rfl (K1.wI0 rfl (K1.of e1 (K1.wI0 rfl (K1.wR (K1.rf M))))))))))))))))
set_option maxRecDepth 20000 in
theorem mc_w_Checker_follows_j94 {this : Nat} {Q Q' : Int32 → Mem → Prop} {v2 : Int32} {M : Mem} {M0 : Mem} (hn : this ≠ 1) (hQ : ∀ z0 z1, K1 M0 z1 → Q z0 z1 → Q' z0 z1) : K1 M0 M → w_Checker_follows_j94 this Q v2 M → w_Checker_follows_j94 this Q' v2 M := by
  intro hf
  unfold w_Checker_follows_j94
  exact (mf_ite (hQ _ _ hf) (mf_ite (hQ _ _ hf) (mf_ite (hQ _ _ hf) (mf_w_Works_isIn (fun r14 M13 f1 => (mf_ite (mf_ite (mf_w_Checker_breaks (fun r18 M17 f2 => (mf_and fun _ => (hQ _ _ (K1.trans (K1.trans hf (K1.fr f1 rfl)) (K1.fr f2 rfl)))))) (mc_w_Checker_joins hn (fun r20 M19 f3 => (mf_and fun _ => (hQ _ _ (K1.trans (K1.trans hf (K1.fr f1 rfl)) f3)))))) (hQ _ _ (K1.trans hf (K1.fr f1 rfl)))))))))
set_option maxRecDepth 20000 in
theorem mc_w_Checker_follows_L41 {this : Nat} {Q Q' : Int32 → Mem → Prop} {M0 : Mem} (hn : this ≠ 1) (hQ : ∀ z0 z1, K1 M0 z1 → Q z0 z1 → Q' z0 z1) : ∀ (n : Nat) (v1 : Int32) (v2 : Int32) (v3 : Int32) (M : Mem), K1 M0 M → w_Checker_follows_L41 this Q n v1 v2 v3 M → w_Checker_follows_L41 this Q' n v1 v2 v3 M
  | 0, _, _, _, _ => fun _ h => h
  | n + 1, v1, v2, v3, M => fun hf => by
    unfold w_Checker_follows_L41
    exact (mf_ite (Exists.imp fun i7 => (mf_and fun _ => (mf_and fun _ => (mf_ite (mc_w_Checker_follows_j94 hn hQ hf) (Exists.imp fun i21 => (mf_and fun _ => (Exists.imp fun i22 => (mf_and fun _ => (mf_and fun _ => (mf_and fun _ => (mc_w_Checker_joins hn (fun r26 M25 f1 => (mf_ite (hQ _ _ (K1.trans hf f1)) (mc_w_Checker_follows_L41 hn hQ _ _ _ _ _ (K1.trans hf f1))))))))))))))) (mc_w_Checker_follows_j94 hn hQ hf))
set_option maxRecDepth 20000 in
theorem mc_w_Checker_follows_j39 {this : Nat} {Q Q' : Int32 → Mem → Prop} {v1 : Int32} {v2 : Int32} {M : Mem} {M0 : Mem} (hn : this ≠ 1) (hQ : ∀ z0 z1, K1 M0 z1 → Q z0 z1 → Q' z0 z1) : K1 M0 M → w_Checker_follows_j39 this Q v1 v2 M → w_Checker_follows_j39 this Q' v1 v2 M := by
  intro hf
  unfold w_Checker_follows_j39
  exact (Exists.imp fun n28 => (mc_w_Checker_follows_L41 hn hQ _ _ _ _ _ hf))
set_option maxRecDepth 20000 in
theorem mc_w_Checker_follows {this : Nat} {a1 : Int32} {Q Q' : Int32 → Mem → Prop} {M : Mem} (hn : this ≠ 1) (hQ : ∀ z0 z1, K1 M z1 → Q z0 z1 → Q' z0 z1) : w_Checker_follows this a1 Q M → w_Checker_follows this a1 Q' M := by
  unfold w_Checker_follows
  exact (Exists.imp fun i1 => (mf_and fun _ => (mf_and fun _ => (mf_w_Works_isIn (fun r4 M3 f1 => (mf_ite (mc_w_Checker_follows_j39 hn hQ (K1.trans (K1.rf M) (K1.fr f1 rfl))) (Exists.imp fun i29 => (mf_and fun _ => (mf_and fun _ => (mc_w_Checker_joins hn (fun r32 M31 f2 => (mf_ite (hQ _ _ (K1.trans (K1.trans (K1.rf M) (K1.fr f1 rfl)) f2)) (mc_w_Checker_follows_j39 hn hQ (K1.trans (K1.trans (K1.rf M) (K1.fr f1 rfl)) f2))))))))))))))
set_option maxRecDepth 20000 in
theorem mc_w_Checker_lookAt {this : Nat} {a1 : Int32} {Q Q' : Int32 → Mem → Prop} {M : Mem} (hn : this ≠ 1) (hQ : ∀ z0 z1, K1 M z1 → Q z0 z1 → Q' z0 z1) : w_Checker_lookAt this a1 Q M → w_Checker_lookAt this a1 Q' M := by
  unfold w_Checker_lookAt
  exact (mf_and fun _ => (mf_and fun _ => (mf_and fun _ => (mf_and fun _ => (mf_and fun _ => (Exists.imp fun M1 => (mf_and fun e1 => (mf_and fun _ => (mf_and fun _ => (mf_and fun _ => (mf_and fun _ => (mf_and fun _ => (mf_and fun _ => (Exists.imp fun M8 => (mf_and fun e2 => (mc_w_Checker_handlers hn (fun r15 M14 f3 => (mf_ite (hQ _ _ (K1.trans (K1.of e2 (K1.wc0 rfl (K1.wI0 rfl (K1.of e1 (K1.wc0 rfl (K1.rf M)))))) f3)) (mc_w_Checker_act hn (fun r18 M17 f4 => (mf_ite (hQ _ _ (K1.trans (K1.trans (K1.of e2 (K1.wc0 rfl (K1.wI0 rfl (K1.of e1 (K1.wc0 rfl (K1.rf M)))))) f3) f4)) (mc_w_Checker_follows hn (fun r21 M20 f5 => (mf_ite (hQ _ _ (K1.trans (K1.trans (K1.trans (K1.of e2 (K1.wc0 rfl (K1.wI0 rfl (K1.of e1 (K1.wc0 rfl (K1.rf M)))))) f3) f4) f5)) (hQ _ _ (K1.trans (K1.trans (K1.trans (K1.of e2 (K1.wc0 rfl (K1.wI0 rfl (K1.of e1 (K1.wc0 rfl (K1.rf M)))))) f3) f4) f5))))))))))))))))))))))))))
set_option maxRecDepth 20000 in
theorem mc_w_Checker_tell_j105 {this : Nat} {Q Q' : Mem → Prop} {k18 k18' : Int32 → Mem → Prop} {v1 : Int32} {M : Mem} {M0 : Mem} (hn : this ≠ 1) (hQ : ∀ z0, K1 M0 z0 → Q z0 → Q' z0) (hk18 : ∀ z0 z1, K1 M0 z1 → k18 z0 z1 → k18' z0 z1) : K1 M0 M → w_Checker_tell_j105 this Q k18 v1 M → w_Checker_tell_j105 this Q' k18' v1 M := by
  intro hf
  unfold w_Checker_tell_j105
  exact (hk18 _ _ hf)
set_option maxRecDepth 20000 in
theorem mc_w_Checker_tell_j99 {this : Nat} {Q Q' : Mem → Prop} {k18 k18' : Int32 → Mem → Prop} {k28 k28' : Int32 → Int32 → Mem → Prop} {v1 : Int32} {v2 : Int32} {M : Mem} {M0 : Mem} (hn : this ≠ 1) (hQ : ∀ z0, K1 M0 z0 → Q z0 → Q' z0) (hk18 : ∀ z0 z1, K1 M0 z1 → k18 z0 z1 → k18' z0 z1) (hk28 : ∀ z0 z1 z2, K1 M0 z2 → k28 z0 z1 z2 → k28' z0 z1 z2) : K1 M0 M → w_Checker_tell_j99 this Q k18 k28 v1 v2 M → w_Checker_tell_j99 this Q' k18' k28' v1 v2 M := by
  intro hf
  unfold w_Checker_tell_j99
  exact (hk28 _ _ _ hf)
set_option maxRecDepth 20000 in
theorem mc_w_Checker_tell_j73 {this : Nat} {Q Q' : Mem → Prop} {k18 k18' : Int32 → Mem → Prop} {k28 k28' : Int32 → Int32 → Mem → Prop} {v1 : Int32} {v2 : Int32} {M : Mem} {M0 : Mem} (hn : this ≠ 1) (hQ : ∀ z0, K1 M0 z0 → Q z0 → Q' z0) (hk18 : ∀ z0 z1, K1 M0 z1 → k18 z0 z1 → k18' z0 z1) (hk28 : ∀ z0 z1 z2, K1 M0 z2 → k28 z0 z1 z2 → k28' z0 z1 z2) : K1 M0 M → w_Checker_tell_j73 this Q k18 k28 v1 v2 M → w_Checker_tell_j73 this Q' k18' k28' v1 v2 M := by
  intro hf
  unfold w_Checker_tell_j73
  exact (mf_and fun _ => (mf_w_Checker_toldKind (fun r12 M11 f1 => (mf_and fun _ => (mc_w_Checker_tell_j99 hn hQ hk18 hk28 (K1.wI1 hn (K1.trans hf (K1.fr f1 rfl))))))))
set_option maxRecDepth 20000 in
theorem mc_w_Checker_tell_L28 {this : Nat} {Q Q' : Mem → Prop} {k18 k18' : Int32 → Mem → Prop} {M0 : Mem} (hn : this ≠ 1) (hQ : ∀ z0, K1 M0 z0 → Q z0 → Q' z0) (hk18 : ∀ z0 z1, K1 M0 z1 → k18 z0 z1 → k18' z0 z1) : ∀ (n : Nat) (v1 : Int32) (v2 : Int32) (M : Mem), K1 M0 M → w_Checker_tell_L28 this Q k18 n v1 v2 M → w_Checker_tell_L28 this Q' k18' n v1 v2 M
  | 0, _, _, _ => fun _ h => h
  | n + 1, v1, v2, M => fun hf => by
    unfold w_Checker_tell_L28
    exact (mf_ite (mc_w_Checker_tell_j105 hn hQ hk18 hf) (mf_and fun _ => (mf_ite (mc_w_Checker_tell_j105 hn hQ hk18 hf) (mf_ite (mf_and fun _ => (mf_ite (mc_w_Checker_tell_j99 hn hQ hk18 (mc_w_Checker_tell_L28 hn hQ hk18 n) hf) (mc_w_Checker_tell_j73 hn hQ hk18 (mc_w_Checker_tell_L28 hn hQ hk18 n) hf))) (mf_ite (mc_w_Checker_tell_j99 hn hQ hk18 (mc_w_Checker_tell_L28 hn hQ hk18 n) hf) (mc_w_Checker_tell_j73 hn hQ hk18 (mc_w_Checker_tell_L28 hn hQ hk18 n) hf))))))
set_option maxRecDepth 20000 in
theorem mc_w_Checker_tell_L18 {this : Nat} {Q Q' : Mem → Prop} {M0 : Mem} (hn : this ≠ 1) (hQ : ∀ z0, K1 M0 z0 → Q z0 → Q' z0) : ∀ (n : Nat) (v1 : Int32) (M : Mem), K1 M0 M → w_Checker_tell_L18 this Q n v1 M → w_Checker_tell_L18 this Q' n v1 M
  | 0, _, _ => fun _ h => h
  | n + 1, v1, M => fun hf => by
    unfold w_Checker_tell_L18
    exact (mf_ite (hQ _ hf) (Exists.imp fun n15 => (mc_w_Checker_tell_L28 hn hQ (mc_w_Checker_tell_L18 hn hQ n) _ _ _ _ hf)))
set_option maxRecDepth 20000 in
theorem mc_w_Checker_tell {this : Nat} {Q Q' : Mem → Prop} {M : Mem} (hn : this ≠ 1) (hQ : ∀ z0, K1 M z0 → Q z0 → Q' z0) : w_Checker_tell this Q M → w_Checker_tell this Q' M := by
  unfold w_Checker_tell
  exact (Exists.imp fun i1 => (mf_and fun _ => (mf_and fun _ => (Exists.imp fun n16 => (mc_w_Checker_tell_L18 hn hQ _ _ _ (K1.wI1 hn (K1.rf M)))))))
set_option maxRecDepth 20000 in
theorem mc_w_Checker_inferred_j187 {this : Nat} {Q Q' : Int32 → Mem → Prop} {M : Mem} {M0 : Mem} (hn : this ≠ 1) (hQ : ∀ z0 z1, K1 M0 z1 → Q z0 z1 → Q' z0 z1) : K1 M0 M → w_Checker_inferred_j187 this Q M → w_Checker_inferred_j187 this Q' M := by
  intro hf
  unfold w_Checker_inferred_j187
  exact (mf_and fun _ => (mc_w_Checker_tell hn (fun M16 f1 => (mf_ite (hQ _ _ (K1.trans (K1.wI1 hn hf) f1)) (hQ _ _ (K1.trans (K1.wI1 hn hf) f1))))))
set_option maxRecDepth 20000 in
theorem mc_w_Checker_inferred_j149 {this : Nat} {Q Q' : Int32 → Mem → Prop} {k51 k51' : Int32 → Int32 → Mem → Prop} {v2 : Int32} {v3 : Int32} {M : Mem} {M0 : Mem} (hn : this ≠ 1) (hQ : ∀ z0 z1, K1 M0 z1 → Q z0 z1 → Q' z0 z1) (hk51 : ∀ z0 z1 z2, K1 M0 z2 → k51 z0 z1 z2 → k51' z0 z1 z2) : K1 M0 M → w_Checker_inferred_j149 this Q k51 v2 v3 M → w_Checker_inferred_j149 this Q' k51' v2 v3 M := by
  intro hf
  unfold w_Checker_inferred_j149
  exact (mf_ite (hk51 _ _ _ hf) (mf_ite (mf_ite (mf_w_Checker_breaks (fun r25 M24 f1 => (hk51 _ _ _ (K1.wI0 rfl (K1.trans hf (K1.fr f1 rfl)))))) (hk51 _ _ _ hf)) (hk51 _ _ _ hf)))
set_option maxRecDepth 20000 in
theorem mc_w_Checker_inferred_j136 {this : Nat} {Q Q' : Int32 → Mem → Prop} {k51 k51' : Int32 → Int32 → Mem → Prop} {k75 k75' : Int32 → Int32 → Mem → Prop} {v2 : Int32} {v3 : Int32} {M : Mem} {M0 : Mem} (hn : this ≠ 1) (hQ : ∀ z0 z1, K1 M0 z1 → Q z0 z1 → Q' z0 z1) (hk51 : ∀ z0 z1 z2, K1 M0 z2 → k51 z0 z1 z2 → k51' z0 z1 z2) (hk75 : ∀ z0 z1 z2, K1 M0 z2 → k75 z0 z1 z2 → k75' z0 z1 z2) : K1 M0 M → w_Checker_inferred_j136 this Q k51 k75 v2 v3 M → w_Checker_inferred_j136 this Q' k51' k75' v2 v3 M := by
  intro hf
  unfold w_Checker_inferred_j136
  exact (hk75 _ _ _ (K1.wI0 rfl hf))
set_option maxRecDepth 20000 in
theorem mc_w_Checker_inferred_L75 {this : Nat} {Q Q' : Int32 → Mem → Prop} {k51 k51' : Int32 → Int32 → Mem → Prop} {M0 : Mem} (hn : this ≠ 1) (hQ : ∀ z0 z1, K1 M0 z1 → Q z0 z1 → Q' z0 z1) (hk51 : ∀ z0 z1 z2, K1 M0 z2 → k51 z0 z1 z2 → k51' z0 z1 z2) : ∀ (n : Nat) (v2 : Int32) (v3 : Int32) (M : Mem), K1 M0 M → w_Checker_inferred_L75 this Q k51 n v2 v3 M → w_Checker_inferred_L75 this Q' k51' n v2 v3 M
  | 0, _, _, _ => fun _ h => h
  | n + 1, v2, v3, M => fun hf => by
    unfold w_Checker_inferred_L75
    exact (mf_ite (mc_w_Checker_inferred_j149 hn hQ hk51 hf) (mf_ite (mf_and fun _ => (mf_ite (mc_w_Checker_inferred_j136 hn hQ hk51 (mc_w_Checker_inferred_L75 hn hQ hk51 n) hf) (Exists.imp fun i29 => (mf_and fun _ => (mf_and fun _ => (mc_w_Checker_lookAt hn (fun r32 M31 f1 => (mf_ite (mc_w_Checker_inferred_j136 hn hQ hk51 (mc_w_Checker_inferred_L75 hn hQ hk51 n) (K1.wI0 rfl (K1.trans hf f1))) (mc_w_Checker_inferred_j136 hn hQ hk51 (mc_w_Checker_inferred_L75 hn hQ hk51 n) (K1.trans hf f1)))))))))) (mc_w_Checker_inferred_j149 hn hQ hk51 hf)))
set_option maxRecDepth 20000 in
theorem mc_w_Checker_inferred_L51 {this : Nat} {Q Q' : Int32 → Mem → Prop} {M0 : Mem} (hn : this ≠ 1) (hQ : ∀ z0 z1, K1 M0 z1 → Q z0 z1 → Q' z0 z1) : ∀ (n : Nat) (v2 : Int32) (v3 : Int32) (M : Mem), K1 M0 M → w_Checker_inferred_L51 this Q n v2 v3 M → w_Checker_inferred_L51 this Q' n v2 v3 M
  | 0, _, _, _ => fun _ h => h
  | n + 1, v2, v3, M => fun hf => by
    unfold w_Checker_inferred_L51
    exact (mf_ite (mc_w_Checker_inferred_j187 hn hQ hf) (mf_ite (mf_and fun _ => (Exists.imp fun n34 => (mc_w_Checker_inferred_L75 hn hQ (mc_w_Checker_inferred_L51 hn hQ n) _ _ _ _ (K1.wI0 rfl (K1.wI0 rfl hf))))) (mc_w_Checker_inferred_j187 hn hQ hf)))
set_option maxRecDepth 20000 in
theorem mc_w_Checker_inferred {this : Nat} {a1 : Nat} {a2 : Int32} {Q Q' : Int32 → Mem → Prop} {M : Mem} (hn : this ≠ 1) (hQ : ∀ z0 z1, K1 M z1 → Q z0 z1 → Q' z0 z1) : w_Checker_inferred this a1 a2 Q M → w_Checker_inferred this a1 a2 Q' M := by
  unfold w_Checker_inferred
  exact (mc_w_Checker_ask hn (fun M1 f1 => (mf_and fun _ => (mf_w_Checker_begin (fun M3 f2 => (mf_and fun _ => (mf_and fun _ => (Exists.imp fun M6 => (mf_and fun e3 => (mf_and fun _ => (mf_and fun _ => (mf_and fun _ => (mf_and fun _ => (mf_and fun _ => (Exists.imp fun M7 => (mf_and fun e4 => (mf_and fun _ => (Exists.imp fun n35 => (mc_w_Checker_inferred_L51 hn hQ _ _ _ _ (K1.wI0 rfl (K1.of e4 (K1.wc0 rfl (K1.of e3 (K1.wI1 hn (K1.wI1 hn (K1.trans (K1.wI1 hn (K1.trans (K1.rf M) f1)) (K1.fr f2 rfl)))))))))))))))))))))))))))
set_option maxRecDepth 20000 in
theorem mc_w_Checker_withFrames {this : Nat} {a1 : Nat} {a2 : Int32} {Q Q' : Int32 → Mem → Prop} {M : Mem} (hn : this ≠ 1) (hQ : ∀ z0 z1, K1 M z1 → Q z0 z1 → Q' z0 z1) : w_Checker_withFrames this a1 a2 Q M → w_Checker_withFrames this a1 a2 Q' M := by
  unfold w_Checker_withFrames
  exact (mc_w_Checker_ask hn (fun M1 f1 => (mf_and fun _ => (mc_w_Checker_all hn (fun M3 f2 => (mf_and fun _ => (mc_w_Checker_tell hn (fun M5 f3 => (mf_ite (hQ _ _ (K1.trans (K1.wI1 hn (K1.trans (K1.wI1 hn (K1.trans (K1.rf M) f1)) f2)) f3)) (hQ _ _ (K1.trans (K1.wI1 hn (K1.trans (K1.wI1 hn (K1.trans (K1.rf M) f1)) f2)) f3)))))))))))
set_option maxRecDepth 20000 in
theorem mc_w_Works_foretell_j156 {this : Nat} {Q Q' : Int32 → Mem → Prop} {k45 k45' : Int32 → Int32 → Nat → Int32 → Int32 → Mem → Prop} {k68 k68' : Int32 → Int32 → Nat → Int32 → Int32 → Int32 → Mem → Prop} {v2 : Int32} {v4 : Int32} {v5 : Nat} {v6 : Int32} {v7 : Int32} {v8 : Int32} {M : Mem} {M0 : Mem} (hQ : ∀ z0 z1, K1 M0 z1 → Q z0 z1 → Q' z0 z1) (hk45 : ∀ z0 z1 z2 z3 z4 z5, K1 M0 z5 → k45 z0 z1 z2 z3 z4 z5 → k45' z0 z1 z2 z3 z4 z5) (hk68 : ∀ z0 z1 z2 z3 z4 z5 z6, K1 M0 z6 → k68 z0 z1 z2 z3 z4 z5 z6 → k68' z0 z1 z2 z3 z4 z5 z6) : K1 M0 M → w_Works_foretell_j156 this Q k45 k68 v2 v4 v5 v6 v7 v8 M → w_Works_foretell_j156 this Q' k45' k68' v2 v4 v5 v6 v7 v8 M := by
  intro hf
  unfold w_Works_foretell_j156
  exact (hk68 _ _ _ _ _ _ _ hf)
set_option maxRecDepth 20000 in
theorem mc_w_Works_foretell_L68 {this : Nat} {Q Q' : Int32 → Mem → Prop} {k45 k45' : Int32 → Int32 → Nat → Int32 → Int32 → Mem → Prop} {M0 : Mem} (hQ : ∀ z0 z1, K1 M0 z1 → Q z0 z1 → Q' z0 z1) (hk45 : ∀ z0 z1 z2 z3 z4 z5, K1 M0 z5 → k45 z0 z1 z2 z3 z4 z5 → k45' z0 z1 z2 z3 z4 z5) : ∀ (n : Nat) (v2 : Int32) (v4 : Int32) (v5 : Nat) (v6 : Int32) (v7 : Int32) (v8 : Int32) (M : Mem), K1 M0 M → w_Works_foretell_L68 this Q k45 n v2 v4 v5 v6 v7 v8 M → w_Works_foretell_L68 this Q' k45' n v2 v4 v5 v6 v7 v8 M
  | 0, _, _, _, _, _, _, _ => fun _ h => h
  | n + 1, v2, v4, v5, v6, v7, v8, M => fun hf => by
    unfold w_Works_foretell_L68
    exact (mf_and fun _ => (mf_ite (hk45 _ _ _ _ _ _ hf) (mf_and fun _ => (mc_w_Machine_finds (fun r18 M17 f1 => (mf_ite (mf_ite (mf_ite (mf_and fun _ => (hQ _ _ (K1.trans hf f1))) (mf_ite (hQ _ _ (K1.trans hf f1)) (mf_and fun _ => (hQ _ _ (K1.trans hf f1))))) (mc_w_Works_foretell_j156 hQ hk45 (mc_w_Works_foretell_L68 hQ hk45 n) (K1.trans hf f1))) (mc_w_Works_foretell_j156 hQ hk45 (mc_w_Works_foretell_L68 hQ hk45 n) (K1.trans hf f1))))))))
set_option maxRecDepth 20000 in
theorem mc_w_Works_foretell_L45 {this : Nat} {Q Q' : Int32 → Mem → Prop} {M0 : Mem} (hQ : ∀ z0 z1, K1 M0 z1 → Q z0 z1 → Q' z0 z1) : ∀ (n : Nat) (v2 : Int32) (v4 : Int32) (v5 : Nat) (v6 : Int32) (v7 : Int32) (M : Mem), K1 M0 M → w_Works_foretell_L45 this Q n v2 v4 v5 v6 v7 M → w_Works_foretell_L45 this Q' n v2 v4 v5 v6 v7 M
  | 0, _, _, _, _, _, _ => fun _ h => h
  | n + 1, v2, v4, v5, v6, v7, M => fun hf => by
    unfold w_Works_foretell_L45
    exact (mf_and fun _ => (mf_and fun _ => (mf_ite (hQ _ _ hf) (Exists.imp fun n25 => (mc_w_Works_foretell_L68 hQ (mc_w_Works_foretell_L45 hQ n) _ _ _ _ _ _ _ _ hf)))))
set_option maxRecDepth 20000 in
theorem mc_w_Works_foretell {this : Nat} {a1 : Int32} {a2 : Int32} {a3 : Int32} {a4 : Int32} {Q Q' : Int32 → Mem → Prop} {M : Mem} (hQ : ∀ z0 z1, K1 M z1 → Q z0 z1 → Q' z0 z1) : w_Works_foretell this a1 a2 a3 a4 Q M → w_Works_foretell this a1 a2 a3 a4 Q' M := by
  unfold w_Works_foretell
  exact (mf_w_Works_isClass (fun r2 M1 f1 => (mf_ite (hQ _ _ (K1.trans (K1.rf M) (K1.fr f1 rfl))) (mf_ite (hQ _ _ (K1.trans (K1.rf M) (K1.fr f1 rfl))) (mf_w_Works_isIn (fun r6 M5 f2 => (mf_ite (hQ _ _ (K1.trans (K1.trans (K1.rf M) (K1.fr f1 rfl)) (K1.fr f2 rfl))) (mf_and fun _ => (Exists.imp fun i9 => (mf_and fun _ => (mf_and fun _ => (Exists.imp fun n26 => (mc_w_Works_foretell_L45 hQ _ _ _ _ _ _ _ (K1.trans (K1.trans (K1.rf M) (K1.fr f1 rfl)) (K1.fr f2 rfl)))))))))))))))
set_option maxRecDepth 20000 in
theorem mc_w_Machine_asks_j82 {this : Nat} {Q Q' : Int32 → Mem → Prop} {M : Mem} {M0 : Mem} (hQ : ∀ z0 z1, K1 M0 z1 → Q z0 z1 → Q' z0 z1) : K1 M0 M → w_Machine_asks_j82 this Q M → w_Machine_asks_j82 this Q' M := by
  intro hf
  unfold w_Machine_asks_j82
  exact (mf_w_Machine_thrown (fun r13 M12 f1 => (hQ _ _ (K1.trans hf (K1.fr f1 rfl)))))
set_option maxRecDepth 20000 in
theorem mc_w_Machine_asks {this : Nat} {a1 : Int32} {Q Q' : Int32 → Mem → Prop} {M : Mem} (hQ : ∀ z0 z1, K1 M z1 → Q z0 z1 → Q' z0 z1) : w_Machine_asks this a1 Q M → w_Machine_asks this a1 Q' M := by
  unfold w_Machine_asks
  exact (mc_w_Machine_findMethod (fun r2 M1 f1 => (mf_ite (mc_w_World_link (fun r5 M4 f2 => (mf_ite (mf_and fun _ => (mf_ite (mf_w_World_method (fun r10 M9 f3 => (mf_ite (mc_w_Machine_asks_j82 hQ (K1.trans (K1.trans (K1.trans (K1.rf M) f1) f2) (K1.fr f3 rfl))) (mf_and fun _ => (mf_ite (hQ _ _ (K1.trans (K1.trans (K1.trans (K1.rf M) f1) f2) (K1.fr f3 rfl))) (mc_w_Machine_asks_j82 hQ (K1.trans (K1.trans (K1.trans (K1.rf M) f1) f2) (K1.fr f3 rfl)))))))) (hQ _ _ (K1.trans (K1.trans (K1.rf M) f1) f2)))) (hQ _ _ (K1.trans (K1.trans (K1.rf M) f1) f2))))) (hQ _ _ (K1.trans (K1.rf M) f1)))))
set_option maxRecDepth 20000 in
theorem mc_w_Works_asked {this : Nat} {a1 : Int32} {a2 : Int32} {Q Q' : Int32 → Mem → Prop} {M : Mem} (hQ : ∀ z0 z1, K1 M z1 → Q z0 z1 → Q' z0 z1) : w_Works_asked this a1 a2 Q M → w_Works_asked this a1 a2 Q' M := by
  unfold w_Works_asked
  exact (mf_w_Works_isClass (fun r2 M1 f1 => (mf_ite (hQ _ _ (K1.trans (K1.rf M) (K1.fr f1 rfl))) (mf_and fun _ => (Exists.imp fun i5 => (mf_and fun _ => (mf_w_Works_isTaken (fun r7 M6 f2 => (mf_ite (hQ _ _ (K1.trans (K1.trans (K1.rf M) (K1.fr f1 rfl)) (K1.fr f2 rfl))) (mc_w_Machine_asks (fun r10 M9 f3 => (mf_ite (mf_and fun _ => (mf_and fun _ => (mf_and fun _ => (hQ _ _ (K1.trans (K1.trans (K1.trans (K1.rf M) (K1.fr f1 rfl)) (K1.fr f2 rfl)) f3))))) (mf_and fun _ => (hQ _ _ (K1.trans (K1.trans (K1.trans (K1.rf M) (K1.fr f1 rfl)) (K1.fr f2 rfl)) f3)))))))))))))))
set_option maxRecDepth 20000 in
theorem mc_w_Works_callsOf_j33 {this : Nat} {Q Q' : Mem → Prop} {v1 : Nat} {v3 : Int32} {M : Mem} {M0 : Mem} (hQ : ∀ z0, K1 M0 z0 → Q z0 → Q' z0) : K1 M0 M → w_Works_callsOf_j33 this Q v1 v3 M → w_Works_callsOf_j33 this Q' v1 v3 M := by
  intro hf
  unfold w_Works_callsOf_j33
  exact (mf_w_Works_isBuiltIn (fun r4 M3 f1 => (mf_ite (mf_w_Works_comes (fun M6 f2 => (hQ _ (K1.trans (K1.trans hf (K1.fr f1 rfl)) (K1.fr f2 rfl))))) (hQ _ (K1.trans hf (K1.fr f1 rfl))))))
set_option maxRecDepth 20000 in
theorem mc_w_Works_callsOf_j165 {this : Nat} {Q Q' : Mem → Prop} {k69 k69' : Nat → Int32 → Int32 → Int32 → Mem → Prop} {v1 : Nat} {v2 : Int32} {v5 : Int32} {v6 : Int32} {M : Mem} {M0 : Mem} (hQ : ∀ z0, K1 M0 z0 → Q z0 → Q' z0) (hk69 : ∀ z0 z1 z2 z3 z4, K1 M0 z4 → k69 z0 z1 z2 z3 z4 → k69' z0 z1 z2 z3 z4) : K1 M0 M → w_Works_callsOf_j165 this Q k69 v1 v2 v5 v6 M → w_Works_callsOf_j165 this Q' k69' v1 v2 v5 v6 M := by
  intro hf
  unfold w_Works_callsOf_j165
  exact (hk69 _ _ _ _ _ hf)
set_option maxRecDepth 20000 in
theorem mc_w_Works_callsOf_L69 {this : Nat} {Q Q' : Mem → Prop} {M0 : Mem} (hQ : ∀ z0, K1 M0 z0 → Q z0 → Q' z0) : ∀ (n : Nat) (v1 : Nat) (v2 : Int32) (v5 : Int32) (v6 : Int32) (M : Mem), K1 M0 M → w_Works_callsOf_L69 this Q n v1 v2 v5 v6 M → w_Works_callsOf_L69 this Q' n v1 v2 v5 v6 M
  | 0, _, _, _, _, _ => fun _ h => h
  | n + 1, v1, v2, v5, v6, M => fun hf => by
    unfold w_Works_callsOf_L69
    exact (mf_ite (hQ _ hf) (mf_and fun _ => (mf_ite (mf_w_World_isBelow (fun r19 M18 f1 => (mf_ite (mc_w_Works_callsOf_j165 hQ (mc_w_Works_callsOf_L69 hQ n) (K1.trans hf (K1.fr f1 rfl))) (mc_w_World_link (fun r22 M21 f2 => (mf_ite (mf_and fun _ => (mf_w_World_method (fun r26 M25 f3 => (mf_ite (mc_w_Works_callsOf_j165 hQ (mc_w_Works_callsOf_L69 hQ n) (K1.trans (K1.trans (K1.trans hf (K1.fr f1 rfl)) f2) (K1.fr f3 rfl))) (mf_and fun _ => (mf_ite (mf_w_Works_isBuiltIn (fun r31 M30 f4 => (mf_ite (mf_w_Works_comes (fun M33 f5 => (mc_w_Works_callsOf_j165 hQ (mc_w_Works_callsOf_L69 hQ n) (K1.trans (K1.trans (K1.trans (K1.trans (K1.trans hf (K1.fr f1 rfl)) f2) (K1.fr f3 rfl)) (K1.fr f4 rfl)) (K1.fr f5 rfl))))) (mc_w_Works_callsOf_j165 hQ (mc_w_Works_callsOf_L69 hQ n) (K1.trans (K1.trans (K1.trans (K1.trans hf (K1.fr f1 rfl)) f2) (K1.fr f3 rfl)) (K1.fr f4 rfl)))))) (mc_w_Works_callsOf_j165 hQ (mc_w_Works_callsOf_L69 hQ n) (K1.trans (K1.trans (K1.trans hf (K1.fr f1 rfl)) f2) (K1.fr f3 rfl))))))))) (mc_w_Works_callsOf_j165 hQ (mc_w_Works_callsOf_L69 hQ n) (K1.trans (K1.trans hf (K1.fr f1 rfl)) f2)))))))) (mc_w_Works_callsOf_j165 hQ (mc_w_Works_callsOf_L69 hQ n) hf))))
set_option maxRecDepth 20000 in
theorem mc_w_Works_callsOf {this : Nat} {a1 : Nat} {a2 : Int32} {a3 : Int32} {Q Q' : Mem → Prop} {M : Mem} (hQ : ∀ z0, K1 M z0 → Q z0 → Q' z0) : w_Works_callsOf this a1 a2 a3 Q M → w_Works_callsOf this a1 a2 a3 Q' M := by
  unfold w_Works_callsOf
  exact (mf_and fun _ => (mf_ite (mc_w_Works_callsOf_j33 hQ (K1.rf M)) (mf_ite (mc_w_Works_callsOf_j33 hQ (K1.rf M)) (mf_and fun _ => (mf_ite (mf_and fun _ => (mf_w_World_refClass (fun r12 M11 f1 => (mf_w_World_find (fun r14 M13 f2 => (Exists.imp fun n34 => (mc_w_Works_callsOf_L69 hQ _ _ _ _ _ _ (K1.trans (K1.trans (K1.rf M) (K1.fr f1 rfl)) (K1.fr f2 rfl))))))))) (mc_w_Works_callsOf_j33 hQ (K1.rf M)))))))
set_option maxRecDepth 20000 in
theorem mc_w_Works_comesBy_j140 {this : Nat} {Q Q' : Mem → Prop} {s0 : Int32} {s1 : Nat} {M : Mem} {M0 : Mem} (hQ : ∀ z0, K1 M0 z0 → Q z0 → Q' z0) : K1 M0 M → w_Works_comesBy_j140 this Q s0 s1 M → w_Works_comesBy_j140 this Q' s0 s1 M := by
  intro hf
  unfold w_Works_comesBy_j140
  exact (mf_w_Works_startsOf (fun M15 f1 => (hQ _ (K1.trans hf (K1.fr f1 rfl)))))
set_option maxRecDepth 20000 in
theorem mc_w_Works_comesBy_j98 {this : Nat} {Q Q' : Mem → Prop} {v1 : Nat} {v4 : Int32} {v5 : Int32} {v6 : Int32} {M : Mem} {M0 : Mem} (hQ : ∀ z0, K1 M0 z0 → Q z0 → Q' z0) : K1 M0 M → w_Works_comesBy_j98 this Q v1 v4 v5 v6 M → w_Works_comesBy_j98 this Q' v1 v4 v5 v6 M := by
  intro hf
  unfold w_Works_comesBy_j98
  exact (mf_ite (hQ _ hf) (mf_ite (mc_w_Works_comesBy_j140 hQ hf) (mf_ite (mf_and fun _ => (mc_w_Works_comesBy_j140 hQ hf)) (mf_w_World_classOfField (fun r19 M18 f1 => (mc_w_Works_comesBy_j140 hQ (K1.trans hf (K1.fr f1 rfl))))))))
set_option maxRecDepth 20000 in
theorem mc_w_Works_comesBy_j61 {this : Nat} {Q Q' : Mem → Prop} {v1 : Nat} {v2 : Int32} {v3 : Int32} {v4 : Int32} {v5 : Int32} {M : Mem} {M0 : Mem} (hQ : ∀ z0, K1 M0 z0 → Q z0 → Q' z0) : K1 M0 M → w_Works_comesBy_j61 this Q v1 v2 v3 v4 v5 M → w_Works_comesBy_j61 this Q' v1 v2 v3 v4 v5 M := by
  intro hf
  unfold w_Works_comesBy_j61
  exact (mc_w_Machine_finds (fun r8 M7 f1 => (mf_ite (mf_w_Works_isIn (fun r11 M10 f2 => (mf_ite (mc_w_Works_comesBy_j98 hQ (K1.trans (K1.trans hf f1) (K1.fr f2 rfl))) (mc_w_Works_callsOf (fun M20 f3 => (mc_w_Works_comesBy_j98 hQ (K1.trans (K1.trans (K1.trans hf f1) (K1.fr f2 rfl)) f3))))))) (hQ _ (K1.trans hf f1)))))
set_option maxRecDepth 20000 in
theorem mc_w_Works_comesBy_j41 {this : Nat} {Q Q' : Mem → Prop} {v1 : Nat} {v2 : Int32} {v3 : Int32} {v4 : Int32} {s0 : Int32} {M : Mem} {M0 : Mem} (hQ : ∀ z0, K1 M0 z0 → Q z0 → Q' z0) : K1 M0 M → w_Works_comesBy_j41 this Q v1 v2 v3 v4 s0 M → w_Works_comesBy_j41 this Q' v1 v2 v3 v4 s0 M := by
  intro hf
  unfold w_Works_comesBy_j41
  exact (mf_ite (mf_w_Works_isIn (fun r5 M4 f1 => (mf_ite (hQ _ (K1.trans hf (K1.fr f1 rfl))) (mc_w_Works_comesBy_j61 hQ (K1.trans hf (K1.fr f1 rfl)))))) (mc_w_Works_comesBy_j61 hQ hf))
set_option maxRecDepth 20000 in
theorem mc_w_Works_comesBy_j36 {this : Nat} {Q Q' : Mem → Prop} {v1 : Nat} {v2 : Int32} {v3 : Int32} {v4 : Int32} {M : Mem} {M0 : Mem} (hQ : ∀ z0, K1 M0 z0 → Q z0 → Q' z0) : K1 M0 M → w_Works_comesBy_j36 this Q v1 v2 v3 v4 M → w_Works_comesBy_j36 this Q' v1 v2 v3 v4 M := by
  intro hf
  unfold w_Works_comesBy_j36
  exact (mc_w_Works_comesBy_j41 hQ hf)
set_option maxRecDepth 20000 in
theorem mc_w_Works_comesBy {this : Nat} {a1 : Nat} {a2 : Int32} {a3 : Int32} {Q Q' : Mem → Prop} {M : Mem} (hQ : ∀ z0, K1 M z0 → Q z0 → Q' z0) : w_Works_comesBy this a1 a2 a3 Q M → w_Works_comesBy this a1 a2 a3 Q' M := by
  unfold w_Works_comesBy
  exact (mf_and fun _ => (mf_ite (mc_w_Works_comesBy_j36 hQ (K1.rf M)) (mf_ite (mc_w_Works_comesBy_j36 hQ (K1.rf M)) (mf_ite (mc_w_Works_comesBy_j36 hQ (K1.rf M)) (mf_ite (mc_w_Works_comesBy_j36 hQ (K1.rf M)) (mc_w_Works_comesBy_j41 hQ (K1.rf M)))))))
set_option maxRecDepth 20000 in
theorem mc_w_Works_reach_L100 {this : Nat} {Q Q' : Int32 → Mem → Prop} {k65 k65' : Nat → Int32 → Mem → Prop} {M0 : Mem} (hQ : ∀ z0 z1, K1 M0 z1 → Q z0 z1 → Q' z0 z1) (hk65 : ∀ z0 z1 z2, K1 M0 z2 → k65 z0 z1 z2 → k65' z0 z1 z2) : ∀ (n : Nat) (v4 : Nat) (v5 : Int32) (v6 : Int32) (v7 : Int32) (M : Mem), K1 M0 M → w_Works_reach_L100 this Q k65 n v4 v5 v6 v7 M → w_Works_reach_L100 this Q' k65' n v4 v5 v6 v7 M
  | 0, _, _, _, _, _ => fun _ h => h
  | n + 1, v4, v5, v6, v7, M => fun hf => by
    unfold w_Works_reach_L100
    exact (mf_and fun _ => (mf_ite (hk65 _ _ _ hf) (mf_and fun _ => (mc_w_Works_comesBy (fun M23 f1 => (mc_w_Works_reach_L100 hQ hk65 _ _ _ _ _ _ (K1.trans hf f1)))))))
set_option maxRecDepth 20000 in
theorem mc_w_Works_reach_L65 {this : Nat} {Q Q' : Int32 → Mem → Prop} {M0 : Mem} (hQ : ∀ z0 z1, K1 M0 z1 → Q z0 z1 → Q' z0 z1) : ∀ (n : Nat) (v4 : Nat) (v5 : Int32) (M : Mem), K1 M0 M → w_Works_reach_L65 this Q n v4 v5 M → w_Works_reach_L65 this Q' n v4 v5 M
  | 0, _, _, _ => fun _ h => h
  | n + 1, v4, v5, M => fun hf => by
    unfold w_Works_reach_L65
    exact (mf_ite (hQ _ _ hf) (mf_and fun _ => (mf_and fun _ => (mf_and fun _ => (Exists.imp fun x19 => (mf_and fun _ => (Exists.imp fun n24 => (mc_w_Works_reach_L100 hQ (mc_w_Works_reach_L65 hQ n) _ _ _ _ _ _ hf))))))))
set_option maxRecDepth 20000 in
theorem mc_w_Works_reach {this : Nat} {a1 : Int32} {a2 : Int32} {a3 : Int32} {Q Q' : Int32 → Mem → Prop} {M : Mem} (hQ : ∀ z0 z1, K1 M z1 → Q z0 z1 → Q' z0 z1) : w_Works_reach this a1 a2 a3 Q M → w_Works_reach this a1 a2 a3 Q' M := by
  unfold w_Works_reach
  exact (mf_w_Works_isClass (fun r2 M1 f1 => (mf_ite (hQ _ _ (K1.trans (K1.rf M) (K1.fr f1 rfl))) (mf_and fun _ => (Exists.imp fun i5 => (mf_and fun _ => (mf_w_Works_isMethod (fun r7 M6 f2 => (mf_ite (hQ _ _ (K1.trans (K1.trans (K1.rf M) (K1.fr f1 rfl)) (K1.fr f2 rfl))) (mf_and fun _ => (Exists.imp fun i10 => (mf_and fun _ => (mf_and fun _ => (Exists.imp fun M11 => (mf_and fun e3 => (mf_and fun _ => (mf_w_Works_comes (fun M14 f4 => (Exists.imp fun n25 => (mc_w_Works_reach_L65 hQ _ _ _ _ (K1.trans (K1.of e3 (K1.wf0 rfl (K1.wI0 rfl (K1.trans (K1.trans (K1.rf M) (K1.fr f1 rfl)) (K1.fr f2 rfl))))) (K1.fr f4 rfl))))))))))))))))))))))
set_option maxRecDepth 20000 in
theorem mc_w_Works_breaksFound_j29 {this : Nat} {Q Q' : Int32 → Mem → Prop} {X X' : Mem → Prop} {k4 k4' : Int32 → Int32 → Int32 → Mem → Prop} {v1 : Int32} {v3 : Int32} {s0 : Int32} {s1 : Int32} {M : Mem} {M0 : Mem} (hQ : ∀ z0 z1, K1 M0 z1 → Q z0 z1 → Q' z0 z1) (hX : ∀ z0, K1 M0 z0 → X z0 → X' z0) (hk4 : ∀ z0 z1 z2 z3, K1 M0 z3 → k4 z0 z1 z2 z3 → k4' z0 z1 z2 z3) : K1 M0 M → w_Works_breaksFound_j29 this Q X k4 v1 v3 s0 s1 M → w_Works_breaksFound_j29 this Q' X' k4' v1 v3 s0 s1 M := by
  intro hf
  unfold w_Works_breaksFound_j29
  exact (hk4 _ _ _ _ hf)
set_option maxRecDepth 20000 in
theorem mc_w_Works_breaksFound_L4 {this : Nat} {Q Q' : Int32 → Mem → Prop} {X X' : Mem → Prop} {M0 : Mem} (hQ : ∀ z0 z1, K1 M0 z1 → Q z0 z1 → Q' z0 z1) (hX : ∀ z0, K1 M0 z0 → X z0 → X' z0) : ∀ (n : Nat) (v1 : Int32) (v2 : Int32) (v3 : Int32) (M : Mem), K1 M0 M → w_Works_breaksFound_L4 this Q X n v1 v2 v3 M → w_Works_breaksFound_L4 this Q' X' n v1 v2 v3 M
  | 0, _, _, _, _ => fun _ h => h
  | n + 1, v1, v2, v3, M => fun hf => by
    unfold w_Works_breaksFound_L4
    exact (mf_ite (hQ _ _ hf) (mc_w_Works_finds0 (fun r3 M2 f1 => (mf_ite (mc_w_Works_breaksFound_j29 hQ hX (mc_w_Works_breaksFound_L4 hQ hX n) (K1.trans hf f1)) (mc_w_Works_breaksFound_j29 hQ hX (mc_w_Works_breaksFound_L4 hQ hX n) (K1.trans hf f1)))) (fun z3 f2 => hX z3 (K1.trans hf f2))))
set_option maxRecDepth 20000 in
theorem mc_w_Works_breaksFound {this : Nat} {a1 : Int32} {Q Q' : Int32 → Mem → Prop} {X X' : Mem → Prop} {M : Mem} (hQ : ∀ z0 z1, K1 M z1 → Q z0 z1 → Q' z0 z1) (hX : ∀ z0, K1 M z0 → X z0 → X' z0) : w_Works_breaksFound this a1 Q X M → w_Works_breaksFound this a1 Q' X' M := by
  unfold w_Works_breaksFound
  exact (Exists.imp fun n5 => (mc_w_Works_breaksFound_L4 hQ hX _ _ _ _ _ (K1.rf M)))
set_option maxRecDepth 20000 in
theorem mc_w_Works_meetOne_j92 {this : Nat} {Q Q' : Mem → Prop} {X X' : Mem → Prop} {k14 k14' : Int32 → Int32 → Int32 → Mem → Prop} {v1 : Int32} {v2 : Int32} {v3 : Int32} {M : Mem} {M0 : Mem} (hQ : ∀ z0, K1 M0 z0 → Q z0 → Q' z0) (hX : ∀ z0, K1 M0 z0 → X z0 → X' z0) (hk14 : ∀ z0 z1 z2 z3, K1 M0 z3 → k14 z0 z1 z2 z3 → k14' z0 z1 z2 z3) : K1 M0 M → w_Works_meetOne_j92 this Q X k14 v1 v2 v3 M → w_Works_meetOne_j92 this Q' X' k14' v1 v2 v3 M := by
  intro hf
  unfold w_Works_meetOne_j92
  exact (hk14 _ _ _ _ hf)
set_option maxRecDepth 20000 in
theorem mc_w_Works_meetOne_L46 {this : Nat} {Q Q' : Mem → Prop} {X X' : Mem → Prop} {k14 k14' : Int32 → Int32 → Int32 → Mem → Prop} {M0 : Mem} (hQ : ∀ z0, K1 M0 z0 → Q z0 → Q' z0) (hX : ∀ z0, K1 M0 z0 → X z0 → X' z0) (hk14 : ∀ z0 z1 z2 z3, K1 M0 z3 → k14 z0 z1 z2 z3 → k14' z0 z1 z2 z3) : ∀ (n : Nat) (v1 : Int32) (v2 : Int32) (v3 : Int32) (v4 : Int32) (v5 : Int32) (M : Mem), K1 M0 M → w_Works_meetOne_L46 this Q X k14 n v1 v2 v3 v4 v5 M → w_Works_meetOne_L46 this Q' X' k14' n v1 v2 v3 v4 v5 M
  | 0, _, _, _, _, _, _ => fun _ h => h
  | n + 1, v1, v2, v3, v4, v5, M => fun hf => by
    unfold w_Works_meetOne_L46
    exact (mf_ite (mc_w_Works_meetOne_j92 hQ hX hk14 hf) (mf_and fun _ => (mf_and fun _ => (mf_w_JMath_min (fun r20 M19 f1 => (mf_and fun _ => (mc_w_Works_meetOne_L46 hQ hX hk14 _ _ _ _ _ _ _ (K1.wI0a rfl (K1.trans hf (K1.fr f1 rfl))))))))))
set_option maxRecDepth 20000 in
theorem mc_w_Works_meetOne_L14 {this : Nat} {Q Q' : Mem → Prop} {X X' : Mem → Prop} {M0 : Mem} (hQ : ∀ z0, K1 M0 z0 → Q z0 → Q' z0) (hX : ∀ z0, K1 M0 z0 → X z0 → X' z0) : ∀ (n : Nat) (v1 : Int32) (v2 : Int32) (v3 : Int32) (M : Mem), K1 M0 M → w_Works_meetOne_L14 this Q X n v1 v2 v3 M → w_Works_meetOne_L14 this Q' X' n v1 v2 v3 M
  | 0, _, _, _, _ => fun _ h => h
  | n + 1, v1, v2, v3, M => fun hf => by
    unfold w_Works_meetOne_L14
    exact (mf_ite (mf_ite (hQ _ hf) (mf_and fun _ => (mf_and fun _ => (mf_and fun _ => (mf_and fun _ => (mf_and fun _ => (Exists.imp fun M5 => (mf_and fun e1 => (hQ _ (K1.of e1 (K1.wc0 rfl hf))))))))))) (mc_w_Works_ruleMet (fun r12 M11 f2 => (mf_ite (mc_w_Works_breaksFound (fun r15 M14 f3 => (Exists.imp fun n22 => (mc_w_Works_meetOne_L46 hQ hX (mc_w_Works_meetOne_L14 hQ hX n) _ _ _ _ _ _ _ (K1.trans (K1.trans hf f2) f3)))) (fun z5 f4 => hX z5 (K1.trans (K1.trans hf f2) f4))) (mc_w_Works_meetOne_j92 hQ hX (mc_w_Works_meetOne_L14 hQ hX n) (K1.trans hf f2)))) (fun z7 f6 => hX z7 (K1.trans hf f6))))
set_option maxRecDepth 20000 in
theorem mc_w_Works_meetOne {this : Nat} {a1 : Int32} {Q Q' : Mem → Prop} {X X' : Mem → Prop} {M : Mem} (hQ : ∀ z0, K1 M z0 → Q z0 → Q' z0) (hX : ∀ z0, K1 M z0 → X z0 → X' z0) : w_Works_meetOne this a1 Q X M → w_Works_meetOne this a1 Q' X' M := by
  unfold w_Works_meetOne
  exact (mf_and fun _ => (Exists.imp fun M1 => (mf_and fun e1 => (Exists.imp fun n23 => (mc_w_Works_meetOne_L14 hQ hX _ _ _ _ _ (K1.of e1 (K1.wf0 rfl (K1.rf M))))))))
set_option maxRecDepth 20000 in
theorem mc_w_Works_fewest_L98 {this : Nat} {Q Q' : Int32 → Mem → Prop} {X X' : Mem → Prop} {k72 k72' : Int32 → Int32 → Mem → Prop} {k80 k80' : Int32 → Int32 → Int32 → Mem → Prop} {M0 : Mem} (hQ : ∀ z0 z1, K1 M0 z1 → Q z0 z1 → Q' z0 z1) (hX : ∀ z0, K1 M0 z0 → X z0 → X' z0) (hk72 : ∀ z0 z1 z2, K1 M0 z2 → k72 z0 z1 z2 → k72' z0 z1 z2) (hk80 : ∀ z0 z1 z2 z3, K1 M0 z3 → k80 z0 z1 z2 z3 → k80' z0 z1 z2 z3) : ∀ (n : Nat) (v1 : Int32) (v2 : Int32) (v3 : Int32) (v4 : Int32) (v5 : Int32) (M : Mem), K1 M0 M → w_Works_fewest_L98 this Q X k72 k80 n v1 v2 v3 v4 v5 M → w_Works_fewest_L98 this Q' X' k72' k80' n v1 v2 v3 v4 v5 M
  | 0, _, _, _, _, _, _ => fun _ h => h
  | n + 1, v1, v2, v3, v4, v5, M => fun hf => by
    unfold w_Works_fewest_L98
    exact (mf_ite (hk80 _ _ _ _ hf) (mf_and fun _ => (mf_and fun _ => (mf_w_JMath_min (fun r15 M14 f1 => (mf_and fun _ => (mc_w_Works_fewest_L98 hQ hX hk72 hk80 _ _ _ _ _ _ _ (K1.wI0a rfl (K1.trans hf (K1.fr f1 rfl))))))))))
set_option maxRecDepth 20000 in
theorem mc_w_Works_fewest_L80 {this : Nat} {Q Q' : Int32 → Mem → Prop} {X X' : Mem → Prop} {k72 k72' : Int32 → Int32 → Mem → Prop} {M0 : Mem} (hQ : ∀ z0 z1, K1 M0 z1 → Q z0 z1 → Q' z0 z1) (hX : ∀ z0, K1 M0 z0 → X z0 → X' z0) (hk72 : ∀ z0 z1 z2, K1 M0 z2 → k72 z0 z1 z2 → k72' z0 z1 z2) : ∀ (n : Nat) (v1 : Int32) (v2 : Int32) (v3 : Int32) (M : Mem), K1 M0 M → w_Works_fewest_L80 this Q X k72 n v1 v2 v3 M → w_Works_fewest_L80 this Q' X' k72' n v1 v2 v3 M
  | 0, _, _, _, _ => fun _ h => h
  | n + 1, v1, v2, v3, M => fun hf => by
    unfold w_Works_fewest_L80
    exact (mf_ite (hk72 _ _ _ hf) (mc_w_Works_breaksFound (fun r10 M9 f1 => (Exists.imp fun n17 => (mc_w_Works_fewest_L98 hQ hX hk72 (mc_w_Works_fewest_L80 hQ hX hk72 n) _ _ _ _ _ _ _ (K1.trans hf f1)))) (fun z3 f2 => hX z3 (K1.trans hf f2))))
set_option maxRecDepth 20000 in
theorem mc_w_Works_fewest_L72 {this : Nat} {Q Q' : Int32 → Mem → Prop} {X X' : Mem → Prop} {M0 : Mem} (hQ : ∀ z0 z1, K1 M0 z1 → Q z0 z1 → Q' z0 z1) (hX : ∀ z0, K1 M0 z0 → X z0 → X' z0) : ∀ (n : Nat) (v1 : Int32) (v2 : Int32) (M : Mem), K1 M0 M → w_Works_fewest_L72 this Q X n v1 v2 M → w_Works_fewest_L72 this Q' X' n v1 v2 M
  | 0, _, _, _ => fun _ h => h
  | n + 1, v1, v2, M => fun hf => by
    unfold w_Works_fewest_L72
    exact (mf_ite (mf_and fun _ => (hQ _ _ hf)) (Exists.imp fun n18 => (mc_w_Works_fewest_L80 hQ hX (mc_w_Works_fewest_L72 hQ hX n) _ _ _ _ _ hf)))
set_option maxRecDepth 20000 in
theorem mc_w_Works_fewest_j64 {this : Nat} {Q Q' : Int32 → Mem → Prop} {X X' : Mem → Prop} {k45 k45' : Int32 → Int32 → Mem → Prop} {v1 : Int32} {v2 : Int32} {M : Mem} {M0 : Mem} (hQ : ∀ z0 z1, K1 M0 z1 → Q z0 z1 → Q' z0 z1) (hX : ∀ z0, K1 M0 z0 → X z0 → X' z0) (hk45 : ∀ z0 z1 z2, K1 M0 z2 → k45 z0 z1 z2 → k45' z0 z1 z2) : K1 M0 M → w_Works_fewest_j64 this Q X k45 v1 v2 M → w_Works_fewest_j64 this Q' X' k45' v1 v2 M := by
  intro hf
  unfold w_Works_fewest_j64
  exact (hk45 _ _ _ hf)
set_option maxRecDepth 20000 in
theorem mc_w_Works_fewest_L45 {this : Nat} {Q Q' : Int32 → Mem → Prop} {X X' : Mem → Prop} {M0 : Mem} (hQ : ∀ z0 z1, K1 M0 z1 → Q z0 z1 → Q' z0 z1) (hX : ∀ z0, K1 M0 z0 → X z0 → X' z0) : ∀ (n : Nat) (v1 : Int32) (v2 : Int32) (M : Mem), K1 M0 M → w_Works_fewest_L45 this Q X n v1 v2 M → w_Works_fewest_L45 this Q' X' n v1 v2 M
  | 0, _, _, _ => fun _ h => h
  | n + 1, v1, v2, M => fun hf => by
    unfold w_Works_fewest_L45
    exact (mf_ite (Exists.imp fun n19 => (mc_w_Works_fewest_L72 hQ hX _ _ _ _ hf)) (mf_w_Works_isRule (fun r21 M20 f1 => (mf_ite (mc_w_Works_fewest_j64 hQ hX (mc_w_Works_fewest_L45 hQ hX n) (K1.trans hf (K1.fr f1 rfl))) (mc_w_Works_meetOne (fun M23 f2 => (mc_w_Works_fewest_j64 hQ hX (mc_w_Works_fewest_L45 hQ hX n) (K1.trans (K1.trans hf (K1.fr f1 rfl)) f2))) (fun z4 f3 => hX z4 (K1.trans (K1.trans hf (K1.fr f1 rfl)) f3)))))))
set_option maxRecDepth 20000 in
theorem mc_w_Works_fewest_L4 {this : Nat} {Q Q' : Int32 → Mem → Prop} {X X' : Mem → Prop} {M0 : Mem} (hQ : ∀ z0 z1, K1 M0 z1 → Q z0 z1 → Q' z0 z1) (hX : ∀ z0, K1 M0 z0 → X z0 → X' z0) : ∀ (n : Nat) (v1 : Int32) (v2 : Int32) (M : Mem), K1 M0 M → w_Works_fewest_L4 this Q X n v1 v2 M → w_Works_fewest_L4 this Q' X' n v1 v2 M
  | 0, _, _, _ => fun _ h => h
  | n + 1, v1, v2, M => fun hf => by
    unfold w_Works_fewest_L4
    exact (mf_ite (mf_and fun _ => (Exists.imp fun M2 => (mf_and fun e1 => (mf_and fun _ => (Exists.imp fun n24 => (mc_w_Works_fewest_L45 hQ hX _ _ _ _ (K1.wI0a rfl (K1.of e1 (K1.wf0 rfl hf))))))))) (mc_w_Works_breaksFound (fun r26 M25 f2 => (mc_w_Works_fewest_L4 hQ hX _ _ _ _ (K1.trans hf f2))) (fun z4 f3 => hX z4 (K1.trans hf f3))))
set_option maxRecDepth 20000 in
theorem mc_w_Works_fewest {this : Nat} {Q Q' : Int32 → Mem → Prop} {X X' : Mem → Prop} {M : Mem} (hQ : ∀ z0 z1, K1 M z1 → Q z0 z1 → Q' z0 z1) (hX : ∀ z0, K1 M z0 → X z0 → X' z0) : w_Works_fewest this Q X M → w_Works_fewest this Q' X' M := by
  unfold w_Works_fewest
  exact (Exists.imp fun n27 => (mc_w_Works_fewest_L4 hQ hX _ _ _ _ (K1.rf M)))
set_option maxRecDepth 20000 in
theorem mc_w_Works_outcome {this : Nat} {a1 : Int32} {a2 : Int32} {a3 : Int32} {Q Q' : Int32 → Mem → Prop} {X X' : Mem → Prop} {M : Mem} (hQ : ∀ z0 z1, K1 M z1 → Q z0 z1 → Q' z0 z1) (hX : ∀ z0, K1 M z0 → X z0 → X' z0) : w_Works_outcome this a1 a2 a3 Q X M → w_Works_outcome this a1 a2 a3 Q' X' M := by
  unfold w_Works_outcome
  exact (mf_w_Works_isTrial (fun r2 M1 f1 => (mf_ite (hQ _ _ (K1.trans (K1.rf M) (K1.fr f1 rfl))) (mf_w_Works_isIn (fun r5 M4 f2 => (mf_ite (hQ _ _ (K1.trans (K1.trans (K1.rf M) (K1.fr f1 rfl)) (K1.fr f2 rfl))) (mf_w_Works_isIn (fun r8 M7 f3 => (mf_ite (hQ _ _ (K1.trans (K1.trans (K1.trans (K1.rf M) (K1.fr f1 rfl)) (K1.fr f2 rfl)) (K1.fr f3 rfl))) (mc_w_Works_work2 (fun M10 f4 => (mf_ite (hQ _ _ (K1.trans (K1.trans (K1.trans (K1.trans (K1.rf M) (K1.fr f1 rfl)) (K1.fr f2 rfl)) (K1.fr f3 rfl)) f4)) (hQ _ _ (K1.trans (K1.trans (K1.trans (K1.trans (K1.rf M) (K1.fr f1 rfl)) (K1.fr f2 rfl)) (K1.fr f3 rfl)) f4)))) (fun z6 f5 => hX z6 (K1.trans (K1.trans (K1.trans (K1.trans (K1.rf M) (K1.fr f1 rfl)) (K1.fr f2 rfl)) (K1.fr f3 rfl)) f5))))))))))))
set_option maxRecDepth 20000 in
theorem mc_w_Works_meets {this : Nat} {a1 : Int32} {Q Q' : Int32 → Mem → Prop} {X X' : Mem → Prop} {M : Mem} (hQ : ∀ z0 z1, K1 M z1 → Q z0 z1 → Q' z0 z1) (hX : ∀ z0, K1 M z0 → X z0 → X' z0) : w_Works_meets this a1 Q X M → w_Works_meets this a1 Q' X' M := by
  unfold w_Works_meets
  exact (mf_w_Works_isTrial (fun r2 M1 f1 => (mf_ite (hQ _ _ (K1.trans (K1.rf M) (K1.fr f1 rfl))) (mc_w_Works_ruleMet (fun r5 M4 f2 => (hQ _ _ (K1.trans (K1.trans (K1.rf M) (K1.fr f1 rfl)) f2))) (fun z4 f3 => hX z4 (K1.trans (K1.trans (K1.rf M) (K1.fr f1 rfl)) f3))))))
set_option maxRecDepth 20000 in
theorem mc_w_Works_finds {this : Nat} {a1 : Int32} {a2 : Int32} {Q Q' : Int32 → Mem → Prop} {X X' : Mem → Prop} {M : Mem} (hQ : ∀ z0 z1, K1 M z1 → Q z0 z1 → Q' z0 z1) (hX : ∀ z0, K1 M z0 → X z0 → X' z0) : w_Works_finds this a1 a2 Q X M → w_Works_finds this a1 a2 Q' X' M := by
  unfold w_Works_finds
  exact (mf_w_Works_isTrial (fun r2 M1 f1 => (mf_ite (hQ _ _ (K1.trans (K1.rf M) (K1.fr f1 rfl))) (mf_w_Works_isIn (fun r5 M4 f2 => (mf_ite (hQ _ _ (K1.trans (K1.trans (K1.rf M) (K1.fr f1 rfl)) (K1.fr f2 rfl))) (mc_w_Works_finds0 (fun r8 M7 f3 => (mf_ite (hQ _ _ (K1.trans (K1.trans (K1.trans (K1.rf M) (K1.fr f1 rfl)) (K1.fr f2 rfl)) f3)) (hQ _ _ (K1.trans (K1.trans (K1.trans (K1.rf M) (K1.fr f1 rfl)) (K1.fr f2 rfl)) f3)))) (fun z5 f4 => hX z5 (K1.trans (K1.trans (K1.trans (K1.rf M) (K1.fr f1 rfl)) (K1.fr f2 rfl)) f4)))))))))
set_option maxRecDepth 20000 in
theorem mc_w_Works_hole_j87 {this : Nat} {Q Q' : Int32 → Mem → Prop} {X X' : Mem → Prop} {k10 k10' : Int32 → Int32 → Mem → Prop} {v2 : Int32} {v3 : Int32} {M : Mem} {M0 : Mem} (hQ : ∀ z0 z1, K1 M0 z1 → Q z0 z1 → Q' z0 z1) (hX : ∀ z0, K1 M0 z0 → X z0 → X' z0) (hk10 : ∀ z0 z1 z2, K1 M0 z2 → k10 z0 z1 z2 → k10' z0 z1 z2) : K1 M0 M → w_Works_hole_j87 this Q X k10 v2 v3 M → w_Works_hole_j87 this Q' X' k10' v2 v3 M := by
  intro hf
  unfold w_Works_hole_j87
  exact (hk10 _ _ _ hf)
set_option maxRecDepth 20000 in
theorem mc_w_Works_hole_j70 {this : Nat} {Q Q' : Int32 → Mem → Prop} {X X' : Mem → Prop} {k10 k10' : Int32 → Int32 → Mem → Prop} {v2 : Int32} {v3 : Int32} {v4 : Int32} {M : Mem} {M0 : Mem} (hQ : ∀ z0 z1, K1 M0 z1 → Q z0 z1 → Q' z0 z1) (hX : ∀ z0, K1 M0 z0 → X z0 → X' z0) (hk10 : ∀ z0 z1 z2, K1 M0 z2 → k10 z0 z1 z2 → k10' z0 z1 z2) : K1 M0 M → w_Works_hole_j70 this Q X k10 v2 v3 v4 M → w_Works_hole_j70 this Q' X' k10' v2 v3 v4 M := by
  intro hf
  unfold w_Works_hole_j70
  exact (mf_ite (mf_ite (hQ _ _ hf) (mc_w_Works_hole_j87 hQ hX hk10 hf)) (mc_w_Works_hole_j87 hQ hX hk10 hf))
set_option maxRecDepth 20000 in
theorem mc_w_Works_hole_j62 {this : Nat} {Q Q' : Int32 → Mem → Prop} {X X' : Mem → Prop} {k10 k10' : Int32 → Int32 → Mem → Prop} {k33 k33' : Int32 → Int32 → Int32 → Int32 → Mem → Prop} {v2 : Int32} {v3 : Int32} {v5 : Int32} {s0 : Int32} {M : Mem} {M0 : Mem} (hQ : ∀ z0 z1, K1 M0 z1 → Q z0 z1 → Q' z0 z1) (hX : ∀ z0, K1 M0 z0 → X z0 → X' z0) (hk10 : ∀ z0 z1 z2, K1 M0 z2 → k10 z0 z1 z2 → k10' z0 z1 z2) (hk33 : ∀ z0 z1 z2 z3 z4, K1 M0 z4 → k33 z0 z1 z2 z3 z4 → k33' z0 z1 z2 z3 z4) : K1 M0 M → w_Works_hole_j62 this Q X k10 k33 v2 v3 v5 s0 M → w_Works_hole_j62 this Q' X' k10' k33' v2 v3 v5 s0 M := by
  intro hf
  unfold w_Works_hole_j62
  exact (hk33 _ _ _ _ _ hf)
set_option maxRecDepth 20000 in
theorem mc_w_Works_hole_L33 {this : Nat} {Q Q' : Int32 → Mem → Prop} {X X' : Mem → Prop} {k10 k10' : Int32 → Int32 → Mem → Prop} {M0 : Mem} (hQ : ∀ z0 z1, K1 M0 z1 → Q z0 z1 → Q' z0 z1) (hX : ∀ z0, K1 M0 z0 → X z0 → X' z0) (hk10 : ∀ z0 z1 z2, K1 M0 z2 → k10 z0 z1 z2 → k10' z0 z1 z2) : ∀ (n : Nat) (v2 : Int32) (v3 : Int32) (v4 : Int32) (v5 : Int32) (M : Mem), K1 M0 M → w_Works_hole_L33 this Q X k10 n v2 v3 v4 v5 M → w_Works_hole_L33 this Q' X' k10' n v2 v3 v4 v5 M
  | 0, _, _, _, _, _ => fun _ h => h
  | n + 1, v2, v3, v4, v5, M => fun hf => by
    unfold w_Works_hole_L33
    exact (mf_ite (mc_w_Works_hole_j70 hQ hX hk10 hf) (mf_ite (mc_w_Works_ruleMet (fun r11 M10 f1 => (mf_ite (mc_w_Works_hole_j62 hQ hX hk10 (mc_w_Works_hole_L33 hQ hX hk10 n) (K1.trans hf f1)) (mc_w_Works_hole_j62 hQ hX hk10 (mc_w_Works_hole_L33 hQ hX hk10 n) (K1.trans hf f1)))) (fun z3 f2 => hX z3 (K1.trans hf f2))) (mc_w_Works_hole_j70 hQ hX hk10 hf)))
set_option maxRecDepth 20000 in
theorem mc_w_Works_hole_L10 {this : Nat} {Q Q' : Int32 → Mem → Prop} {X X' : Mem → Prop} {M0 : Mem} (hQ : ∀ z0 z1, K1 M0 z1 → Q z0 z1 → Q' z0 z1) (hX : ∀ z0, K1 M0 z0 → X z0 → X' z0) : ∀ (n : Nat) (v2 : Int32) (v3 : Int32) (M : Mem), K1 M0 M → w_Works_hole_L10 this Q X n v2 v3 M → w_Works_hole_L10 this Q' X' n v2 v3 M
  | 0, _, _, _ => fun _ h => h
  | n + 1, v2, v3, M => fun hf => by
    unfold w_Works_hole_L10
    exact (mf_ite (hQ _ _ hf) (mf_w_Works_isRule (fun r4 M3 f1 => (mf_ite (mc_w_Works_hole_j87 hQ hX (mc_w_Works_hole_L10 hQ hX n) (K1.trans hf (K1.fr f1 rfl))) (Exists.imp fun n13 => (mc_w_Works_hole_L33 hQ hX (mc_w_Works_hole_L10 hQ hX n) _ _ _ _ _ _ (K1.trans hf (K1.fr f1 rfl))))))))
set_option maxRecDepth 20000 in
theorem mc_w_Works_hole {this : Nat} {a1 : Int32} {Q Q' : Int32 → Mem → Prop} {X X' : Mem → Prop} {M : Mem} (hQ : ∀ z0 z1, K1 M z1 → Q z0 z1 → Q' z0 z1) (hX : ∀ z0, K1 M z0 → X z0 → X' z0) : w_Works_hole this a1 Q X M → w_Works_hole this a1 Q' X' M := by
  unfold w_Works_hole
  exact (mf_ite (Exists.imp fun n14 => (mc_w_Works_hole_L10 hQ hX _ _ _ _ (K1.rf M))) (hQ _ _ (K1.rf M)))
set_option maxRecDepth 20000 in
theorem mc_w_Works_isNeedless_j144 {this : Nat} {Q Q' : Int32 → Mem → Prop} {X X' : Mem → Prop} {k63 k63' : Int32 → Int32 → Int32 → Mem → Prop} {v1 : Int32} {v3 : Int32} {v4 : Int32} {M : Mem} {M0 : Mem} (hQ : ∀ z0 z1, K1 M0 z1 → Q z0 z1 → Q' z0 z1) (hX : ∀ z0, K1 M0 z0 → X z0 → X' z0) (hk63 : ∀ z0 z1 z2 z3, K1 M0 z3 → k63 z0 z1 z2 z3 → k63' z0 z1 z2 z3) : K1 M0 M → w_Works_isNeedless_j144 this Q X k63 v1 v3 v4 M → w_Works_isNeedless_j144 this Q' X' k63' v1 v3 v4 M := by
  intro hf
  unfold w_Works_isNeedless_j144
  exact (hk63 _ _ _ _ hf)
set_option maxRecDepth 20000 in
theorem mc_w_Works_isNeedless_j141 {this : Nat} {Q Q' : Int32 → Mem → Prop} {X X' : Mem → Prop} {k63 k63' : Int32 → Int32 → Int32 → Mem → Prop} {v1 : Int32} {v4 : Int32} {v5 : Int32} {M : Mem} {M0 : Mem} (hQ : ∀ z0 z1, K1 M0 z1 → Q z0 z1 → Q' z0 z1) (hX : ∀ z0, K1 M0 z0 → X z0 → X' z0) (hk63 : ∀ z0 z1 z2 z3, K1 M0 z3 → k63 z0 z1 z2 z3 → k63' z0 z1 z2 z3) : K1 M0 M → w_Works_isNeedless_j141 this Q X k63 v1 v4 v5 M → w_Works_isNeedless_j141 this Q' X' k63' v1 v4 v5 M := by
  intro hf
  unfold w_Works_isNeedless_j141
  exact (mc_w_Works_isNeedless_j144 hQ hX hk63 hf)
set_option maxRecDepth 20000 in
theorem mc_w_Works_isNeedless_j133 {this : Nat} {Q Q' : Int32 → Mem → Prop} {X X' : Mem → Prop} {k63 k63' : Int32 → Int32 → Int32 → Mem → Prop} {k95 k95' : Int32 → Int32 → Int32 → Int32 → Mem → Prop} {v1 : Int32} {v4 : Int32} {v6 : Int32} {s0 : Int32} {M : Mem} {M0 : Mem} (hQ : ∀ z0 z1, K1 M0 z1 → Q z0 z1 → Q' z0 z1) (hX : ∀ z0, K1 M0 z0 → X z0 → X' z0) (hk63 : ∀ z0 z1 z2 z3, K1 M0 z3 → k63 z0 z1 z2 z3 → k63' z0 z1 z2 z3) (hk95 : ∀ z0 z1 z2 z3 z4, K1 M0 z4 → k95 z0 z1 z2 z3 z4 → k95' z0 z1 z2 z3 z4) : K1 M0 M → w_Works_isNeedless_j133 this Q X k63 k95 v1 v4 v6 s0 M → w_Works_isNeedless_j133 this Q' X' k63' k95' v1 v4 v6 s0 M := by
  intro hf
  unfold w_Works_isNeedless_j133
  exact (hk95 _ _ _ _ _ hf)
set_option maxRecDepth 20000 in
theorem mc_w_Works_isNeedless_j132 {this : Nat} {Q Q' : Int32 → Mem → Prop} {X X' : Mem → Prop} {k63 k63' : Int32 → Int32 → Int32 → Mem → Prop} {k95 k95' : Int32 → Int32 → Int32 → Int32 → Mem → Prop} {v1 : Int32} {v4 : Int32} {v6 : Int32} {M : Mem} {M0 : Mem} (hQ : ∀ z0 z1, K1 M0 z1 → Q z0 z1 → Q' z0 z1) (hX : ∀ z0, K1 M0 z0 → X z0 → X' z0) (hk63 : ∀ z0 z1 z2 z3, K1 M0 z3 → k63 z0 z1 z2 z3 → k63' z0 z1 z2 z3) (hk95 : ∀ z0 z1 z2 z3 z4, K1 M0 z4 → k95 z0 z1 z2 z3 z4 → k95' z0 z1 z2 z3 z4) : K1 M0 M → w_Works_isNeedless_j132 this Q X k63 k95 v1 v4 v6 M → w_Works_isNeedless_j132 this Q' X' k63' k95' v1 v4 v6 M := by
  intro hf
  unfold w_Works_isNeedless_j132
  exact (mc_w_Works_isNeedless_j133 hQ hX hk63 hk95 hf)
set_option maxRecDepth 20000 in
theorem mc_w_Works_isNeedless_L95 {this : Nat} {Q Q' : Int32 → Mem → Prop} {X X' : Mem → Prop} {k63 k63' : Int32 → Int32 → Int32 → Mem → Prop} {M0 : Mem} (hQ : ∀ z0 z1, K1 M0 z1 → Q z0 z1 → Q' z0 z1) (hX : ∀ z0, K1 M0 z0 → X z0 → X' z0) (hk63 : ∀ z0 z1 z2 z3, K1 M0 z3 → k63 z0 z1 z2 z3 → k63' z0 z1 z2 z3) : ∀ (n : Nat) (v1 : Int32) (v4 : Int32) (v5 : Int32) (v6 : Int32) (M : Mem), K1 M0 M → w_Works_isNeedless_L95 this Q X k63 n v1 v4 v5 v6 M → w_Works_isNeedless_L95 this Q' X' k63' n v1 v4 v5 v6 M
  | 0, _, _, _, _, _ => fun _ h => h
  | n + 1, v1, v4, v5, v6, M => fun hf => by
    unfold w_Works_isNeedless_L95
    exact (mf_ite (mc_w_Works_isNeedless_j141 hQ hX hk63 hf) (mf_ite (mf_ite (mc_w_Works_isNeedless_j132 hQ hX hk63 (mc_w_Works_isNeedless_L95 hQ hX hk63 n) hf) (mc_w_Works_finds0 (fun r14 M13 f1 => (mf_ite (mc_w_Works_isNeedless_j132 hQ hX hk63 (mc_w_Works_isNeedless_L95 hQ hX hk63 n) (K1.trans hf f1)) (mc_w_Works_isNeedless_j133 hQ hX hk63 (mc_w_Works_isNeedless_L95 hQ hX hk63 n) (K1.trans hf f1)))) (fun z3 f2 => hX z3 (K1.trans hf f2)))) (mc_w_Works_isNeedless_j141 hQ hX hk63 hf)))
set_option maxRecDepth 20000 in
theorem mc_w_Works_isNeedless_L63 {this : Nat} {Q Q' : Int32 → Mem → Prop} {X X' : Mem → Prop} {M0 : Mem} (hQ : ∀ z0 z1, K1 M0 z1 → Q z0 z1 → Q' z0 z1) (hX : ∀ z0, K1 M0 z0 → X z0 → X' z0) : ∀ (n : Nat) (v1 : Int32) (v3 : Int32) (v4 : Int32) (M : Mem), K1 M0 M → w_Works_isNeedless_L63 this Q X n v1 v3 v4 M → w_Works_isNeedless_L63 this Q' X' n v1 v3 v4 M
  | 0, _, _, _, _ => fun _ h => h
  | n + 1, v1, v3, v4, M => fun hf => by
    unfold w_Works_isNeedless_L63
    exact (mf_ite (mf_and fun _ => (hQ _ _ hf)) (mf_ite (mf_and fun _ => (hQ _ _ hf)) (mc_w_Works_finds0 (fun r8 M7 f1 => (mf_ite (mc_w_Works_isNeedless_j144 hQ hX (mc_w_Works_isNeedless_L63 hQ hX n) (K1.trans hf f1)) (Exists.imp fun n16 => (mc_w_Works_isNeedless_L95 hQ hX (mc_w_Works_isNeedless_L63 hQ hX n) _ _ _ _ _ _ (K1.trans hf f1))))) (fun z3 f2 => hX z3 (K1.trans hf f2)))))
set_option maxRecDepth 20000 in
theorem mc_w_Works_isNeedless_j60 {this : Nat} {Q Q' : Int32 → Mem → Prop} {X X' : Mem → Prop} {v1 : Int32} {v3 : Int32} {M : Mem} {M0 : Mem} (hQ : ∀ z0 z1, K1 M0 z1 → Q z0 z1 → Q' z0 z1) (hX : ∀ z0, K1 M0 z0 → X z0 → X' z0) : K1 M0 M → w_Works_isNeedless_j60 this Q X v1 v3 M → w_Works_isNeedless_j60 this Q' X' v1 v3 M := by
  intro hf
  unfold w_Works_isNeedless_j60
  exact (Exists.imp fun n17 => (mc_w_Works_isNeedless_L63 hQ hX _ _ _ _ _ hf))
set_option maxRecDepth 20000 in
theorem mc_w_Works_isNeedless_j53 {this : Nat} {Q Q' : Int32 → Mem → Prop} {X X' : Mem → Prop} {k19 k19' : Int32 → Int32 → Int32 → Int32 → Mem → Prop} {v1 : Int32} {v2 : Int32} {v4 : Int32} {s0 : Int32} {M : Mem} {M0 : Mem} (hQ : ∀ z0 z1, K1 M0 z1 → Q z0 z1 → Q' z0 z1) (hX : ∀ z0, K1 M0 z0 → X z0 → X' z0) (hk19 : ∀ z0 z1 z2 z3 z4, K1 M0 z4 → k19 z0 z1 z2 z3 z4 → k19' z0 z1 z2 z3 z4) : K1 M0 M → w_Works_isNeedless_j53 this Q X k19 v1 v2 v4 s0 M → w_Works_isNeedless_j53 this Q' X' k19' v1 v2 v4 s0 M := by
  intro hf
  unfold w_Works_isNeedless_j53
  exact (hk19 _ _ _ _ _ hf)
set_option maxRecDepth 20000 in
theorem mc_w_Works_isNeedless_j52 {this : Nat} {Q Q' : Int32 → Mem → Prop} {X X' : Mem → Prop} {k19 k19' : Int32 → Int32 → Int32 → Int32 → Mem → Prop} {v1 : Int32} {v2 : Int32} {v4 : Int32} {M : Mem} {M0 : Mem} (hQ : ∀ z0 z1, K1 M0 z1 → Q z0 z1 → Q' z0 z1) (hX : ∀ z0, K1 M0 z0 → X z0 → X' z0) (hk19 : ∀ z0 z1 z2 z3 z4, K1 M0 z4 → k19 z0 z1 z2 z3 z4 → k19' z0 z1 z2 z3 z4) : K1 M0 M → w_Works_isNeedless_j52 this Q X k19 v1 v2 v4 M → w_Works_isNeedless_j52 this Q' X' k19' v1 v2 v4 M := by
  intro hf
  unfold w_Works_isNeedless_j52
  exact (mc_w_Works_isNeedless_j53 hQ hX hk19 hf)
set_option maxRecDepth 20000 in
theorem mc_w_Works_isNeedless_L19 {this : Nat} {Q Q' : Int32 → Mem → Prop} {X X' : Mem → Prop} {M0 : Mem} (hQ : ∀ z0 z1, K1 M0 z1 → Q z0 z1 → Q' z0 z1) (hX : ∀ z0, K1 M0 z0 → X z0 → X' z0) : ∀ (n : Nat) (v1 : Int32) (v2 : Int32) (v3 : Int32) (v4 : Int32) (M : Mem), K1 M0 M → w_Works_isNeedless_L19 this Q X n v1 v2 v3 v4 M → w_Works_isNeedless_L19 this Q' X' n v1 v2 v3 v4 M
  | 0, _, _, _, _, _ => fun _ h => h
  | n + 1, v1, v2, v3, v4, M => fun hf => by
    unfold w_Works_isNeedless_L19
    exact (mf_ite (mc_w_Works_isNeedless_j60 hQ hX hf) (mf_ite (mf_ite (mc_w_Works_isNeedless_j52 hQ hX (mc_w_Works_isNeedless_L19 hQ hX n) hf) (mc_w_Works_ruleMet (fun r21 M20 f1 => (mf_ite (mc_w_Works_isNeedless_j53 hQ hX (mc_w_Works_isNeedless_L19 hQ hX n) (K1.trans hf f1)) (mc_w_Works_isNeedless_j52 hQ hX (mc_w_Works_isNeedless_L19 hQ hX n) (K1.trans hf f1)))) (fun z3 f2 => hX z3 (K1.trans hf f2)))) (mc_w_Works_isNeedless_j60 hQ hX hf)))
set_option maxRecDepth 20000 in
theorem mc_w_Works_isNeedless_j15 {this : Nat} {Q Q' : Int32 → Mem → Prop} {X X' : Mem → Prop} {v1 : Int32} {v2 : Int32} {s0 : Int32} {M : Mem} {M0 : Mem} (hQ : ∀ z0 z1, K1 M0 z1 → Q z0 z1 → Q' z0 z1) (hX : ∀ z0, K1 M0 z0 → X z0 → X' z0) : K1 M0 M → w_Works_isNeedless_j15 this Q X v1 v2 s0 M → w_Works_isNeedless_j15 this Q' X' v1 v2 s0 M := by
  intro hf
  unfold w_Works_isNeedless_j15
  exact (Exists.imp fun n23 => (mc_w_Works_isNeedless_L19 hQ hX _ _ _ _ _ _ hf))
set_option maxRecDepth 20000 in
theorem mc_w_Works_isNeedless {this : Nat} {a1 : Int32} {Q Q' : Int32 → Mem → Prop} {X X' : Mem → Prop} {M : Mem} (hQ : ∀ z0 z1, K1 M z1 → Q z0 z1 → Q' z0 z1) (hX : ∀ z0, K1 M z0 → X z0 → X' z0) : w_Works_isNeedless this a1 Q X M → w_Works_isNeedless this a1 Q' X' M := by
  unfold w_Works_isNeedless
  exact (mc_w_Works_ruleMet (fun r2 M1 f1 => (mf_ite (mc_w_Works_isNeedless_j15 hQ hX (K1.trans (K1.rf M) f1)) (mc_w_Works_isNeedless_j15 hQ hX (K1.trans (K1.rf M) f1)))) (fun z3 f2 => hX z3 (K1.trans (K1.rf M) f2)))
set_option maxRecDepth 20000 in
theorem mc_w_Works_least_j24 {this : Nat} {Q Q' : Int32 → Mem → Prop} {X X' : Mem → Prop} {k7 k7' : Int32 → Mem → Prop} {v1 : Int32} {M : Mem} {M0 : Mem} (hQ : ∀ z0 z1, K1 M0 z1 → Q z0 z1 → Q' z0 z1) (hX : ∀ z0, K1 M0 z0 → X z0 → X' z0) (hk7 : ∀ z0 z1, K1 M0 z1 → k7 z0 z1 → k7' z0 z1) : K1 M0 M → w_Works_least_j24 this Q X k7 v1 M → w_Works_least_j24 this Q' X' k7' v1 M := by
  intro hf
  unfold w_Works_least_j24
  exact (hk7 _ _ hf)
set_option maxRecDepth 20000 in
theorem mc_w_Works_least_L7 {this : Nat} {Q Q' : Int32 → Mem → Prop} {X X' : Mem → Prop} {M0 : Mem} (hQ : ∀ z0 z1, K1 M0 z1 → Q z0 z1 → Q' z0 z1) (hX : ∀ z0, K1 M0 z0 → X z0 → X' z0) : ∀ (n : Nat) (v1 : Int32) (M : Mem), K1 M0 M → w_Works_least_L7 this Q X n v1 M → w_Works_least_L7 this Q' X' n v1 M
  | 0, _, _ => fun _ h => h
  | n + 1, v1, M => fun hf => by
    unfold w_Works_least_L7
    exact (mf_ite (hQ _ _ hf) (mc_w_Works_isNeedless (fun r3 M2 f1 => (mf_ite (mc_w_Works_least_j24 hQ hX (mc_w_Works_least_L7 hQ hX n) (K1.trans hf f1)) (mf_w_Works_remove (fun M5 f2 => (mc_w_Works_least_j24 hQ hX (mc_w_Works_least_L7 hQ hX n) (K1.trans (K1.trans hf f1) (K1.fr f2 rfl))))))) (fun z4 f3 => hX z4 (K1.trans hf f3))))
set_option maxRecDepth 20000 in
theorem mc_w_Works_least {this : Nat} {Q Q' : Int32 → Mem → Prop} {X X' : Mem → Prop} {M : Mem} (hQ : ∀ z0 z1, K1 M z1 → Q z0 z1 → Q' z0 z1) (hX : ∀ z0, K1 M z0 → X z0 → X' z0) : w_Works_least this Q X M → w_Works_least this Q' X' M := by
  unfold w_Works_least
  exact (Exists.imp fun n6 => (mc_w_Works_least_L7 hQ hX _ _ _ (K1.rf M)))
set_option maxRecDepth 20000 in
theorem mc_w_Works_shrink_j283 {this : Nat} {Q Q' : Int32 → Mem → Prop} {X X' : Mem → Prop} {k104 k104' : Int32 → Int32 → Int32 → Int32 → Int32 → Int32 → Nat → Int32 → Int32 → Int32 → Mem → Prop} {v1 : Int32} {v2 : Int32} {v3 : Int32} {v4 : Int32} {v5 : Int32} {v6 : Int32} {v7 : Nat} {v8 : Int32} {v10 : Int32} {v11 : Int32} {M : Mem} {M0 : Mem} (hQ : ∀ z0 z1, K1 M0 z1 → Q z0 z1 → Q' z0 z1) (hX : ∀ z0, K1 M0 z0 → X z0 → X' z0) (hk104 : ∀ z0 z1 z2 z3 z4 z5 z6 z7 z8 z9 z10, K1 M0 z10 → k104 z0 z1 z2 z3 z4 z5 z6 z7 z8 z9 z10 → k104' z0 z1 z2 z3 z4 z5 z6 z7 z8 z9 z10) : K1 M0 M → w_Works_shrink_j283 this Q X k104 v1 v2 v3 v4 v5 v6 v7 v8 v10 v11 M → w_Works_shrink_j283 this Q' X' k104' v1 v2 v3 v4 v5 v6 v7 v8 v10 v11 M := by
  intro hf
  unfold w_Works_shrink_j283
  exact (hk104 _ _ _ _ _ _ _ _ _ _ _ hf)
set_option maxRecDepth 20000 in
theorem mc_w_Works_shrink_j255 {this : Nat} {Q Q' : Int32 → Mem → Prop} {X X' : Mem → Prop} {k104 k104' : Int32 → Int32 → Int32 → Int32 → Int32 → Int32 → Nat → Int32 → Int32 → Int32 → Mem → Prop} {v1 : Int32} {v2 : Int32} {v3 : Int32} {v4 : Int32} {v5 : Int32} {v6 : Int32} {v7 : Nat} {v8 : Int32} {v10 : Int32} {v11 : Int32} {v12 : Int32} {v13 : Int32} {M : Mem} {M0 : Mem} (hQ : ∀ z0 z1, K1 M0 z1 → Q z0 z1 → Q' z0 z1) (hX : ∀ z0, K1 M0 z0 → X z0 → X' z0) (hk104 : ∀ z0 z1 z2 z3 z4 z5 z6 z7 z8 z9 z10, K1 M0 z10 → k104 z0 z1 z2 z3 z4 z5 z6 z7 z8 z9 z10 → k104' z0 z1 z2 z3 z4 z5 z6 z7 z8 z9 z10) : K1 M0 M → w_Works_shrink_j255 this Q X k104 v1 v2 v3 v4 v5 v6 v7 v8 v10 v11 v12 v13 M → w_Works_shrink_j255 this Q' X' k104' v1 v2 v3 v4 v5 v6 v7 v8 v10 v11 v12 v13 M := by
  intro hf
  unfold w_Works_shrink_j255
  exact (mf_ite (mc_w_Works_shrink_j283 hQ hX hk104 hf) (mf_and fun _ => (mf_and fun _ => (mf_and fun _ => (mf_and fun _ => (mf_and fun _ => (Exists.imp fun M34 => (mf_and fun e1 => (mc_w_Works_shrink_j283 hQ hX hk104 (K1.of e1 (K1.wc0 rfl hf)))))))))))
set_option maxRecDepth 20000 in
theorem mc_w_Works_shrink_j253 {this : Nat} {Q Q' : Int32 → Mem → Prop} {X X' : Mem → Prop} {k104 k104' : Int32 → Int32 → Int32 → Int32 → Int32 → Int32 → Nat → Int32 → Int32 → Int32 → Mem → Prop} {v1 : Int32} {v2 : Int32} {v3 : Int32} {v4 : Int32} {v5 : Int32} {v6 : Int32} {v7 : Nat} {v8 : Int32} {v10 : Int32} {v11 : Int32} {v12 : Int32} {s0 : Int32} {M : Mem} {M0 : Mem} (hQ : ∀ z0 z1, K1 M0 z1 → Q z0 z1 → Q' z0 z1) (hX : ∀ z0, K1 M0 z0 → X z0 → X' z0) (hk104 : ∀ z0 z1 z2 z3 z4 z5 z6 z7 z8 z9 z10, K1 M0 z10 → k104 z0 z1 z2 z3 z4 z5 z6 z7 z8 z9 z10 → k104' z0 z1 z2 z3 z4 z5 z6 z7 z8 z9 z10) : K1 M0 M → w_Works_shrink_j253 this Q X k104 v1 v2 v3 v4 v5 v6 v7 v8 v10 v11 v12 s0 M → w_Works_shrink_j253 this Q' X' k104' v1 v2 v3 v4 v5 v6 v7 v8 v10 v11 v12 s0 M := by
  intro hf
  unfold w_Works_shrink_j253
  exact (mc_w_Works_shrink_j255 hQ hX hk104 hf)
set_option maxRecDepth 20000 in
theorem mc_w_Works_shrink_j252 {this : Nat} {Q Q' : Int32 → Mem → Prop} {X X' : Mem → Prop} {k104 k104' : Int32 → Int32 → Int32 → Int32 → Int32 → Int32 → Nat → Int32 → Int32 → Int32 → Mem → Prop} {v1 : Int32} {v2 : Int32} {v3 : Int32} {v4 : Int32} {v5 : Int32} {v6 : Int32} {v7 : Nat} {v8 : Int32} {v10 : Int32} {v11 : Int32} {v12 : Int32} {M : Mem} {M0 : Mem} (hQ : ∀ z0 z1, K1 M0 z1 → Q z0 z1 → Q' z0 z1) (hX : ∀ z0, K1 M0 z0 → X z0 → X' z0) (hk104 : ∀ z0 z1 z2 z3 z4 z5 z6 z7 z8 z9 z10, K1 M0 z10 → k104 z0 z1 z2 z3 z4 z5 z6 z7 z8 z9 z10 → k104' z0 z1 z2 z3 z4 z5 z6 z7 z8 z9 z10) : K1 M0 M → w_Works_shrink_j252 this Q X k104 v1 v2 v3 v4 v5 v6 v7 v8 v10 v11 v12 M → w_Works_shrink_j252 this Q' X' k104' v1 v2 v3 v4 v5 v6 v7 v8 v10 v11 v12 M := by
  intro hf
  unfold w_Works_shrink_j252
  exact (mc_w_Works_shrink_j253 hQ hX hk104 hf)
set_option maxRecDepth 20000 in
theorem mc_w_Works_shrink_j212 {this : Nat} {Q Q' : Int32 → Mem → Prop} {X X' : Mem → Prop} {k104 k104' : Int32 → Int32 → Int32 → Int32 → Int32 → Int32 → Nat → Int32 → Int32 → Int32 → Mem → Prop} {v1 : Int32} {v2 : Int32} {v3 : Int32} {v4 : Int32} {v5 : Int32} {v6 : Int32} {v7 : Nat} {v8 : Int32} {v10 : Int32} {v11 : Int32} {v12 : Int32} {s0 : Int32} {M : Mem} {M0 : Mem} (hQ : ∀ z0 z1, K1 M0 z1 → Q z0 z1 → Q' z0 z1) (hX : ∀ z0, K1 M0 z0 → X z0 → X' z0) (hk104 : ∀ z0 z1 z2 z3 z4 z5 z6 z7 z8 z9 z10, K1 M0 z10 → k104 z0 z1 z2 z3 z4 z5 z6 z7 z8 z9 z10 → k104' z0 z1 z2 z3 z4 z5 z6 z7 z8 z9 z10) : K1 M0 M → w_Works_shrink_j212 this Q X k104 v1 v2 v3 v4 v5 v6 v7 v8 v10 v11 v12 s0 M → w_Works_shrink_j212 this Q' X' k104' v1 v2 v3 v4 v5 v6 v7 v8 v10 v11 v12 s0 M := by
  intro hf
  unfold w_Works_shrink_j212
  exact (mf_ite (mc_w_Works_shrink_j255 hQ hX hk104 hf) (mc_w_Works_work1 (fun M40 f1 => (mf_ite (mf_ite (mc_w_Works_shrink_j253 hQ hX hk104 (K1.trans hf f1)) (mc_w_Works_shrink_j252 hQ hX hk104 (K1.trans hf f1))) (mc_w_Works_shrink_j252 hQ hX hk104 (K1.trans hf f1)))) (fun z3 f2 => hX z3 (K1.trans hf f2))))
set_option maxRecDepth 20000 in
theorem mc_w_Works_shrink_j211 {this : Nat} {Q Q' : Int32 → Mem → Prop} {X X' : Mem → Prop} {k104 k104' : Int32 → Int32 → Int32 → Int32 → Int32 → Int32 → Nat → Int32 → Int32 → Int32 → Mem → Prop} {v1 : Int32} {v2 : Int32} {v3 : Int32} {v4 : Int32} {v5 : Int32} {v6 : Int32} {v7 : Nat} {v8 : Int32} {v10 : Int32} {v11 : Int32} {v12 : Int32} {M : Mem} {M0 : Mem} (hQ : ∀ z0 z1, K1 M0 z1 → Q z0 z1 → Q' z0 z1) (hX : ∀ z0, K1 M0 z0 → X z0 → X' z0) (hk104 : ∀ z0 z1 z2 z3 z4 z5 z6 z7 z8 z9 z10, K1 M0 z10 → k104 z0 z1 z2 z3 z4 z5 z6 z7 z8 z9 z10 → k104' z0 z1 z2 z3 z4 z5 z6 z7 z8 z9 z10) : K1 M0 M → w_Works_shrink_j211 this Q X k104 v1 v2 v3 v4 v5 v6 v7 v8 v10 v11 v12 M → w_Works_shrink_j211 this Q' X' k104' v1 v2 v3 v4 v5 v6 v7 v8 v10 v11 v12 M := by
  intro hf
  unfold w_Works_shrink_j211
  exact (mc_w_Works_shrink_j212 hQ hX hk104 hf)
set_option maxRecDepth 20000 in
theorem mc_w_Works_shrink_j138 {this : Nat} {Q Q' : Int32 → Mem → Prop} {X X' : Mem → Prop} {k104 k104' : Int32 → Int32 → Int32 → Int32 → Int32 → Int32 → Nat → Int32 → Int32 → Int32 → Mem → Prop} {v1 : Int32} {v2 : Int32} {v3 : Int32} {v4 : Int32} {v5 : Int32} {v6 : Int32} {v7 : Nat} {v8 : Int32} {v9 : Int32} {v10 : Int32} {v11 : Int32} {M : Mem} {M0 : Mem} (hQ : ∀ z0 z1, K1 M0 z1 → Q z0 z1 → Q' z0 z1) (hX : ∀ z0, K1 M0 z0 → X z0 → X' z0) (hk104 : ∀ z0 z1 z2 z3 z4 z5 z6 z7 z8 z9 z10, K1 M0 z10 → k104 z0 z1 z2 z3 z4 z5 z6 z7 z8 z9 z10 → k104' z0 z1 z2 z3 z4 z5 z6 z7 z8 z9 z10) : K1 M0 M → w_Works_shrink_j138 this Q X k104 v1 v2 v3 v4 v5 v6 v7 v8 v9 v10 v11 M → w_Works_shrink_j138 this Q' X' k104' v1 v2 v3 v4 v5 v6 v7 v8 v9 v10 v11 M := by
  intro hf
  unfold w_Works_shrink_j138
  exact (mf_and fun _ => (mf_and fun _ => (mf_and fun _ => (mf_and fun _ => (mf_and fun _ => (Exists.imp fun M17 => (mf_and fun e1 => (mf_and fun _ => (mf_and fun _ => (mf_and fun _ => (mf_and fun _ => (mf_and fun _ => (Exists.imp fun M23 => (mf_and fun e2 => (mc_w_Works_work1 (fun M29 f3 => (mf_ite (mf_ite (mc_w_Works_shrink_j212 hQ hX hk104 (K1.trans (K1.of e2 (K1.wc0 rfl (K1.of e1 (K1.wc0 rfl hf)))) f3)) (mc_w_Works_shrink_j211 hQ hX hk104 (K1.trans (K1.of e2 (K1.wc0 rfl (K1.of e1 (K1.wc0 rfl hf)))) f3))) (mc_w_Works_shrink_j211 hQ hX hk104 (K1.trans (K1.of e2 (K1.wc0 rfl (K1.of e1 (K1.wc0 rfl hf)))) f3)))) (fun z5 f4 => hX z5 (K1.trans (K1.of e2 (K1.wc0 rfl (K1.of e1 (K1.wc0 rfl hf)))) f4)))))))))))))))))
set_option maxRecDepth 20000 in
theorem mc_w_Works_shrink_L115 {this : Nat} {Q Q' : Int32 → Mem → Prop} {X X' : Mem → Prop} {k104 k104' : Int32 → Int32 → Int32 → Int32 → Int32 → Int32 → Nat → Int32 → Int32 → Int32 → Mem → Prop} {M0 : Mem} (hQ : ∀ z0 z1, K1 M0 z1 → Q z0 z1 → Q' z0 z1) (hX : ∀ z0, K1 M0 z0 → X z0 → X' z0) (hk104 : ∀ z0 z1 z2 z3 z4 z5 z6 z7 z8 z9 z10, K1 M0 z10 → k104 z0 z1 z2 z3 z4 z5 z6 z7 z8 z9 z10 → k104' z0 z1 z2 z3 z4 z5 z6 z7 z8 z9 z10) : ∀ (n : Nat) (v1 : Int32) (v2 : Int32) (v3 : Int32) (v4 : Int32) (v5 : Int32) (v6 : Int32) (v7 : Nat) (v8 : Int32) (v9 : Int32) (v10 : Int32) (v11 : Int32) (M : Mem), K1 M0 M → w_Works_shrink_L115 this Q X k104 n v1 v2 v3 v4 v5 v6 v7 v8 v9 v10 v11 M → w_Works_shrink_L115 this Q' X' k104' n v1 v2 v3 v4 v5 v6 v7 v8 v9 v10 v11 M
  | 0, _, _, _, _, _, _, _, _, _, _, _, _ => fun _ h => h
  | n + 1, v1, v2, v3, v4, v5, v6, v7, v8, v9, v10, v11, M => fun hf => by
    unfold w_Works_shrink_L115
    exact (mf_ite (mc_w_Works_shrink_j138 hQ hX hk104 hf) (mf_and fun _ => (mf_ite (mc_w_Works_shrink_j138 hQ hX hk104 hf) (mc_w_Works_shrink_L115 hQ hX hk104 _ _ _ _ _ _ _ _ _ _ _ _ _ hf))))
set_option maxRecDepth 20000 in
theorem mc_w_Works_shrink_L104 {this : Nat} {Q Q' : Int32 → Mem → Prop} {X X' : Mem → Prop} {M0 : Mem} (hQ : ∀ z0 z1, K1 M0 z1 → Q z0 z1 → Q' z0 z1) (hX : ∀ z0, K1 M0 z0 → X z0 → X' z0) : ∀ (n : Nat) (v1 : Int32) (v2 : Int32) (v3 : Int32) (v4 : Int32) (v5 : Int32) (v6 : Int32) (v7 : Nat) (v8 : Int32) (v9 : Int32) (v10 : Int32) (M : Mem), K1 M0 M → w_Works_shrink_L104 this Q X n v1 v2 v3 v4 v5 v6 v7 v8 v9 v10 M → w_Works_shrink_L104 this Q' X' n v1 v2 v3 v4 v5 v6 v7 v8 v9 v10 M
  | 0, _, _, _, _, _, _, _, _, _, _, _ => fun _ h => h
  | n + 1, v1, v2, v3, v4, v5, v6, v7, v8, v9, v10, M => fun hf => by
    unfold w_Works_shrink_L104
    exact (mf_ite (mf_and fun _ => (mf_w_Works_forget (fun M15 f1 => (hQ _ _ (K1.trans (K1.wI0a rfl hf) (K1.fr f1 rfl)))))) (Exists.imp fun n45 => (mc_w_Works_shrink_L115 hQ hX (mc_w_Works_shrink_L104 hQ hX n) _ _ _ _ _ _ _ _ _ _ _ _ _ hf)))
set_option maxRecDepth 20000 in
theorem mc_w_Works_shrink_j101 {this : Nat} {Q Q' : Int32 → Mem → Prop} {X X' : Mem → Prop} {v1 : Int32} {v2 : Int32} {v3 : Int32} {v4 : Int32} {v5 : Int32} {v6 : Int32} {v7 : Nat} {v8 : Int32} {v9 : Int32} {M : Mem} {M0 : Mem} (hQ : ∀ z0 z1, K1 M0 z1 → Q z0 z1 → Q' z0 z1) (hX : ∀ z0, K1 M0 z0 → X z0 → X' z0) : K1 M0 M → w_Works_shrink_j101 this Q X v1 v2 v3 v4 v5 v6 v7 v8 v9 M → w_Works_shrink_j101 this Q' X' v1 v2 v3 v4 v5 v6 v7 v8 v9 M := by
  intro hf
  unfold w_Works_shrink_j101
  exact (Exists.imp fun n46 => (mc_w_Works_shrink_L104 hQ hX _ _ _ _ _ _ _ _ _ _ _ _ hf))
set_option maxRecDepth 20000 in
theorem mc_w_Works_shrink_L78 {this : Nat} {Q Q' : Int32 → Mem → Prop} {X X' : Mem → Prop} {M0 : Mem} (hQ : ∀ z0 z1, K1 M0 z1 → Q z0 z1 → Q' z0 z1) (hX : ∀ z0, K1 M0 z0 → X z0 → X' z0) : ∀ (n : Nat) (v1 : Int32) (v2 : Int32) (v3 : Int32) (v4 : Int32) (v5 : Int32) (v6 : Int32) (v7 : Nat) (v8 : Int32) (v9 : Int32) (M : Mem), K1 M0 M → w_Works_shrink_L78 this Q X n v1 v2 v3 v4 v5 v6 v7 v8 v9 M → w_Works_shrink_L78 this Q' X' n v1 v2 v3 v4 v5 v6 v7 v8 v9 M
  | 0, _, _, _, _, _, _, _, _, _, _ => fun _ h => h
  | n + 1, v1, v2, v3, v4, v5, v6, v7, v8, v9, M => fun hf => by
    unfold w_Works_shrink_L78
    exact (mf_ite (mc_w_Works_shrink_j101 hQ hX hf) (mf_and fun _ => (mf_ite (mc_w_Works_shrink_j101 hQ hX hf) (mc_w_Works_shrink_L78 hQ hX _ _ _ _ _ _ _ _ _ _ _ hf))))
set_option maxRecDepth 20000 in
theorem mc_w_Works_shrink {this : Nat} {a1 : Int32} {a2 : Int32} {Q Q' : Int32 → Mem → Prop} {X X' : Mem → Prop} {M : Mem} (hQ : ∀ z0 z1, K1 M z1 → Q z0 z1 → Q' z0 z1) (hX : ∀ z0, K1 M z0 → X z0 → X' z0) : w_Works_shrink this a1 a2 Q X M → w_Works_shrink this a1 a2 Q' X' M := by
  unfold w_Works_shrink
  exact (mf_w_Works_isTrial (fun r2 M1 f1 => (mf_ite (hQ _ _ (K1.trans (K1.rf M) (K1.fr f1 rfl))) (mf_w_Works_isIn (fun r5 M4 f2 => (mf_ite (hQ _ _ (K1.trans (K1.trans (K1.rf M) (K1.fr f1 rfl)) (K1.fr f2 rfl))) (mc_w_Works_work2 (fun M7 f3 => (mc_w_Works_work2 (fun M8 f4 => (mf_and fun _ => (Exists.imp fun i10 => (mf_and fun _ => (mf_and fun _ => (Exists.imp fun n49 => (mc_w_Works_shrink_L78 hQ hX _ _ _ _ _ _ _ _ _ _ _ (K1.trans (K1.trans (K1.trans (K1.trans (K1.rf M) (K1.fr f1 rfl)) (K1.fr f2 rfl)) f3) f4)))))))) (fun z6 f5 => hX z6 (K1.trans (K1.trans (K1.trans (K1.trans (K1.rf M) (K1.fr f1 rfl)) (K1.fr f2 rfl)) f3) f5)))) (fun z8 f7 => hX z8 (K1.trans (K1.trans (K1.trans (K1.rf M) (K1.fr f1 rfl)) (K1.fr f2 rfl)) f7)))))))))
