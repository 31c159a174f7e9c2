/-! B: the twin's tape stays as it was while trials are worked out: printed by ck4.py -/
def k402 (f _k : Nat) : Bool := Nat.beq f 402
def K4 (M M' : Mem) : Prop := ∀ f k, k402 f k = true → mI M' f 1 k = mI M f 1 k
theorem K4.rf (M : Mem) : K4 M M := fun _ _ _ => rfl
theorem K4.trans {M M1 M2 : Mem} (h : K4 M M1) (h1 : K4 M1 M2) : K4 M M2 := fun f k e => (h1 f k e).trans (h f k e)
theorem K4.of {M M1 M2 : Mem} (e : M2 = M1) (h : K4 M M1) : K4 M M2 := e ▸ h
theorem K4.fr {S : Nat} {M M' : Mem} (h : Fr S M M') (e : S &&& 10328999512347634358623676688012047497318823171316894051322637426162590488067364778518581413120551325743612687890989973504 = 0) : K4 M M' := fun f k q => by
  refine (h.1 f k ?_ 1).1
  have t : ∀ b, (10328999512347634358623676688012047497318823171316894051322637426162590488067364778518581413120551325743612687890989973504 : Nat).testBit b = true → S.testBit b = false := fun b hb => by
    have z : (S &&& 10328999512347634358623676688012047497318823171316894051322637426162590488067364778518581413120551325743612687890989973504).testBit b = false := by rw [e]; exact Nat.zero_testBit b
    rw [Nat.testBit_and, hb, Bool.and_true] at z; exact z
  rw [Nat.eq_of_beq_eq_true q, cd_a rfl]
  exact t 402 (by decide)
theorem K4.wJ {M M1 : Mem} {f i k : Nat} {v : Int64} (h : K4 M M1) : K4 M (sJ M1 f i k v) := h
theorem K4.wR {M M1 : Mem} {f i k : Nat} {v : Option (Nat × Nat)} (h : K4 M M1) : K4 M (sR M1 f i k v) := h
theorem K4.wI0 {M M1 : Mem} {f i k : Nat} {v : Int32} (e : k402 f k = false) (h : K4 M M1) : K4 M (sI M1 f i k v) := h.trans (fun g j q => if_neg (fun z => by rw [z.1, z.2.2, e] at q; cases q))
theorem k402_big {f k : Nat} (e : (Nat.ble 20 f && !(k402 f 0)) = true) : k402 f k = false := by
  obtain ⟨-, e2⟩ := (Bool.and_eq_true _ _).mp e
  unfold k402 at e2 ⊢
  rcases q : Nat.beq f 402 with _ | _
  · rfl
  · rw [q] at e2; cases e2
theorem K4.wI0a {M M1 : Mem} {f i k : Nat} {v : Int32} (e : (Nat.ble 20 f && !(k402 f 0)) = true) (h : K4 M M1) : K4 M (sI M1 f i k v) := h.wI0 (k402_big e)
theorem K4.wI1 {M M1 : Mem} {f i k : Nat} {v : Int32} (e : i ≠ 1) (h : K4 M M1) : K4 M (sI M1 f i k v) := h.trans (fun g j q => if_neg (fun z => e z.2.1.symm))
theorem K4.wf0 {M M1 : Mem} {f i : Nat} {v : Int32} (e : (Nat.ble 20 f && !(k402 f 0)) = true) (h : K4 M M1) : K4 M (flI M1 f i v) := h.trans (fun g j q => if_neg (fun z => by rw [z.1, k402_big e] at q; cases q))
theorem K4.wf1 {M M1 : Mem} {f i : Nat} {v : Int32} (e : i ≠ 1) (h : K4 M M1) : K4 M (flI M1 f i v) := h.trans (fun g j q => if_neg (fun z => e z.2.1.symm))
theorem K4.wmk {M M1 : Mem} {f i n : Nat} (e : (Nat.ble 20 f && !(k402 f 0)) = true) (h : K4 M M1) : K4 M (mk M1 f i n) := h.trans (fun g j q => if_neg (fun z => by rw [z.1, k402_big e] at q; cases q))
theorem K4.wc0 {M M1 : Mem} {f i sp g j dp n : Nat} (e : (Nat.ble 20 g && !(k402 g 0)) = true) (h : K4 M M1) : K4 M (cpI M1 f i sp g j dp n) := h.trans (fun x y q => if_neg (fun z => by rw [z.1, k402_big e] at q; cases q))
theorem K4.wc1 {M M1 : Mem} {f i sp g j dp n : Nat} (e : j ≠ 1) (h : K4 M M1) : K4 M (cpI M1 f i sp g j dp n) := h.trans (fun x y q => if_neg (fun z => e z.2.symm))
set_option maxRecDepth 20000 in
theorem mq_w_Model_trial_j229 {this : Nat} {Q Q' : Int32 → Mem → Prop} {s0 : Nat} {M : Mem} {M0 : Mem} (hQ : ∀ z0 z1, K4 M0 z1 → Q z0 z1 → Q' z0 z1) : K4 M0 M → w_Model_trial_j229 this Q s0 M → w_Model_trial_j229 this Q' s0 M := by
  intro hf
  unfold w_Model_trial_j229
  exact (hQ _ _ (K4.wI0 rfl hf))
set_option maxRecDepth 20000 in
theorem mq_w_Model_trial_j203 {this : Nat} {Q Q' : Int32 → Mem → Prop} {v2 : Int32} {v3 : Int32} {M : Mem} {M0 : Mem} (hQ : ∀ z0 z1, K4 M0 z1 → Q z0 z1 → Q' z0 z1) : K4 M0 M → w_Model_trial_j203 this Q v2 v3 M → w_Model_trial_j203 this Q' v2 v3 M := by
  intro hf
  unfold w_Model_trial_j203
  exact (mf_w_Model_cutLine (fun r8 M7 f1 => (mf_w_Model_needWord (fun M9 f2 => (mf_w_Model_callWords (fun M10 f3 => (mf_w_Model_keepDraft (fun r12 M11 f4 => (hQ _ _ (K4.trans (K4.trans (K4.trans (K4.trans hf (K4.fr f1 rfl)) (K4.fr f2 rfl)) (K4.fr f3 rfl)) (K4.fr f4 rfl)))))) (fun M13 f5 => (mq_w_Model_trial_j229 hQ (K4.trans (K4.trans (K4.trans hf (K4.fr f1 rfl)) (K4.fr f2 rfl)) (K4.fr f5 rfl)))))) (fun M14 f6 => (mq_w_Model_trial_j229 hQ (K4.trans (K4.trans hf (K4.fr f1 rfl)) (K4.fr f6 rfl)))))))
set_option maxRecDepth 20000 in
theorem mq_w_Model_trial_j157 {this : Nat} {Q Q' : Int32 → Mem → Prop} {k36 k36' : Int32 → Int32 → Int32 → Int32 → Mem → Prop} {v1 : Int32} {v2 : Int32} {v3 : Int32} {v5 : Int32} {M : Mem} {M0 : Mem} (hQ : ∀ z0 z1, K4 M0 z1 → Q z0 z1 → Q' z0 z1) (hk36 : ∀ z0 z1 z2 z3 z4, K4 M0 z4 → k36 z0 z1 z2 z3 z4 → k36' z0 z1 z2 z3 z4) : K4 M0 M → w_Model_trial_j157 this Q k36 v1 v2 v3 v5 M → w_Model_trial_j157 this Q' k36' v1 v2 v3 v5 M := by
  intro hf
  unfold w_Model_trial_j157
  exact (hk36 _ _ _ _ _ hf)
set_option maxRecDepth 20000 in
theorem mq_w_Model_trial_j76 {this : Nat} {Q Q' : Int32 → Mem → Prop} {k36 k36' : Int32 → Int32 → Int32 → Int32 → Mem → Prop} {v1 : Int32} {v2 : Int32} {v3 : Int32} {v4 : Int32} {v5 : Int32} {M : Mem} {M0 : Mem} (hQ : ∀ z0 z1, K4 M0 z1 → Q z0 z1 → Q' z0 z1) (hk36 : ∀ z0 z1 z2 z3 z4, K4 M0 z4 → k36 z0 z1 z2 z3 z4 → k36' z0 z1 z2 z3 z4) : K4 M0 M → w_Model_trial_j76 this Q k36 v1 v2 v3 v4 v5 M → w_Model_trial_j76 this Q' k36' v1 v2 v3 v4 v5 M := by
  intro hf
  unfold w_Model_trial_j76
  exact (mf_w_Model_cutLine (fun r18 M17 f1 => (mf_ite (mq_w_Model_trial_j157 hQ hk36 (K4.trans hf (K4.fr f1 rfl))) (mf_and fun _ => (mf_and fun _ => (mf_and fun _ => (mf_and fun _ => (mf_and fun _ => (Exists.imp fun M20 => (mf_and fun e2 => (mf_and fun _ => (Exists.imp fun M27 => (mf_and fun e3 => (mq_w_Model_trial_j157 hQ hk36 (K4.wI0 rfl (K4.of e3 (K4.wI1 (show (2 : Nat) ≠ 1 from by decide) (K4.wI0 rfl (K4.of e2 (K4.wc1 (show (2 : Nat) ≠ 1 from by decide) (K4.trans hf (K4.fr f1 rfl))))))))))))))))))))))
set_option maxRecDepth 20000 in
theorem mq_w_Model_trial_L49 {this : Nat} {Q Q' : Int32 → Mem → Prop} {k36 k36' : Int32 → Int32 → Int32 → Int32 → Mem → Prop} {M0 : Mem} (hQ : ∀ z0 z1, K4 M0 z1 → Q z0 z1 → Q' z0 z1) (hk36 : ∀ z0 z1 z2 z3 z4, K4 M0 z4 → k36 z0 z1 z2 z3 z4 → k36' z0 z1 z2 z3 z4) : ∀ (n : Nat) (v1 : Int32) (v2 : Int32) (v3 : Int32) (v4 : Int32) (v5 : Int32) (M : Mem), K4 M0 M → w_Model_trial_L49 this Q k36 n v1 v2 v3 v4 v5 M → w_Model_trial_L49 this Q' k36' n v1 v2 v3 v4 v5 M
  | 0, _, _, _, _, _, _ => fun _ h => h
  | n + 1, v1, v2, v3, v4, v5, M => fun hf => by
    unfold w_Model_trial_L49
    exact (mf_ite (mq_w_Model_trial_j76 hQ hk36 hf) (mf_and fun _ => (mf_ite (mq_w_Model_trial_j76 hQ hk36 hf) (mq_w_Model_trial_L49 hQ hk36 _ _ _ _ _ _ _ hf))))
set_option maxRecDepth 20000 in
theorem mq_w_Model_trial_L36 {this : Nat} {Q Q' : Int32 → Mem → Prop} {M0 : Mem} (hQ : ∀ z0 z1, K4 M0 z1 → Q z0 z1 → Q' z0 z1) : ∀ (n : Nat) (v1 : Int32) (v2 : Int32) (v3 : Int32) (v4 : Int32) (M : Mem), K4 M0 M → w_Model_trial_L36 this Q n v1 v2 v3 v4 M → w_Model_trial_L36 this Q' n v1 v2 v3 v4 M
  | 0, _, _, _, _, _ => fun _ h => h
  | n + 1, v1, v2, v3, v4, M => fun hf => by
    unfold w_Model_trial_L36
    exact (mf_ite (mf_ite (mf_ite (mf_w_Model_refuse (fun M6 f1 => (mq_w_Model_trial_j203 hQ (K4.trans (K4.wI0 rfl (K4.wI0 rfl hf)) (K4.fr f1 rfl)))) (fun M15 f2 => (mq_w_Model_trial_j229 hQ (K4.trans (K4.wI0 rfl (K4.wI0 rfl hf)) (K4.fr f2 rfl))))) (mq_w_Model_trial_j203 hQ (K4.wI0 rfl (K4.wI0 rfl hf)))) (hQ _ _ hf)) (Exists.imp fun n30 => (mq_w_Model_trial_L49 hQ (mq_w_Model_trial_L36 hQ n) _ _ _ _ _ _ _ hf)))
set_option maxRecDepth 20000 in
theorem mq_w_Model_trial {this : Nat} {Q Q' : Int32 → Mem → Prop} {M : Mem} (hQ : ∀ z0 z1, K4 M z1 → Q z0 z1 → Q' z0 z1) : w_Model_trial this Q M → w_Model_trial this Q' M := by
  unfold w_Model_trial
  exact (mf_ite (hQ _ _ (K4.rf M)) (mf_ite (Exists.imp fun n31 => (mq_w_Model_trial_L36 hQ _ _ _ _ _ _ (K4.wI0 rfl (K4.rf M)))) (hQ _ _ (K4.rf M))))
set_option maxRecDepth 20000 in
theorem mq_w_Model_draftTrial {this : Nat} {a1 : Int32} {Q Q' : Mem → Prop} {M : Mem} (hQ : ∀ z0, K4 M z0 → Q z0 → Q' z0) : w_Model_draftTrial this a1 Q M → w_Model_draftTrial this a1 Q' M := by
  unfold w_Model_draftTrial
  exact (mf_and fun _ => (mf_and fun _ => (mf_and fun _ => (mf_and fun _ => (mf_and fun _ => (mf_and fun _ => (Exists.imp fun M2 => (mf_and fun e1 => (hQ _ (K4.of e1 (K4.wc1 (show (2 : Nat) ≠ 1 from by decide) (K4.wI0 rfl (K4.rf M)))))))))))))
set_option maxRecDepth 20000 in
theorem mq_w_Model_outcome {this : Nat} {a1 : Int32} {a2 : Int32} {a3 : Int32} {Q Q' : Int32 → Mem → Prop} {X X' : Mem → Prop} {M : Mem} (hQ : ∀ z0 z1, K4 M z1 → Q z0 z1 → Q' z0 z1) (hX : ∀ z0, K4 M z0 → X z0 → X' z0) : w_Model_outcome this a1 a2 a3 Q X M → w_Model_outcome this a1 a2 a3 Q' X' M := by
  unfold w_Model_outcome
  exact (mf_w_Model_isTrial (fun r2 M1 f1 => (mf_ite (hQ _ _ (K4.trans (K4.rf M) (K4.fr f1 rfl))) (mf_ite (hQ _ _ (K4.trans (K4.rf M) (K4.fr f1 rfl))) (mf_ite (hQ _ _ (K4.trans (K4.rf M) (K4.fr f1 rfl))) (mf_ite (hQ _ _ (K4.trans (K4.rf M) (K4.fr f1 rfl))) (mf_ite (mq_w_Model_draftTrial (fun M8 f2 => (mf_w_Model_tryDraft (fun M9 f3 => (mf_ite (hQ _ _ (K4.trans (K4.trans (K4.trans (K4.rf M) (K4.fr f1 rfl)) f2) (K4.fr f3 rfl))) (hQ _ _ (K4.trans (K4.trans (K4.trans (K4.rf M) (K4.fr f1 rfl)) f2) (K4.fr f3 rfl))))) (fun z5 f4 => hX z5 (K4.trans (K4.trans (K4.trans (K4.rf M) (K4.fr f1 rfl)) f2) (K4.fr f4 rfl)))))) (hQ _ _ (K4.trans (K4.rf M) (K4.fr f1 rfl))))))))))
set_option maxRecDepth 20000 in
theorem mq_w_Model_look_j114 {this : Nat} {Q Q' : Mem → Prop} {X X' : Mem → Prop} {k68 k68' : Int32 → Int32 → Int32 → Int32 → Mem → Prop} {v1 : Int32} {v2 : Int32} {v3 : Int32} {v4 : Int32} {s0 : Int32} {s1 : Int32} {s2 : Int32} {M : Mem} {M0 : Mem} (hQ : ∀ z0, K4 M0 z0 → Q z0 → Q' z0) (hX : ∀ z0, K4 M0 z0 → X z0 → X' z0) (hk68 : ∀ z0 z1 z2 z3 z4, K4 M0 z4 → k68 z0 z1 z2 z3 z4 → k68' z0 z1 z2 z3 z4) : K4 M0 M → w_Model_look_j114 this Q X k68 v1 v2 v3 v4 s0 s1 s2 M → w_Model_look_j114 this Q' X' k68' v1 v2 v3 v4 s0 s1 s2 M := by
  intro hf
  unfold w_Model_look_j114
  exact (mf_and fun _ => (hk68 _ _ _ _ _ (K4.wI0a rfl hf)))
set_option maxRecDepth 20000 in
theorem mq_w_Model_look_j106 {this : Nat} {Q Q' : Mem → Prop} {X X' : Mem → Prop} {k68 k68' : Int32 → Int32 → Int32 → Int32 → Mem → Prop} {v1 : Int32} {v2 : Int32} {v3 : Int32} {v4 : Int32} {s0 : Int32} {s1 : Int32} {M : Mem} {M0 : Mem} (hQ : ∀ z0, K4 M0 z0 → Q z0 → Q' z0) (hX : ∀ z0, K4 M0 z0 → X z0 → X' z0) (hk68 : ∀ z0 z1 z2 z3 z4, K4 M0 z4 → k68 z0 z1 z2 z3 z4 → k68' z0 z1 z2 z3 z4) : K4 M0 M → w_Model_look_j106 this Q X k68 v1 v2 v3 v4 s0 s1 M → w_Model_look_j106 this Q' X' k68' v1 v2 v3 v4 s0 s1 M := by
  intro hf
  unfold w_Model_look_j106
  exact (mq_w_Model_look_j114 hQ hX hk68 hf)
set_option maxRecDepth 20000 in
theorem mq_w_Model_look_L68 {this : Nat} {Q Q' : Mem → Prop} {X X' : Mem → Prop} {M0 : Mem} (hQ : ∀ z0, K4 M0 z0 → Q z0 → Q' z0) (hX : ∀ z0, K4 M0 z0 → X z0 → X' z0) : ∀ (n : Nat) (v1 : Int32) (v2 : Int32) (v3 : Int32) (v4 : Int32) (M : Mem), K4 M0 M → w_Model_look_L68 this Q X n v1 v2 v3 v4 M → w_Model_look_L68 this Q' X' n v1 v2 v3 v4 M
  | 0, _, _, _, _, _ => fun _ h => h
  | n + 1, v1, v2, v3, v4, M => fun hf => by
    unfold w_Model_look_L68
    exact (mf_ite (mf_and fun _ => (hQ _ (K4.wI0a rfl hf))) (mf_w_Model_tryDraft (fun M11 f1 => (mf_and fun _ => (mf_ite (mf_ite (mq_w_Model_look_j114 hQ hX (mq_w_Model_look_L68 hQ hX n) (K4.trans hf (K4.fr f1 rfl))) (mq_w_Model_look_j106 hQ hX (mq_w_Model_look_L68 hQ hX n) (K4.trans hf (K4.fr f1 rfl)))) (mq_w_Model_look_j106 hQ hX (mq_w_Model_look_L68 hQ hX n) (K4.trans hf (K4.fr f1 rfl)))))) (fun z3 f2 => hX z3 (K4.trans hf (K4.fr f2 rfl)))))
set_option maxRecDepth 20000 in
theorem mq_w_Model_look_j57 {this : Nat} {Q Q' : Mem → Prop} {X X' : Mem → Prop} {v1 : Int32} {v2 : Int32} {v3 : Int32} {s0 : Int32} {s1 : Int32} {M : Mem} {M0 : Mem} (hQ : ∀ z0, K4 M0 z0 → Q z0 → Q' z0) (hX : ∀ z0, K4 M0 z0 → X z0 → X' z0) : K4 M0 M → w_Model_look_j57 this Q X v1 v2 v3 s0 s1 M → w_Model_look_j57 this Q' X' v1 v2 v3 s0 s1 M := by
  intro hf
  unfold w_Model_look_j57
  exact (mf_and fun _ => (mf_and fun _ => (Exists.imp fun M8 => (mf_and fun e1 => (Exists.imp fun n16 => (mq_w_Model_look_L68 hQ hX _ _ _ _ _ _ (K4.of e1 (K4.wI0a rfl (K4.wI0a rfl hf)))))))))
set_option maxRecDepth 20000 in
theorem mq_w_Model_look {this : Nat} {a1 : Int32} {Q Q' : Mem → Prop} {X X' : Mem → Prop} {M : Mem} (hQ : ∀ z0, K4 M z0 → Q z0 → Q' z0) (hX : ∀ z0, K4 M z0 → X z0 → X' z0) : w_Model_look this a1 Q X M → w_Model_look this a1 Q' X' M := by
  unfold w_Model_look
  exact (mf_and fun _ => (mf_ite (mq_w_Model_draftTrial (fun M3 f1 => (mf_w_Model_tryDraft (fun M4 f2 => (mf_ite (mq_w_Model_look_j57 hQ hX (K4.trans (K4.trans (K4.rf M) f1) (K4.fr f2 rfl))) (mf_ite (mf_and fun _ => (mq_w_Model_look_j57 hQ hX (K4.trans (K4.trans (K4.rf M) f1) (K4.fr f2 rfl)))) (mq_w_Model_look_j57 hQ hX (K4.trans (K4.trans (K4.rf M) f1) (K4.fr f2 rfl)))))) (fun z4 f3 => hX z4 (K4.trans (K4.trans (K4.rf M) f1) (K4.fr f3 rfl)))))) (hQ _ (K4.rf M))))
set_option maxRecDepth 20000 in
theorem mq_w_Model_meets {this : Nat} {a1 : Int32} {Q Q' : Int32 → Mem → Prop} {X X' : Mem → Prop} {M : Mem} (hQ : ∀ z0 z1, K4 M z1 → Q z0 z1 → Q' z0 z1) (hX : ∀ z0, K4 M z0 → X z0 → X' z0) : w_Model_meets this a1 Q X M → w_Model_meets this a1 Q' X' M := by
  unfold w_Model_meets
  exact (mf_w_Model_isTrial (fun r2 M1 f1 => (mf_ite (hQ _ _ (K4.trans (K4.rf M) (K4.fr f1 rfl))) (mq_w_Model_look (fun M4 f2 => (mf_and fun _ => (hQ _ _ (K4.trans (K4.trans (K4.rf M) (K4.fr f1 rfl)) f2)))) (fun z4 f3 => hX z4 (K4.trans (K4.trans (K4.rf M) (K4.fr f1 rfl)) f3))))))
set_option maxRecDepth 20000 in
theorem mq_w_Model_finds {this : Nat} {a1 : Int32} {a2 : Int32} {Q Q' : Int32 → Mem → Prop} {X X' : Mem → Prop} {M : Mem} (hQ : ∀ z0 z1, K4 M z1 → Q z0 z1 → Q' z0 z1) (hX : ∀ z0, K4 M z0 → X z0 → X' z0) : w_Model_finds this a1 a2 Q X M → w_Model_finds this a1 a2 Q' X' M := by
  unfold w_Model_finds
  exact (mf_w_Model_isTrial (fun r2 M1 f1 => (mf_ite (hQ _ _ (K4.trans (K4.rf M) (K4.fr f1 rfl))) (mf_ite (hQ _ _ (K4.trans (K4.rf M) (K4.fr f1 rfl))) (mf_ite (mq_w_Model_draftTrial (fun M6 f2 => (mf_w_Model_tryDraft (fun M7 f3 => (mf_w_Model_tryDraft (fun M8 f4 => (mf_ite (mf_ite (hQ _ _ (K4.trans (K4.trans (K4.trans (K4.trans (K4.rf M) (K4.fr f1 rfl)) f2) (K4.fr f3 rfl)) (K4.fr f4 rfl))) (hQ _ _ (K4.trans (K4.trans (K4.trans (K4.trans (K4.rf M) (K4.fr f1 rfl)) f2) (K4.fr f3 rfl)) (K4.fr f4 rfl)))) (hQ _ _ (K4.trans (K4.trans (K4.trans (K4.trans (K4.rf M) (K4.fr f1 rfl)) f2) (K4.fr f3 rfl)) (K4.fr f4 rfl))))) (fun z6 f5 => hX z6 (K4.trans (K4.trans (K4.trans (K4.trans (K4.rf M) (K4.fr f1 rfl)) f2) (K4.fr f3 rfl)) (K4.fr f5 rfl))))) (fun z8 f7 => hX z8 (K4.trans (K4.trans (K4.trans (K4.rf M) (K4.fr f1 rfl)) f2) (K4.fr f7 rfl)))))) (hQ _ _ (K4.trans (K4.rf M) (K4.fr f1 rfl))))))))
set_option maxRecDepth 20000 in
theorem mq_w_Model_hole_j87 {this : Nat} {Q Q' : Int32 → Mem → Prop} {X X' : Mem → Prop} {k50 k50' : Int64 → Int32 → Int32 → Mem → Prop} {v2 : Int64} {v4 : Int32} {v5 : Int32} {M : Mem} {M0 : Mem} (hQ : ∀ z0 z1, K4 M0 z1 → Q z0 z1 → Q' z0 z1) (hX : ∀ z0, K4 M0 z0 → X z0 → X' z0) (hk50 : ∀ z0 z1 z2 z3, K4 M0 z3 → k50 z0 z1 z2 z3 → k50' z0 z1 z2 z3) : K4 M0 M → w_Model_hole_j87 this Q X k50 v2 v4 v5 M → w_Model_hole_j87 this Q' X' k50' v2 v4 v5 M := by
  intro hf
  unfold w_Model_hole_j87
  exact (hk50 _ _ _ _ hf)
set_option maxRecDepth 20000 in
theorem mq_w_Model_hole_L50 {this : Nat} {Q Q' : Int32 → Mem → Prop} {X X' : Mem → Prop} {M0 : Mem} (hQ : ∀ z0 z1, K4 M0 z1 → Q z0 z1 → Q' z0 z1) (hX : ∀ z0, K4 M0 z0 → X z0 → X' z0) : ∀ (n : Nat) (v2 : Int64) (v4 : Int32) (v5 : Int32) (M : Mem), K4 M0 M → w_Model_hole_L50 this Q X n v2 v4 v5 M → w_Model_hole_L50 this Q' X' n v2 v4 v5 M
  | 0, _, _, _, _ => fun _ h => h
  | n + 1, v2, v4, v5, M => fun hf => by
    unfold w_Model_hole_L50
    exact (mf_ite (hQ _ _ hf) (mf_w_Model_isRule (fun r5 M4 f1 => (mf_ite (mq_w_Model_hole_j87 hQ hX (mq_w_Model_hole_L50 hQ hX n) (K4.trans hf (K4.fr f1 rfl))) (mf_ite (mf_ite (hQ _ _ (K4.trans hf (K4.fr f1 rfl))) (mq_w_Model_hole_j87 hQ hX (mq_w_Model_hole_L50 hQ hX n) (K4.trans hf (K4.fr f1 rfl)))) (mq_w_Model_hole_j87 hQ hX (mq_w_Model_hole_L50 hQ hX n) (K4.trans hf (K4.fr f1 rfl))))))))
set_option maxRecDepth 20000 in
theorem mq_w_Model_hole_L11 {this : Nat} {Q Q' : Int32 → Mem → Prop} {X X' : Mem → Prop} {M0 : Mem} (hQ : ∀ z0 z1, K4 M0 z1 → Q z0 z1 → Q' z0 z1) (hX : ∀ z0, K4 M0 z0 → X z0 → X' z0) : ∀ (n : Nat) (v1 : Int32) (v2 : Int64) (v4 : Int32) (M : Mem), K4 M0 M → w_Model_hole_L11 this Q X n v1 v2 v4 M → w_Model_hole_L11 this Q' X' n v1 v2 v4 M
  | 0, _, _, _, _ => fun _ h => h
  | n + 1, v1, v2, v4, M => fun hf => by
    unfold w_Model_hole_L11
    exact (mf_ite (Exists.imp fun n9 => (mq_w_Model_hole_L50 hQ hX _ _ _ _ _ hf)) (mq_w_Model_look (fun M10 f1 => (mf_and fun _ => (Exists.imp fun x12 => (mf_and fun _ => (mq_w_Model_hole_L11 hQ hX _ _ _ _ _ (K4.trans hf f1)))))) (fun z3 f2 => hX z3 (K4.trans hf f2))))
set_option maxRecDepth 20000 in
theorem mq_w_Model_hole {this : Nat} {a1 : Int32} {Q Q' : Int32 → Mem → Prop} {X X' : Mem → Prop} {M : Mem} (hQ : ∀ z0 z1, K4 M z1 → Q z0 z1 → Q' z0 z1) (hX : ∀ z0, K4 M z0 → X z0 → X' z0) : w_Model_hole this a1 Q X M → w_Model_hole this a1 Q' X' M := by
  unfold w_Model_hole
  exact (mf_ite (Exists.imp fun n13 => (mq_w_Model_hole_L11 hQ hX _ _ _ _ _ (K4.rf M))) (hQ _ _ (K4.rf M)))
set_option maxRecDepth 20000 in
theorem mq_w_Model_least_j187 {this : Nat} {Q Q' : Int32 → Mem → Prop} {X X' : Mem → Prop} {k45 k45' : Int64 → Int64 → Int32 → Mem → Prop} {v1 : Int64} {v3 : Int64} {v5 : Int32} {M : Mem} {M0 : Mem} (hQ : ∀ z0 z1, K4 M0 z1 → Q z0 z1 → Q' z0 z1) (hX : ∀ z0, K4 M0 z0 → X z0 → X' z0) (hk45 : ∀ z0 z1 z2 z3, K4 M0 z3 → k45 z0 z1 z2 z3 → k45' z0 z1 z2 z3) : K4 M0 M → w_Model_least_j187 this Q X k45 v1 v3 v5 M → w_Model_least_j187 this Q' X' k45' v1 v3 v5 M := by
  intro hf
  unfold w_Model_least_j187
  exact (hk45 _ _ _ _ hf)
set_option maxRecDepth 20000 in
theorem mq_w_Model_least_L78 {this : Nat} {Q Q' : Int32 → Mem → Prop} {X X' : Mem → Prop} {k45 k45' : Int64 → Int64 → Int32 → Mem → Prop} {M0 : Mem} (hQ : ∀ z0 z1, K4 M0 z1 → Q z0 z1 → Q' z0 z1) (hX : ∀ z0, K4 M0 z0 → X z0 → X' z0) (hk45 : ∀ z0 z1 z2 z3, K4 M0 z3 → k45 z0 z1 z2 z3 → k45' z0 z1 z2 z3) : ∀ (n : Nat) (v1 : Int64) (v3 : Int64) (v5 : Int32) (v6 : Int32) (M : Mem), K4 M0 M → w_Model_least_L78 this Q X k45 n v1 v3 v5 v6 M → w_Model_least_L78 this Q' X' k45' n v1 v3 v5 v6 M
  | 0, _, _, _, _, _ => fun _ h => h
  | n + 1, v1, v3, v5, v6, M => fun hf => by
    unfold w_Model_least_L78
    exact (mf_ite (mq_w_Model_least_j187 hQ hX hk45 (K4.wI0 rfl hf)) (mf_and fun _ => (mf_and fun _ => (mf_and fun _ => (mf_and fun _ => (mf_and fun _ => (mf_and fun _ => (Exists.imp fun M15 => (mf_and fun e1 => (mf_and fun _ => (mf_and fun _ => (Exists.imp fun M23 => (mf_and fun e2 => (mf_and fun _ => (mf_and fun _ => (Exists.imp fun M26 => (mf_and fun e3 => (mf_and fun _ => (mf_and fun _ => (Exists.imp fun M29 => (mf_and fun e4 => (mq_w_Model_least_L78 hQ hX hk45 _ _ _ _ _ _ (K4.of e4 (K4.wI0a rfl (K4.of e3 (K4.wI0a rfl (K4.of e2 (K4.wI0a rfl (K4.of e1 (K4.wc0 rfl hf))))))))))))))))))))))))))))))
set_option maxRecDepth 20000 in
theorem mq_w_Model_least_L45 {this : Nat} {Q Q' : Int32 → Mem → Prop} {X X' : Mem → Prop} {M0 : Mem} (hQ : ∀ z0 z1, K4 M0 z1 → Q z0 z1 → Q' z0 z1) (hX : ∀ z0, K4 M0 z0 → X z0 → X' z0) : ∀ (n : Nat) (v1 : Int64) (v3 : Int64) (v5 : Int32) (M : Mem), K4 M0 M → w_Model_least_L45 this Q X n v1 v3 v5 M → w_Model_least_L45 this Q' X' n v1 v3 v5 M
  | 0, _, _, _, _ => fun _ h => h
  | n + 1, v1, v3, v5, M => fun hf => by
    unfold w_Model_least_L45
    exact (mf_ite (hQ _ _ hf) (mf_w_Model_together (fun r8 M7 f1 => (mf_ite (mf_w_Model_together (fun r11 M10 f2 => (mf_ite (Exists.imp fun n30 => (mq_w_Model_least_L78 hQ hX (mq_w_Model_least_L45 hQ hX n) _ _ _ _ _ _ (K4.trans (K4.trans hf (K4.fr f1 rfl)) (K4.fr f2 rfl)))) (mq_w_Model_least_j187 hQ hX (mq_w_Model_least_L45 hQ hX n) (K4.trans (K4.trans hf (K4.fr f1 rfl)) (K4.fr f2 rfl)))))) (mq_w_Model_least_j187 hQ hX (mq_w_Model_least_L45 hQ hX n) (K4.trans hf (K4.fr f1 rfl)))))))
set_option maxRecDepth 20000 in
theorem mq_w_Model_least_L2 {this : Nat} {Q Q' : Int32 → Mem → Prop} {X X' : Mem → Prop} {M0 : Mem} (hQ : ∀ z0 z1, K4 M0 z1 → Q z0 z1 → Q' z0 z1) (hX : ∀ z0, K4 M0 z0 → X z0 → X' z0) : ∀ (n : Nat) (v1 : Int32) (M : Mem), K4 M0 M → w_Model_least_L2 this Q X n v1 M → w_Model_least_L2 this Q' X' n v1 M
  | 0, _, _ => fun _ h => h
  | n + 1, v1, M => fun hf => by
    unfold w_Model_least_L2
    exact (mf_ite (mf_w_Model_together (fun r3 M2 f1 => (mf_w_Model_together (fun r5 M4 f2 => (Exists.imp fun n31 => (mq_w_Model_least_L45 hQ hX _ _ _ _ _ (K4.trans (K4.trans hf (K4.fr f1 rfl)) (K4.fr f2 rfl)))))))) (mq_w_Model_look (fun M32 f3 => (mq_w_Model_least_L2 hQ hX _ _ _ (K4.trans hf f3))) (fun z5 f4 => hX z5 (K4.trans hf f4))))
set_option maxRecDepth 20000 in
theorem mq_w_Model_least {this : Nat} {Q Q' : Int32 → Mem → Prop} {X X' : Mem → Prop} {M : Mem} (hQ : ∀ z0 z1, K4 M z1 → Q z0 z1 → Q' z0 z1) (hX : ∀ z0, K4 M z0 → X z0 → X' z0) : w_Model_least this Q X M → w_Model_least this Q' X' M := by
  unfold w_Model_least
  exact (Exists.imp fun n33 => (mq_w_Model_least_L2 hQ hX _ _ _ (K4.rf M)))
set_option maxRecDepth 20000 in
theorem mq_w_Model_fewest_j214 {this : Nat} {Q Q' : Int32 → Mem → Prop} {X X' : Mem → Prop} {k64 k64' : Int32 → Int32 → Mem → Prop} {v1 : Int32} {v2 : Int32} {M : Mem} {M0 : Mem} (hQ : ∀ z0 z1, K4 M0 z1 → Q z0 z1 → Q' z0 z1) (hX : ∀ z0, K4 M0 z0 → X z0 → X' z0) (hk64 : ∀ z0 z1 z2, K4 M0 z2 → k64 z0 z1 z2 → k64' z0 z1 z2) : K4 M0 M → w_Model_fewest_j214 this Q X k64 v1 v2 M → w_Model_fewest_j214 this Q' X' k64' v1 v2 M := by
  intro hf
  unfold w_Model_fewest_j214
  exact (hk64 _ _ _ hf)
set_option maxRecDepth 20000 in
theorem mq_w_Model_fewest_j207 {this : Nat} {Q Q' : Int32 → Mem → Prop} {X X' : Mem → Prop} {k64 k64' : Int32 → Int32 → Mem → Prop} {k158 k158' : Int32 → Int32 → Int32 → Int32 → Mem → Prop} {v1 : Int32} {v2 : Int32} {v3 : Int32} {v4 : Int32} {s0 : Int32} {s1 : Int32} {M : Mem} {M0 : Mem} (hQ : ∀ z0 z1, K4 M0 z1 → Q z0 z1 → Q' z0 z1) (hX : ∀ z0, K4 M0 z0 → X z0 → X' z0) (hk64 : ∀ z0 z1 z2, K4 M0 z2 → k64 z0 z1 z2 → k64' z0 z1 z2) (hk158 : ∀ z0 z1 z2 z3 z4, K4 M0 z4 → k158 z0 z1 z2 z3 z4 → k158' z0 z1 z2 z3 z4) : K4 M0 M → w_Model_fewest_j207 this Q X k64 k158 v1 v2 v3 v4 s0 s1 M → w_Model_fewest_j207 this Q' X' k64' k158' v1 v2 v3 v4 s0 s1 M := by
  intro hf
  unfold w_Model_fewest_j207
  exact (mf_and fun _ => (hk158 _ _ _ _ _ (K4.wI0a rfl hf)))
set_option maxRecDepth 20000 in
theorem mq_w_Model_fewest_L158 {this : Nat} {Q Q' : Int32 → Mem → Prop} {X X' : Mem → Prop} {k64 k64' : Int32 → Int32 → Mem → Prop} {M0 : Mem} (hQ : ∀ z0 z1, K4 M0 z1 → Q z0 z1 → Q' z0 z1) (hX : ∀ z0, K4 M0 z0 → X z0 → X' z0) (hk64 : ∀ z0 z1 z2, K4 M0 z2 → k64 z0 z1 z2 → k64' z0 z1 z2) : ∀ (n : Nat) (v1 : Int32) (v2 : Int32) (v3 : Int32) (v4 : Int32) (M : Mem), K4 M0 M → w_Model_fewest_L158 this Q X k64 n v1 v2 v3 v4 M → w_Model_fewest_L158 this Q' X' k64' n v1 v2 v3 v4 M
  | 0, _, _, _, _, _ => fun _ h => h
  | n + 1, v1, v2, v3, v4, M => fun hf => by
    unfold w_Model_fewest_L158
    exact (mf_ite (mq_w_Model_fewest_j214 hQ hX hk64 hf) (mf_ite (mq_w_Model_fewest_j214 hQ hX hk64 hf) (mf_ite (mf_and fun _ => (mf_and fun _ => (mf_w_JMath_min (fun r15 M14 f1 => (mq_w_Model_fewest_j207 hQ hX hk64 (mq_w_Model_fewest_L158 hQ hX hk64 n) (K4.trans hf (K4.fr f1 rfl))))))) (mf_and fun _ => (mq_w_Model_fewest_j207 hQ hX hk64 (mq_w_Model_fewest_L158 hQ hX hk64 n) hf)))))
set_option maxRecDepth 20000 in
theorem mq_w_Model_fewest_j149 {this : Nat} {Q Q' : Int32 → Mem → Prop} {X X' : Mem → Prop} {k64 k64' : Int32 → Int32 → Mem → Prop} {k116 k116' : Int32 → Int32 → Int32 → Int32 → Mem → Prop} {v1 : Int32} {v2 : Int32} {v3 : Int32} {v4 : Int32} {M : Mem} {M0 : Mem} (hQ : ∀ z0 z1, K4 M0 z1 → Q z0 z1 → Q' z0 z1) (hX : ∀ z0, K4 M0 z0 → X z0 → X' z0) (hk64 : ∀ z0 z1 z2, K4 M0 z2 → k64 z0 z1 z2 → k64' z0 z1 z2) (hk116 : ∀ z0 z1 z2 z3 z4, K4 M0 z4 → k116 z0 z1 z2 z3 z4 → k116' z0 z1 z2 z3 z4) : K4 M0 M → w_Model_fewest_j149 this Q X k64 k116 v1 v2 v3 v4 M → w_Model_fewest_j149 this Q' X' k64' k116' v1 v2 v3 v4 M := by
  intro hf
  unfold w_Model_fewest_j149
  exact (hk116 _ _ _ _ _ hf)
set_option maxRecDepth 20000 in
theorem mq_w_Model_fewest_L116 {this : Nat} {Q Q' : Int32 → Mem → Prop} {X X' : Mem → Prop} {k64 k64' : Int32 → Int32 → Mem → Prop} {M0 : Mem} (hQ : ∀ z0 z1, K4 M0 z1 → Q z0 z1 → Q' z0 z1) (hX : ∀ z0, K4 M0 z0 → X z0 → X' z0) (hk64 : ∀ z0 z1 z2, K4 M0 z2 → k64 z0 z1 z2 → k64' z0 z1 z2) : ∀ (n : Nat) (v1 : Int32) (v2 : Int32) (v3 : Int32) (v4 : Int32) (M : Mem), K4 M0 M → w_Model_fewest_L116 this Q X k64 n v1 v2 v3 v4 M → w_Model_fewest_L116 this Q' X' k64' n v1 v2 v3 v4 M
  | 0, _, _, _, _, _ => fun _ h => h
  | n + 1, v1, v2, v3, v4, M => fun hf => by
    unfold w_Model_fewest_L116
    exact (mf_ite (Exists.imp fun n18 => (mq_w_Model_fewest_L158 hQ hX hk64 _ _ _ _ _ _ hf)) (mf_and fun _ => (mf_ite (mf_and fun _ => (mf_w_Model_addTrial (fun M22 f1 => (mq_w_Model_fewest_j149 hQ hX hk64 (mq_w_Model_fewest_L116 hQ hX hk64 n) (K4.trans hf (K4.fr f1 rfl)))))) (mq_w_Model_fewest_j149 hQ hX hk64 (mq_w_Model_fewest_L116 hQ hX hk64 n) hf))))
set_option maxRecDepth 20000 in
theorem mq_w_Model_fewest_L75 {this : Nat} {Q Q' : Int32 → Mem → Prop} {X X' : Mem → Prop} {k64 k64' : Int32 → Int32 → Mem → Prop} {M0 : Mem} (hQ : ∀ z0 z1, K4 M0 z1 → Q z0 z1 → Q' z0 z1) (hX : ∀ z0, K4 M0 z0 → X z0 → X' z0) (hk64 : ∀ z0 z1 z2, K4 M0 z2 → k64 z0 z1 z2 → k64' z0 z1 z2) : ∀ (n : Nat) (v1 : Int32) (v2 : Int32) (v3 : Int32) (v4 : Int32) (M : Mem), K4 M0 M → w_Model_fewest_L75 this Q X k64 n v1 v2 v3 v4 M → w_Model_fewest_L75 this Q' X' k64' n v1 v2 v3 v4 M
  | 0, _, _, _, _, _ => fun _ h => h
  | n + 1, v1, v2, v3, v4, M => fun hf => by
    unfold w_Model_fewest_L75
    exact (mf_ite (Exists.imp fun n23 => (mq_w_Model_fewest_L116 hQ hX hk64 _ _ _ _ _ _ hf)) (mf_and fun _ => (mf_and fun _ => (mf_and fun _ => (Exists.imp fun M27 => (mf_and fun e1 => (mq_w_Model_fewest_L75 hQ hX hk64 _ _ _ _ _ _ (K4.of e1 (K4.wI0a rfl (K4.wI0a rfl hf))))))))))
set_option maxRecDepth 20000 in
theorem mq_w_Model_fewest_L64 {this : Nat} {Q Q' : Int32 → Mem → Prop} {X X' : Mem → Prop} {M0 : Mem} (hQ : ∀ z0 z1, K4 M0 z1 → Q z0 z1 → Q' z0 z1) (hX : ∀ z0, K4 M0 z0 → X z0 → X' z0) : ∀ (n : Nat) (v1 : Int32) (v2 : Int32) (M : Mem), K4 M0 M → w_Model_fewest_L64 this Q X n v1 v2 M → w_Model_fewest_L64 this Q' X' n v1 v2 M
  | 0, _, _, _ => fun _ h => h
  | n + 1, v1, v2, M => fun hf => by
    unfold w_Model_fewest_L64
    exact (mf_ite (mf_and fun _ => (hQ _ _ hf)) (Exists.imp fun n28 => (mq_w_Model_fewest_L75 hQ hX (mq_w_Model_fewest_L64 hQ hX n) _ _ _ _ _ _ hf)))
set_option maxRecDepth 20000 in
theorem mq_w_Model_fewest_j55 {this : Nat} {Q Q' : Int32 → Mem → Prop} {X X' : Mem → Prop} {k32 k32' : Int32 → Int32 → Mem → Prop} {v1 : Int32} {v2 : Int32} {s0 : Int32} {s1 : Int32} {M : Mem} {M0 : Mem} (hQ : ∀ z0 z1, K4 M0 z1 → Q z0 z1 → Q' z0 z1) (hX : ∀ z0, K4 M0 z0 → X z0 → X' z0) (hk32 : ∀ z0 z1 z2, K4 M0 z2 → k32 z0 z1 z2 → k32' z0 z1 z2) : K4 M0 M → w_Model_fewest_j55 this Q X k32 v1 v2 s0 s1 M → w_Model_fewest_j55 this Q' X' k32' v1 v2 s0 s1 M := by
  intro hf
  unfold w_Model_fewest_j55
  exact (mf_and fun _ => (hk32 _ _ _ (K4.wI0a rfl hf)))
set_option maxRecDepth 20000 in
theorem mq_w_Model_fewest_L32 {this : Nat} {Q Q' : Int32 → Mem → Prop} {X X' : Mem → Prop} {M0 : Mem} (hQ : ∀ z0 z1, K4 M0 z1 → Q z0 z1 → Q' z0 z1) (hX : ∀ z0, K4 M0 z0 → X z0 → X' z0) : ∀ (n : Nat) (v1 : Int32) (v2 : Int32) (M : Mem), K4 M0 M → w_Model_fewest_L32 this Q X n v1 v2 M → w_Model_fewest_L32 this Q' X' n v1 v2 M
  | 0, _, _, _ => fun _ h => h
  | n + 1, v1, v2, M => fun hf => by
    unfold w_Model_fewest_L32
    exact (mf_ite (Exists.imp fun n29 => (mq_w_Model_fewest_L64 hQ hX _ _ _ _ hf)) (mf_ite (mq_w_Model_fewest_j55 hQ hX (mq_w_Model_fewest_L32 hQ hX n) hf) (mq_w_Model_fewest_j55 hQ hX (mq_w_Model_fewest_L32 hQ hX n) hf)))
set_option maxRecDepth 20000 in
theorem mq_w_Model_fewest_L2 {this : Nat} {Q Q' : Int32 → Mem → Prop} {X X' : Mem → Prop} {M0 : Mem} (hQ : ∀ z0 z1, K4 M0 z1 → Q z0 z1 → Q' z0 z1) (hX : ∀ z0, K4 M0 z0 → X z0 → X' z0) : ∀ (n : Nat) (v1 : Int32) (M : Mem), K4 M0 M → w_Model_fewest_L2 this Q X n v1 M → w_Model_fewest_L2 this Q' X' n v1 M
  | 0, _, _ => fun _ h => h
  | n + 1, v1, M => fun hf => by
    unfold w_Model_fewest_L2
    exact (mf_ite (mf_w_Model_together (fun r3 M2 f1 => (Exists.imp fun n32 => (mq_w_Model_fewest_L32 hQ hX _ _ _ _ (K4.trans hf (K4.fr f1 rfl)))))) (mq_w_Model_look (fun M33 f2 => (mq_w_Model_fewest_L2 hQ hX _ _ _ (K4.trans hf f2))) (fun z4 f3 => hX z4 (K4.trans hf f3))))
set_option maxRecDepth 20000 in
theorem mq_w_Model_fewest {this : Nat} {Q Q' : Int32 → Mem → Prop} {X X' : Mem → Prop} {M : Mem} (hQ : ∀ z0 z1, K4 M z1 → Q z0 z1 → Q' z0 z1) (hX : ∀ z0, K4 M z0 → X z0 → X' z0) : w_Model_fewest this Q X M → w_Model_fewest this Q' X' M := by
  unfold w_Model_fewest
  exact (Exists.imp fun n34 => (mq_w_Model_fewest_L2 hQ hX _ _ _ (K4.rf M)))
set_option maxRecDepth 20000 in
theorem mq_w_Model_draftLine {this : Nat} {a1 : Int32} {a2 : Int32} {Q Q' : Mem → Prop} {M : Mem} (hQ : ∀ z0, K4 M z0 → Q z0 → Q' z0) : w_Model_draftLine this a1 a2 Q M → w_Model_draftLine this a1 a2 Q' M := by
  unfold w_Model_draftLine
  exact (mf_and fun _ => (mf_and fun _ => (Exists.imp fun x3 => (mf_and fun _ => (mf_and fun _ => (mf_and fun _ => (mf_and fun _ => (mf_and fun _ => (mf_and fun _ => (mf_and fun _ => (Exists.imp fun M5 => (mf_and fun e1 => (hQ _ (K4.wI0 rfl (K4.of e1 (K4.wc1 (show (2 : Nat) ≠ 1 from by decide) (K4.rf M)))))))))))))))))
set_option maxRecDepth 20000 in
theorem mq_w_Model_shrink_j215 {this : Nat} {Q Q' : Int32 → Mem → Prop} {X X' : Mem → Prop} {k68 k68' : Int32 → Int32 → Int32 → Int32 → Int32 → Int32 → Int32 → Mem → Prop} {v1 : Int32} {v2 : Int32} {v3 : Int32} {v4 : Int32} {v5 : Int32} {v6 : Int32} {v7 : Int32} {M : Mem} {M0 : Mem} (hQ : ∀ z0 z1, K4 M0 z1 → Q z0 z1 → Q' z0 z1) (hX : ∀ z0, K4 M0 z0 → X z0 → X' z0) (hk68 : ∀ z0 z1 z2 z3 z4 z5 z6 z7, K4 M0 z7 → k68 z0 z1 z2 z3 z4 z5 z6 z7 → k68' z0 z1 z2 z3 z4 z5 z6 z7) : K4 M0 M → w_Model_shrink_j215 this Q X k68 v1 v2 v3 v4 v5 v6 v7 M → w_Model_shrink_j215 this Q' X' k68' v1 v2 v3 v4 v5 v6 v7 M := by
  intro hf
  unfold w_Model_shrink_j215
  exact (hk68 _ _ _ _ _ _ _ _ hf)
set_option maxRecDepth 20000 in
theorem mq_w_Model_shrink_j179 {this : Nat} {Q Q' : Int32 → Mem → Prop} {X X' : Mem → Prop} {k68 k68' : Int32 → Int32 → Int32 → Int32 → Int32 → Int32 → Int32 → Mem → Prop} {v1 : Int32} {v2 : Int32} {v3 : Int32} {v4 : Int32} {v5 : Int32} {v6 : Int32} {v7 : Int32} {v9 : Int32} {M : Mem} {M0 : Mem} (hQ : ∀ z0 z1, K4 M0 z1 → Q z0 z1 → Q' z0 z1) (hX : ∀ z0, K4 M0 z0 → X z0 → X' z0) (hk68 : ∀ z0 z1 z2 z3 z4 z5 z6 z7, K4 M0 z7 → k68 z0 z1 z2 z3 z4 z5 z6 z7 → k68' z0 z1 z2 z3 z4 z5 z6 z7) : K4 M0 M → w_Model_shrink_j179 this Q X k68 v1 v2 v3 v4 v5 v6 v7 v9 M → w_Model_shrink_j179 this Q' X' k68' v1 v2 v3 v4 v5 v6 v7 v9 M := by
  intro hf
  unfold w_Model_shrink_j179
  exact (mf_ite (mq_w_Model_shrink_j215 hQ hX hk68 hf) (mf_and fun _ => (mf_and fun _ => (mf_and fun _ => (mf_and fun _ => (mf_and fun _ => (Exists.imp fun M23 => (mf_and fun e1 => (mf_and fun _ => (mq_w_Model_shrink_j215 hQ hX hk68 (K4.wI0a rfl (K4.of e1 (K4.wc0 rfl hf)))))))))))))
set_option maxRecDepth 20000 in
theorem mq_w_Model_shrink_j177 {this : Nat} {Q Q' : Int32 → Mem → Prop} {X X' : Mem → Prop} {k68 k68' : Int32 → Int32 → Int32 → Int32 → Int32 → Int32 → Int32 → Mem → Prop} {v1 : Int32} {v2 : Int32} {v3 : Int32} {v4 : Int32} {v5 : Int32} {v6 : Int32} {v7 : Int32} {s0 : Int32} {M : Mem} {M0 : Mem} (hQ : ∀ z0 z1, K4 M0 z1 → Q z0 z1 → Q' z0 z1) (hX : ∀ z0, K4 M0 z0 → X z0 → X' z0) (hk68 : ∀ z0 z1 z2 z3 z4 z5 z6 z7, K4 M0 z7 → k68 z0 z1 z2 z3 z4 z5 z6 z7 → k68' z0 z1 z2 z3 z4 z5 z6 z7) : K4 M0 M → w_Model_shrink_j177 this Q X k68 v1 v2 v3 v4 v5 v6 v7 s0 M → w_Model_shrink_j177 this Q' X' k68' v1 v2 v3 v4 v5 v6 v7 s0 M := by
  intro hf
  unfold w_Model_shrink_j177
  exact (mq_w_Model_shrink_j179 hQ hX hk68 hf)
set_option maxRecDepth 20000 in
theorem mq_w_Model_shrink_j176 {this : Nat} {Q Q' : Int32 → Mem → Prop} {X X' : Mem → Prop} {k68 k68' : Int32 → Int32 → Int32 → Int32 → Int32 → Int32 → Int32 → Mem → Prop} {v1 : Int32} {v2 : Int32} {v3 : Int32} {v4 : Int32} {v5 : Int32} {v6 : Int32} {v7 : Int32} {M : Mem} {M0 : Mem} (hQ : ∀ z0 z1, K4 M0 z1 → Q z0 z1 → Q' z0 z1) (hX : ∀ z0, K4 M0 z0 → X z0 → X' z0) (hk68 : ∀ z0 z1 z2 z3 z4 z5 z6 z7, K4 M0 z7 → k68 z0 z1 z2 z3 z4 z5 z6 z7 → k68' z0 z1 z2 z3 z4 z5 z6 z7) : K4 M0 M → w_Model_shrink_j176 this Q X k68 v1 v2 v3 v4 v5 v6 v7 M → w_Model_shrink_j176 this Q' X' k68' v1 v2 v3 v4 v5 v6 v7 M := by
  intro hf
  unfold w_Model_shrink_j176
  exact (mq_w_Model_shrink_j177 hQ hX hk68 hf)
set_option maxRecDepth 20000 in
theorem mq_w_Model_shrink_j142 {this : Nat} {Q Q' : Int32 → Mem → Prop} {X X' : Mem → Prop} {k68 k68' : Int32 → Int32 → Int32 → Int32 → Int32 → Int32 → Int32 → Mem → Prop} {v1 : Int32} {v2 : Int32} {v3 : Int32} {v4 : Int32} {v5 : Int32} {v6 : Int32} {v7 : Int32} {s0 : Int32} {M : Mem} {M0 : Mem} (hQ : ∀ z0 z1, K4 M0 z1 → Q z0 z1 → Q' z0 z1) (hX : ∀ z0, K4 M0 z0 → X z0 → X' z0) (hk68 : ∀ z0 z1 z2 z3 z4 z5 z6 z7, K4 M0 z7 → k68 z0 z1 z2 z3 z4 z5 z6 z7 → k68' z0 z1 z2 z3 z4 z5 z6 z7) : K4 M0 M → w_Model_shrink_j142 this Q X k68 v1 v2 v3 v4 v5 v6 v7 s0 M → w_Model_shrink_j142 this Q' X' k68' v1 v2 v3 v4 v5 v6 v7 s0 M := by
  intro hf
  unfold w_Model_shrink_j142
  exact (mf_ite (mq_w_Model_shrink_j179 hQ hX hk68 hf) (mf_w_Model_tryDraft (fun M30 f1 => (mf_ite (mf_ite (mq_w_Model_shrink_j177 hQ hX hk68 (K4.trans hf (K4.fr f1 rfl))) (mq_w_Model_shrink_j176 hQ hX hk68 (K4.trans hf (K4.fr f1 rfl)))) (mq_w_Model_shrink_j176 hQ hX hk68 (K4.trans hf (K4.fr f1 rfl))))) (fun z3 f2 => hX z3 (K4.trans hf (K4.fr f2 rfl)))))
set_option maxRecDepth 20000 in
theorem mq_w_Model_shrink_j141 {this : Nat} {Q Q' : Int32 → Mem → Prop} {X X' : Mem → Prop} {k68 k68' : Int32 → Int32 → Int32 → Int32 → Int32 → Int32 → Int32 → Mem → Prop} {v1 : Int32} {v2 : Int32} {v3 : Int32} {v4 : Int32} {v5 : Int32} {v6 : Int32} {v7 : Int32} {M : Mem} {M0 : Mem} (hQ : ∀ z0 z1, K4 M0 z1 → Q z0 z1 → Q' z0 z1) (hX : ∀ z0, K4 M0 z0 → X z0 → X' z0) (hk68 : ∀ z0 z1 z2 z3 z4 z5 z6 z7, K4 M0 z7 → k68 z0 z1 z2 z3 z4 z5 z6 z7 → k68' z0 z1 z2 z3 z4 z5 z6 z7) : K4 M0 M → w_Model_shrink_j141 this Q X k68 v1 v2 v3 v4 v5 v6 v7 M → w_Model_shrink_j141 this Q' X' k68' v1 v2 v3 v4 v5 v6 v7 M := by
  intro hf
  unfold w_Model_shrink_j141
  exact (mq_w_Model_shrink_j142 hQ hX hk68 hf)
set_option maxRecDepth 20000 in
theorem mq_w_Model_shrink_j109 {this : Nat} {Q Q' : Int32 → Mem → Prop} {X X' : Mem → Prop} {k68 k68' : Int32 → Int32 → Int32 → Int32 → Int32 → Int32 → Int32 → Mem → Prop} {k88 k88' : Int32 → Int32 → Int32 → Int32 → Int32 → Int32 → Int32 → Int32 → Int32 → Mem → Prop} {v1 : Int32} {v2 : Int32} {v3 : Int32} {v4 : Int32} {v5 : Int32} {v6 : Int32} {v7 : Int32} {v8 : Int32} {v9 : Int32} {M : Mem} {M0 : Mem} (hQ : ∀ z0 z1, K4 M0 z1 → Q z0 z1 → Q' z0 z1) (hX : ∀ z0, K4 M0 z0 → X z0 → X' z0) (hk68 : ∀ z0 z1 z2 z3 z4 z5 z6 z7, K4 M0 z7 → k68 z0 z1 z2 z3 z4 z5 z6 z7 → k68' z0 z1 z2 z3 z4 z5 z6 z7) (hk88 : ∀ z0 z1 z2 z3 z4 z5 z6 z7 z8 z9, K4 M0 z9 → k88 z0 z1 z2 z3 z4 z5 z6 z7 z8 z9 → k88' z0 z1 z2 z3 z4 z5 z6 z7 z8 z9) : K4 M0 M → w_Model_shrink_j109 this Q X k68 k88 v1 v2 v3 v4 v5 v6 v7 v8 v9 M → w_Model_shrink_j109 this Q' X' k68' k88' v1 v2 v3 v4 v5 v6 v7 v8 v9 M := by
  intro hf
  unfold w_Model_shrink_j109
  exact (hk88 _ _ _ _ _ _ _ _ _ _ hf)
set_option maxRecDepth 20000 in
theorem mq_w_Model_shrink_L88 {this : Nat} {Q Q' : Int32 → Mem → Prop} {X X' : Mem → Prop} {k68 k68' : Int32 → Int32 → Int32 → Int32 → Int32 → Int32 → Int32 → Mem → Prop} {M0 : Mem} (hQ : ∀ z0 z1, K4 M0 z1 → Q z0 z1 → Q' z0 z1) (hX : ∀ z0, K4 M0 z0 → X z0 → X' z0) (hk68 : ∀ z0 z1 z2 z3 z4 z5 z6 z7, K4 M0 z7 → k68 z0 z1 z2 z3 z4 z5 z6 z7 → k68' z0 z1 z2 z3 z4 z5 z6 z7) : ∀ (n : Nat) (v1 : Int32) (v2 : Int32) (v3 : Int32) (v4 : Int32) (v5 : Int32) (v6 : Int32) (v7 : Int32) (v8 : Int32) (v9 : Int32) (M : Mem), K4 M0 M → w_Model_shrink_L88 this Q X k68 n v1 v2 v3 v4 v5 v6 v7 v8 v9 M → w_Model_shrink_L88 this Q' X' k68' n v1 v2 v3 v4 v5 v6 v7 v8 v9 M
  | 0, _, _, _, _, _, _, _, _, _, _ => fun _ h => h
  | n + 1, v1, v2, v3, v4, v5, v6, v7, v8, v9, M => fun hf => by
    unfold w_Model_shrink_L88
    exact (mf_ite (mf_w_Model_tryDraft (fun M18 f1 => (mf_ite (mf_ite (mq_w_Model_shrink_j142 hQ hX hk68 (K4.trans hf (K4.fr f1 rfl))) (mq_w_Model_shrink_j141 hQ hX hk68 (K4.trans hf (K4.fr f1 rfl)))) (mq_w_Model_shrink_j141 hQ hX hk68 (K4.trans hf (K4.fr f1 rfl))))) (fun z3 f2 => hX z3 (K4.trans hf (K4.fr f2 rfl)))) (mf_ite (mq_w_Model_shrink_j109 hQ hX hk68 (mq_w_Model_shrink_L88 hQ hX hk68 n) hf) (mq_w_Model_draftLine (fun M34 f4 => (mq_w_Model_shrink_j109 hQ hX hk68 (mq_w_Model_shrink_L88 hQ hX hk68 n) (K4.trans hf f4))))))
set_option maxRecDepth 20000 in
theorem mq_w_Model_shrink_L68 {this : Nat} {Q Q' : Int32 → Mem → Prop} {X X' : Mem → Prop} {M0 : Mem} (hQ : ∀ z0 z1, K4 M0 z1 → Q z0 z1 → Q' z0 z1) (hX : ∀ z0, K4 M0 z0 → X z0 → X' z0) : ∀ (n : Nat) (v1 : Int32) (v2 : Int32) (v3 : Int32) (v4 : Int32) (v5 : Int32) (v6 : Int32) (v7 : Int32) (M : Mem), K4 M0 M → w_Model_shrink_L68 this Q X n v1 v2 v3 v4 v5 v6 v7 M → w_Model_shrink_L68 this Q' X' n v1 v2 v3 v4 v5 v6 v7 M
  | 0, _, _, _, _, _, _, _, _ => fun _ h => h
  | n + 1, v1, v2, v3, v4, v5, v6, v7, M => fun hf => by
    unfold w_Model_shrink_L68
    exact (mf_ite (mf_and fun _ => (mf_w_Model_linesOf (fun r14 M13 f1 => (hQ _ _ (K4.trans (K4.wI0a rfl hf) (K4.fr f1 rfl)))))) (mf_w_Model_linesOf (fun r16 M15 f2 => (Exists.imp fun n35 => (mq_w_Model_shrink_L88 hQ hX (mq_w_Model_shrink_L68 hQ hX n) _ _ _ _ _ _ _ _ _ _ _ (K4.wI0 rfl (K4.trans hf (K4.fr f2 rfl))))))))
set_option maxRecDepth 20000 in
theorem mq_w_Model_shrink {this : Nat} {a1 : Int32} {a2 : Int32} {Q Q' : Int32 → Mem → Prop} {X X' : Mem → Prop} {M : Mem} (hQ : ∀ z0 z1, K4 M z1 → Q z0 z1 → Q' z0 z1) (hX : ∀ z0, K4 M z0 → X z0 → X' z0) : w_Model_shrink this a1 a2 Q X M → w_Model_shrink this a1 a2 Q' X' M := by
  unfold w_Model_shrink
  exact (mf_w_Model_isTrial (fun r2 M1 f1 => (mf_ite (hQ _ _ (K4.trans (K4.rf M) (K4.fr f1 rfl))) (mf_ite (hQ _ _ (K4.trans (K4.rf M) (K4.fr f1 rfl))) (mf_ite (mq_w_Model_draftTrial (fun M6 f2 => (mf_w_Model_tryDraft (fun M7 f3 => (mf_w_Model_tryDraft (fun M8 f4 => (mf_w_Model_linesOf (fun r10 M9 f5 => (Exists.imp fun n36 => (mq_w_Model_shrink_L68 hQ hX _ _ _ _ _ _ _ _ _ (K4.trans (K4.trans (K4.trans (K4.trans (K4.trans (K4.rf M) (K4.fr f1 rfl)) f2) (K4.fr f3 rfl)) (K4.fr f4 rfl)) (K4.fr f5 rfl))))))) (fun z7 f6 => hX z7 (K4.trans (K4.trans (K4.trans (K4.trans (K4.rf M) (K4.fr f1 rfl)) f2) (K4.fr f3 rfl)) (K4.fr f6 rfl))))) (fun z9 f8 => hX z9 (K4.trans (K4.trans (K4.trans (K4.rf M) (K4.fr f1 rfl)) f2) (K4.fr f8 rfl)))))) (hQ _ _ (K4.trans (K4.rf M) (K4.fr f1 rfl))))))))
set_option maxRecDepth 20000 in
theorem mq_w_Model_change_j272 {this : Nat} {Q Q' : Int32 → Mem → Prop} {k178 k178' : Int32 → Int32 → Int32 → Int32 → Int32 → Int32 → Mem → Prop} {v1 : Int32} {v2 : Int32} {v3 : Int32} {v4 : Int32} {v5 : Int32} {v8 : Int32} {M : Mem} {M0 : Mem} (hQ : ∀ z0 z1, K4 M0 z1 → Q z0 z1 → Q' z0 z1) (hk178 : ∀ z0 z1 z2 z3 z4 z5 z6, K4 M0 z6 → k178 z0 z1 z2 z3 z4 z5 z6 → k178' z0 z1 z2 z3 z4 z5 z6) : K4 M0 M → w_Model_change_j272 this Q k178 v1 v2 v3 v4 v5 v8 M → w_Model_change_j272 this Q' k178' v1 v2 v3 v4 v5 v8 M := by
  intro hf
  unfold w_Model_change_j272
  exact (hk178 _ _ _ _ _ _ _ hf)
set_option maxRecDepth 20000 in
theorem mq_w_Model_change_j254 {this : Nat} {Q Q' : Int32 → Mem → Prop} {k178 k178' : Int32 → Int32 → Int32 → Int32 → Int32 → Int32 → Mem → Prop} {v1 : Int32} {v2 : Int32} {v3 : Int32} {v4 : Int32} {v5 : Int32} {v8 : Int32} {v9 : Int32} {M : Mem} {M0 : Mem} (hQ : ∀ z0 z1, K4 M0 z1 → Q z0 z1 → Q' z0 z1) (hk178 : ∀ z0 z1 z2 z3 z4 z5 z6, K4 M0 z6 → k178 z0 z1 z2 z3 z4 z5 z6 → k178' z0 z1 z2 z3 z4 z5 z6) : K4 M0 M → w_Model_change_j254 this Q k178 v1 v2 v3 v4 v5 v8 v9 M → w_Model_change_j254 this Q' k178' v1 v2 v3 v4 v5 v8 v9 M := by
  intro hf
  unfold w_Model_change_j254
  exact (mf_ite (mf_ite (mq_w_Model_draftLine (fun M30 f1 => (mq_w_Model_change_j272 hQ hk178 (K4.trans hf f1)))) (mq_w_Model_change_j272 hQ hk178 hf)) (mq_w_Model_change_j272 hQ hk178 hf))
set_option maxRecDepth 20000 in
theorem mq_w_Model_change_j247 {this : Nat} {Q Q' : Int32 → Mem → Prop} {k178 k178' : Int32 → Int32 → Int32 → Int32 → Int32 → Int32 → Mem → Prop} {v1 : Int32} {v2 : Int32} {v3 : Int32} {v4 : Int32} {v5 : Int32} {v8 : Int32} {v9 : Int32} {M : Mem} {M0 : Mem} (hQ : ∀ z0 z1, K4 M0 z1 → Q z0 z1 → Q' z0 z1) (hk178 : ∀ z0 z1 z2 z3 z4 z5 z6, K4 M0 z6 → k178 z0 z1 z2 z3 z4 z5 z6 → k178' z0 z1 z2 z3 z4 z5 z6) : K4 M0 M → w_Model_change_j247 this Q k178 v1 v2 v3 v4 v5 v8 v9 M → w_Model_change_j247 this Q' k178' v1 v2 v3 v4 v5 v8 v9 M := by
  intro hf
  unfold w_Model_change_j247
  exact (mq_w_Model_draftLine (fun M31 f1 => (mq_w_Model_change_j254 hQ hk178 (K4.trans hf f1))))
set_option maxRecDepth 20000 in
theorem mq_w_Model_change_j235 {this : Nat} {Q Q' : Int32 → Mem → Prop} {k178 k178' : Int32 → Int32 → Int32 → Int32 → Int32 → Int32 → Mem → Prop} {v1 : Int32} {v2 : Int32} {v3 : Int32} {v4 : Int32} {v5 : Int32} {v8 : Int32} {s0 : Int32} {M : Mem} {M0 : Mem} (hQ : ∀ z0 z1, K4 M0 z1 → Q z0 z1 → Q' z0 z1) (hk178 : ∀ z0 z1 z2 z3 z4 z5 z6, K4 M0 z6 → k178 z0 z1 z2 z3 z4 z5 z6 → k178' z0 z1 z2 z3 z4 z5 z6) : K4 M0 M → w_Model_change_j235 this Q k178 v1 v2 v3 v4 v5 v8 s0 M → w_Model_change_j235 this Q' k178' v1 v2 v3 v4 v5 v8 s0 M := by
  intro hf
  unfold w_Model_change_j235
  exact (mf_ite (mf_ite (mq_w_Model_change_j254 hQ hk178 hf) (mq_w_Model_change_j247 hQ hk178 hf)) (mq_w_Model_change_j247 hQ hk178 hf))
set_option maxRecDepth 20000 in
theorem mq_w_Model_change_j233 {this : Nat} {Q Q' : Int32 → Mem → Prop} {k178 k178' : Int32 → Int32 → Int32 → Int32 → Int32 → Int32 → Mem → Prop} {v1 : Int32} {v2 : Int32} {v3 : Int32} {v4 : Int32} {v5 : Int32} {v8 : Int32} {M : Mem} {M0 : Mem} (hQ : ∀ z0 z1, K4 M0 z1 → Q z0 z1 → Q' z0 z1) (hk178 : ∀ z0 z1 z2 z3 z4 z5 z6, K4 M0 z6 → k178 z0 z1 z2 z3 z4 z5 z6 → k178' z0 z1 z2 z3 z4 z5 z6) : K4 M0 M → w_Model_change_j233 this Q k178 v1 v2 v3 v4 v5 v8 M → w_Model_change_j233 this Q' k178' v1 v2 v3 v4 v5 v8 M := by
  intro hf
  unfold w_Model_change_j233
  exact (mq_w_Model_change_j235 hQ hk178 hf)
set_option maxRecDepth 20000 in
theorem mq_w_Model_change_j217 {this : Nat} {Q Q' : Int32 → Mem → Prop} {k178 k178' : Int32 → Int32 → Int32 → Int32 → Int32 → Int32 → Mem → Prop} {v1 : Int32} {v2 : Int32} {v3 : Int32} {v4 : Int32} {v5 : Int32} {v8 : Int32} {M : Mem} {M0 : Mem} (hQ : ∀ z0 z1, K4 M0 z1 → Q z0 z1 → Q' z0 z1) (hk178 : ∀ z0 z1 z2 z3 z4 z5 z6, K4 M0 z6 → k178 z0 z1 z2 z3 z4 z5 z6 → k178' z0 z1 z2 z3 z4 z5 z6) : K4 M0 M → w_Model_change_j217 this Q k178 v1 v2 v3 v4 v5 v8 M → w_Model_change_j217 this Q' k178' v1 v2 v3 v4 v5 v8 M := by
  intro hf
  unfold w_Model_change_j217
  exact (mf_ite (mf_ite (mq_w_Model_change_j235 hQ hk178 hf) (mq_w_Model_change_j233 hQ hk178 hf)) (mq_w_Model_change_j233 hQ hk178 hf))
set_option maxRecDepth 20000 in
theorem mq_w_Model_change_j201 {this : Nat} {Q Q' : Int32 → Mem → Prop} {k178 k178' : Int32 → Int32 → Int32 → Int32 → Int32 → Int32 → Mem → Prop} {v1 : Int32} {v2 : Int32} {v3 : Int32} {v4 : Int32} {v5 : Int32} {v8 : Int32} {M : Mem} {M0 : Mem} (hQ : ∀ z0 z1, K4 M0 z1 → Q z0 z1 → Q' z0 z1) (hk178 : ∀ z0 z1 z2 z3 z4 z5 z6, K4 M0 z6 → k178 z0 z1 z2 z3 z4 z5 z6 → k178' z0 z1 z2 z3 z4 z5 z6) : K4 M0 M → w_Model_change_j201 this Q k178 v1 v2 v3 v4 v5 v8 M → w_Model_change_j201 this Q' k178' v1 v2 v3 v4 v5 v8 M := by
  intro hf
  unfold w_Model_change_j201
  exact (mf_ite (mf_ite (mq_w_Model_change_j235 hQ hk178 hf) (mq_w_Model_change_j217 hQ hk178 hf)) (mq_w_Model_change_j217 hQ hk178 hf))
set_option maxRecDepth 20000 in
theorem mq_w_Model_change_L178 {this : Nat} {Q Q' : Int32 → Mem → Prop} {M0 : Mem} (hQ : ∀ z0 z1, K4 M0 z1 → Q z0 z1 → Q' z0 z1) : ∀ (n : Nat) (v1 : Int32) (v2 : Int32) (v3 : Int32) (v4 : Int32) (v5 : Int32) (v8 : Int32) (M : Mem), K4 M0 M → w_Model_change_L178 this Q n v1 v2 v3 v4 v5 v8 M → w_Model_change_L178 this Q' n v1 v2 v3 v4 v5 v8 M
  | 0, _, _, _, _, _, _, _ => fun _ h => h
  | n + 1, v1, v2, v3, v4, v5, v8, M => fun hf => by
    unfold w_Model_change_L178
    exact (mf_ite (mf_ite (mf_w_Model_keepDraft (fun r23 M22 f1 => (hQ _ _ (K4.trans hf (K4.fr f1 rfl))))) (hQ _ _ hf)) (mf_ite (mf_ite (mq_w_Model_change_j235 hQ (mq_w_Model_change_L178 hQ n) hf) (mq_w_Model_change_j201 hQ (mq_w_Model_change_L178 hQ n) hf)) (mq_w_Model_change_j201 hQ (mq_w_Model_change_L178 hQ n) hf)))
set_option maxRecDepth 20000 in
theorem mq_w_Model_change_j170 {this : Nat} {Q Q' : Int32 → Mem → Prop} {v1 : Int32} {v2 : Int32} {v3 : Int32} {v4 : Int32} {v5 : Int32} {M : Mem} {M0 : Mem} (hQ : ∀ z0 z1, K4 M0 z1 → Q z0 z1 → Q' z0 z1) : K4 M0 M → w_Model_change_j170 this Q v1 v2 v3 v4 v5 M → w_Model_change_j170 this Q' v1 v2 v3 v4 v5 M := by
  intro hf
  unfold w_Model_change_j170
  exact (Exists.imp fun n36 => (mq_w_Model_change_L178 hQ _ _ _ _ _ _ _ _ (K4.wI0 rfl hf)))
set_option maxRecDepth 20000 in
theorem mq_w_Model_change_j155 {this : Nat} {Q Q' : Int32 → Mem → Prop} {v1 : Int32} {v2 : Int32} {v3 : Int32} {v4 : Int32} {v5 : Int32} {M : Mem} {M0 : Mem} (hQ : ∀ z0 z1, K4 M0 z1 → Q z0 z1 → Q' z0 z1) : K4 M0 M → w_Model_change_j155 this Q v1 v2 v3 v4 v5 M → w_Model_change_j155 this Q' v1 v2 v3 v4 v5 M := by
  intro hf
  unfold w_Model_change_j155
  exact (mf_ite (mf_ite (hQ _ _ hf) (mq_w_Model_change_j170 hQ hf)) (mq_w_Model_change_j170 hQ hf))
set_option maxRecDepth 20000 in
theorem mq_w_Model_change_j129 {this : Nat} {Q Q' : Int32 → Mem → Prop} {v1 : Int32} {v2 : Int32} {v3 : Int32} {v4 : Int32} {v5 : Int32} {v6 : Int32} {M : Mem} {M0 : Mem} (hQ : ∀ z0 z1, K4 M0 z1 → Q z0 z1 → Q' z0 z1) : K4 M0 M → w_Model_change_j129 this Q v1 v2 v3 v4 v5 v6 M → w_Model_change_j129 this Q' v1 v2 v3 v4 v5 v6 M := by
  intro hf
  unfold w_Model_change_j129
  exact (mf_ite (hQ _ _ hf) (mf_ite (mq_w_Model_change_j155 hQ hf) (mf_ite (mq_w_Model_change_j155 hQ hf) (mf_ite (mq_w_Model_change_j155 hQ hf) (hQ _ _ hf)))))
set_option maxRecDepth 20000 in
theorem mq_w_Model_change_j59 {this : Nat} {Q Q' : Int32 → Mem → Prop} {v1 : Int32} {v2 : Int32} {v3 : Int32} {v4 : Int32} {v5 : Int32} {M : Mem} {M0 : Mem} (hQ : ∀ z0 z1, K4 M0 z1 → Q z0 z1 → Q' z0 z1) : K4 M0 M → w_Model_change_j59 this Q v1 v2 v3 v4 v5 M → w_Model_change_j59 this Q' v1 v2 v3 v4 v5 M := by
  intro hf
  unfold w_Model_change_j59
  exact (mf_and fun _ => (mf_and fun _ => (mf_and fun _ => (Exists.imp fun x14 => (mf_and fun _ => (mf_ite (mq_w_Model_change_j129 hQ hf) (mf_ite (mf_and fun _ => (mf_and fun _ => (Exists.imp fun x42 => (mf_and fun _ => (mq_w_Model_change_j129 hQ hf))))) (mq_w_Model_change_j129 hQ hf))))))))
set_option maxRecDepth 20000 in
theorem mq_w_Model_change {this : Nat} {a1 : Int32} {a2 : Int32} {a3 : Int32} {a4 : Int32} {Q Q' : Int32 → Mem → Prop} {M : Mem} (hQ : ∀ z0 z1, K4 M z1 → Q z0 z1 → Q' z0 z1) : w_Model_change this a1 a2 a3 a4 Q M → w_Model_change this a1 a2 a3 a4 Q' M := by
  unfold w_Model_change
  exact (mf_w_Model_isTrial (fun r2 M1 f1 => (mf_ite (hQ _ _ (K4.trans (K4.rf M) (K4.fr f1 rfl))) (mf_ite (hQ _ _ (K4.trans (K4.rf M) (K4.fr f1 rfl))) (mf_ite (mf_w_Model_linesOf (fun r7 M6 f2 => (mf_ite (hQ _ _ (K4.trans (K4.trans (K4.rf M) (K4.fr f1 rfl)) (K4.fr f2 rfl))) (mf_ite (hQ _ _ (K4.trans (K4.trans (K4.rf M) (K4.fr f1 rfl)) (K4.fr f2 rfl))) (mf_ite (mq_w_Model_change_j59 hQ (K4.trans (K4.trans (K4.rf M) (K4.fr f1 rfl)) (K4.fr f2 rfl))) (mf_ite (hQ _ _ (K4.trans (K4.trans (K4.rf M) (K4.fr f1 rfl)) (K4.fr f2 rfl))) (mf_ite (mq_w_Model_change_j59 hQ (K4.trans (K4.trans (K4.rf M) (K4.fr f1 rfl)) (K4.fr f2 rfl))) (hQ _ _ (K4.trans (K4.trans (K4.rf M) (K4.fr f1 rfl)) (K4.fr f2 rfl)))))))))) (hQ _ _ (K4.trans (K4.rf M) (K4.fr f1 rfl))))))))
