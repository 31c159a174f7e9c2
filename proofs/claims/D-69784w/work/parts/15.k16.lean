/-! B: steps that are left stay as they were while trials are worked out: printed by ck3.py -/
def b8 (f k : Nat) : Bool := Nat.beq f 10 && Nat.beq k 8
def b35 (f k : Nat) : Bool := Nat.beq f 6 && Nat.beq k 35
def K8 (M M' : Mem) : Prop := mI M' 10 0 8 = mI M 10 0 8
def KM (n : Nat) (M M' : Mem) : Prop := ¬ mI M 6 n 35 = 0 → mI M' 10 0 8 = mI M 10 0 8 ∧ mI M' 6 n 35 = mI M 6 n 35
theorem mf_itq {c : Prop} {_ : Decidable c} {A A' B B' : Prop} (ha : c → A → A') (hb : B → B') : (if c then A else B) → (if c then A' else B') := by
  split
  · rename_i h; exact ha h
  · exact hb
section
variable {n : Nat} {M M1 M2 : Mem} {f i k g j : Nat} {v : Int32}
theorem K8.rf (M : Mem) : K8 M M := rfl
theorem K8.trans (h : K8 M M1) (h1 : K8 M1 M2) : K8 M M2 := Eq.trans h1 h
theorem K8.of (e : M2 = M1) (h : K8 M M1) : K8 M M2 := e ▸ h
theorem K8.fr {S : Nat} (h : Fr S M M1) (e : S.testBit 3008 = false) : K8 M M1 := h.I (f := 10) (k := 8) e 0
theorem K8.wJ {v : Int64} (h : K8 M M1) : K8 M (sJ M1 f i k v) := h
theorem K8.wR {v : Option (Nat × Nat)} (h : K8 M M1) : K8 M (sR M1 f i k v) := h
theorem b8_n (e : (Nat.ble 20 f || !(b8 f k)) = true) (h : 10 = f ∧ 8 = k) : False := by
  obtain ⟨e1, e2⟩ := h
  subst e1
  subst e2
  cases e
theorem K8.wI (e : (Nat.ble 20 f || !(b8 f k)) = true) (h : K8 M M1) : K8 M (sI M1 f i k v) := h.trans (if_neg (fun z => b8_n e ⟨z.1, z.2.2⟩))
theorem K8.wf (e : Nat.ble 20 f = true) (h : K8 M M1) : K8 M (flI M1 f i v) := h.trans (if_neg (fun z => by have := Nat.le_of_ble_eq_true e; omega))
theorem K8.wmk {l : Nat} (e : Nat.ble 20 f = true) (h : K8 M M1) : K8 M (mk M1 f i l) := h.trans (if_neg (fun z => by have := Nat.le_of_ble_eq_true e; omega))
theorem K8.wc {sp dp l : Nat} (e : Nat.ble 20 g = true) (h : K8 M M1) : K8 M (cpI M1 f i sp g j dp l) := h.trans (if_neg (fun z => by have := Nat.le_of_ble_eq_true e; omega))
theorem KM.rf (n : Nat) (M : Mem) : KM n M M := fun _ => ⟨rfl, rfl⟩
theorem KM.trans (h : KM n M M1) (h1 : KM n M1 M2) : KM n M M2 := fun z => ⟨(h1 (by rw [(h z).2]; exact z)).1.trans (h z).1, (h1 (by rw [(h z).2]; exact z)).2.trans (h z).2⟩
theorem KM.of (e : M2 = M1) (h : KM n M M1) : KM n M M2 := e ▸ h
theorem KM.off (q : mI M1 6 n 35 = 0) (h : KM n M M1) : KM n M M2 := fun z => absurd ((h z).2 ▸ q) z
theorem KM.fr {S : Nat} (h : Fr S M M1) (e : S.testBit 3008 = false) (e2 : S.testBit 2235 = false) : KM n M M1 := fun _ => ⟨h.I (f := 10) (k := 8) e 0, h.I (f := 6) (k := 35) e2 n⟩
theorem KM.wJ {v : Int64} (h : KM n M M1) : KM n M (sJ M1 f i k v) := h
theorem KM.wR {v : Option (Nat × Nat)} (h : KM n M M1) : KM n M (sR M1 f i k v) := h
theorem b35_n (e : (Nat.ble 20 f || !(b8 f k) && !(b35 f k)) = true) (h : (10 = f ∧ 8 = k) ∨ (6 = f ∧ 35 = k)) : False := by
  rcases h with ⟨e1, e2⟩ | ⟨e1, e2⟩
  · subst e1; subst e2; cases e
  · subst e1; subst e2; cases e
theorem KM.wI (e : (Nat.ble 20 f || !(b8 f k) && !(b35 f k)) = true) (h : KM n M M1) : KM n M (sI M1 f i k v) := h.trans (fun _ => ⟨if_neg (fun z => b35_n e (Or.inl ⟨z.1, z.2.2⟩)), if_neg (fun z => b35_n e (Or.inr ⟨z.1, z.2.2⟩))⟩)
theorem KM.wf (e : Nat.ble 20 f = true) (h : KM n M M1) : KM n M (flI M1 f i v) := h.trans (fun _ => ⟨if_neg (fun z => by have := Nat.le_of_ble_eq_true e; omega), if_neg (fun z => by have := Nat.le_of_ble_eq_true e; omega)⟩)
theorem KM.wmk {l : Nat} (e : Nat.ble 20 f = true) (h : KM n M M1) : KM n M (mk M1 f i l) := h.trans (fun _ => ⟨if_neg (fun z => by have := Nat.le_of_ble_eq_true e; omega), if_neg (fun z => by have := Nat.le_of_ble_eq_true e; omega)⟩)
theorem KM.wc {sp dp l : Nat} (e : Nat.ble 20 g = true) (h : KM n M M1) : KM n M (cpI M1 f i sp g j dp l) := h.trans (fun _ => ⟨if_neg (fun z => by have := Nat.le_of_ble_eq_true e; omega), if_neg (fun z => by have := Nat.le_of_ble_eq_true e; omega)⟩)
theorem KM.use (h : KM 0 M M1) (z : ¬ mI M 6 0 35 = 0) : K8 M M1 := (h z).1
theorem K35.set (M : Mem) : ¬ mI (sI M 6 0 35 1) 6 0 35 = 0 := by rw [mI_sI, if_pos ⟨rfl, rfl, rfl⟩]; decide
theorem K35.wI (e : (Nat.ble 20 f || !(b35 f k)) = true) (h : ¬ mI M 6 0 35 = 0) : ¬ mI (sI M f i k v) 6 0 35 = 0 := by
  rw [mI_sI, if_neg (fun z => b35_n (f := f) (k := k) (by
    rcases (Bool.or_eq_true _ _).mp e with q | q
    · rw [q]; rfl
    · rw [z.1.symm, z.2.2.symm] at q; cases q) (Or.inr ⟨z.1, z.2.2⟩))]
  exact h
theorem K35.fr {S : Nat} (h : Fr S M M1) (e : S.testBit 2235 = false) (z : ¬ mI M 6 0 35 = 0) : ¬ mI M1 6 0 35 = 0 := by rw [h.I (f := 6) (k := 35) e]; exact z
end
set_option maxRecDepth 20000 in
theorem m8_w_Machine_step {this : Nat} {a1 : Int32} {Q Q' : Mem → Prop} {M : Mem} (hQ : ∀ z0, KM this M z0 → Q z0 → Q' z0) : w_Machine_step this a1 Q M → w_Machine_step this a1 Q' M := by
  unfold w_Machine_step
  exact (Exists.imp fun i1 => (mf_and fun _ => (mf_and fun _ => (mf_and fun _ => (Exists.imp fun M4 => (mf_and fun e1 => (mf_itq (fun q2 => (hQ _ (KM.off q2 (KM.of e1 (KM.wI rfl (KM.wI rfl (KM.rf this M))))))) (hQ _ (KM.of e1 (KM.wI rfl (KM.wI rfl (KM.rf this M))))))))))))
set_option maxRecDepth 20000 in
theorem m8_w_Machine_instruction_j304 {this : Nat} {Q Q' : Mem → Prop} {s0 : Int32} {M : Mem} {M0 : Mem} (hQ : ∀ z0, KM this M0 z0 → Q z0 → Q' z0) : KM this M0 M → w_Machine_instruction_j304 this Q s0 M → w_Machine_instruction_j304 this Q' s0 M := by
  intro hf
  unfold w_Machine_instruction_j304
  exact (mf_w_Machine_fails (fun M25 f1 => (hQ _ (KM.trans hf (KM.fr f1 rfl rfl)))))
set_option maxRecDepth 20000 in
theorem m8_w_Machine_instruction_j284 {this : Nat} {Q Q' : Mem → Prop} {M : Mem} {M0 : Mem} (hQ : ∀ z0, KM this M0 z0 → Q z0 → Q' z0) : KM this M0 M → w_Machine_instruction_j284 this Q M → w_Machine_instruction_j284 this Q' M := by
  intro hf
  unfold w_Machine_instruction_j284
  exact (mf_ite (m8_w_Machine_instruction_j304 hQ hf) (m8_w_Machine_instruction_j304 hQ hf))
set_option maxRecDepth 20000 in
theorem m8_w_Machine_instruction_j252 {this : Nat} {Q Q' : Mem → Prop} {v1 : Int32} {v2 : Int32} {v3 : Int32} {v4 : Int32} {v5 : Int32} {M : Mem} {M0 : Mem} (hQ : ∀ z0, KM this M0 z0 → Q z0 → Q' z0) : KM this M0 M → w_Machine_instruction_j252 this Q v1 v2 v3 v4 v5 M → w_Machine_instruction_j252 this Q' v1 v2 v3 v4 v5 M := by
  intro hf
  unfold w_Machine_instruction_j252
  exact (mf_ite (hQ _ hf) (mf_ite (hQ _ hf) (m8_w_Machine_step (fun M22 f1 => (mf_ite (m8_w_Machine_instruction_j284 hQ (KM.trans hf f1)) (mf_ite (m8_w_Machine_instruction_j284 hQ (KM.trans hf f1)) (mf_w_Machine_act (fun M27 f2 => (hQ _ (KM.trans (KM.trans hf f1) (KM.fr f2 rfl rfl)))))))))))
set_option maxRecDepth 20000 in
theorem m8_w_Machine_instruction_j206 {this : Nat} {Q Q' : Mem → Prop} {v1 : Int32} {v2 : Int32} {v3 : Int32} {v4 : Int32} {v5 : Int32} {M : Mem} {M0 : Mem} (hQ : ∀ z0, KM this M0 z0 → Q z0 → Q' z0) : KM this M0 M → w_Machine_instruction_j206 this Q v1 v2 v3 v4 v5 M → w_Machine_instruction_j206 this Q' v1 v2 v3 v4 v5 M := by
  intro hf
  unfold w_Machine_instruction_j206
  exact (mf_ite (mf_w_Machine_number (fun r18 M17 f1 => (mf_ite (m8_w_Machine_instruction_j252 hQ (KM.trans hf (KM.fr f1 rfl rfl))) (Exists.imp fun i28 => (mf_and fun _ => (mf_w_Machine_number (fun r30 M29 f2 => (mf_w_Machine_isLockedFor (fun r32 M31 f3 => (mf_ite (m8_w_Machine_instruction_j252 hQ (KM.trans (KM.trans (KM.trans hf (KM.fr f1 rfl rfl)) (KM.fr f2 rfl rfl)) (KM.fr f3 rfl rfl))) (Exists.imp fun i34 => (mf_and fun _ => (mf_w_Machine_number (fun r36 M35 f4 => (m8_w_Machine_instruction_j252 hQ (KM.wI rfl (KM.trans (KM.trans (KM.trans (KM.trans hf (KM.fr f1 rfl rfl)) (KM.fr f2 rfl rfl)) (KM.fr f3 rfl rfl)) (KM.fr f4 rfl rfl)))))))))))))))))) (m8_w_Machine_instruction_j252 hQ hf))
set_option maxRecDepth 20000 in
theorem m8_w_Machine_instruction_j171 {this : Nat} {Q Q' : Mem → Prop} {v1 : Int32} {v2 : Int32} {v3 : Int32} {v4 : Int32} {v5 : Int32} {M : Mem} {M0 : Mem} (hQ : ∀ z0, KM this M0 z0 → Q z0 → Q' z0) : KM this M0 M → w_Machine_instruction_j171 this Q v1 v2 v3 v4 v5 M → w_Machine_instruction_j171 this Q' v1 v2 v3 v4 v5 M := by
  intro hf
  unfold w_Machine_instruction_j171
  exact (mf_ite (m8_w_Machine_instruction_j206 hQ hf) (mf_ite (mf_and fun _ => (mf_w_Machine_mustStart (fun r40 M39 f1 => (m8_w_Machine_instruction_j252 hQ (KM.trans hf (KM.fr f1 rfl rfl)))))) (m8_w_Machine_instruction_j206 hQ hf)))
set_option maxRecDepth 20000 in
theorem m8_w_Machine_instruction_j151 {this : Nat} {Q Q' : Mem → Prop} {v1 : Int32} {v2 : Int32} {v3 : Int32} {v4 : Int32} {M : Mem} {M0 : Mem} (hQ : ∀ z0, KM this M0 z0 → Q z0 → Q' z0) : KM this M0 M → w_Machine_instruction_j151 this Q v1 v2 v3 v4 M → w_Machine_instruction_j151 this Q' v1 v2 v3 v4 M := by
  intro hf
  unfold w_Machine_instruction_j151
  exact (mf_w_World_classOfField (fun r43 M42 f1 => (mf_w_Machine_mustStart (fun r45 M44 f2 => (m8_w_Machine_instruction_j252 hQ (KM.trans (KM.trans hf (KM.fr f1 rfl rfl)) (KM.fr f2 rfl rfl)))))))
set_option maxRecDepth 20000 in
theorem m8_w_Machine_instruction_j130 {this : Nat} {Q Q' : Mem → Prop} {v1 : Int32} {v2 : Int32} {v3 : Int32} {v4 : Int32} {v5 : Int32} {M : Mem} {M0 : Mem} (hQ : ∀ z0, KM this M0 z0 → Q z0 → Q' z0) : KM this M0 M → w_Machine_instruction_j130 this Q v1 v2 v3 v4 v5 M → w_Machine_instruction_j130 this Q' v1 v2 v3 v4 v5 M := by
  intro hf
  unfold w_Machine_instruction_j130
  exact (mf_ite (m8_w_Machine_instruction_j171 hQ hf) (mf_ite (m8_w_Machine_instruction_j151 hQ hf) (mf_ite (m8_w_Machine_instruction_j151 hQ hf) (m8_w_Machine_instruction_j171 hQ hf))))
set_option maxRecDepth 20000 in
theorem m8_w_Machine_instruction_j97 {this : Nat} {Q Q' : Mem → Prop} {v1 : Int32} {v2 : Int32} {v3 : Int32} {v4 : Int32} {s0 : Int32} {M : Mem} {M0 : Mem} (hQ : ∀ z0, KM this M0 z0 → Q z0 → Q' z0) : KM this M0 M → w_Machine_instruction_j97 this Q v1 v2 v3 v4 s0 M → w_Machine_instruction_j97 this Q' v1 v2 v3 v4 s0 M := by
  intro hf
  unfold w_Machine_instruction_j97
  exact (mf_ite (m8_w_Machine_instruction_j130 hQ (KM.wI rfl hf)) (mf_ite (mf_w_Machine_mustStart (fun r49 M48 f1 => (m8_w_Machine_instruction_j252 hQ (KM.trans (KM.wI rfl hf) (KM.fr f1 rfl rfl))))) (m8_w_Machine_instruction_j130 hQ (KM.wI rfl hf))))
set_option maxRecDepth 20000 in
theorem m8_w_Machine_instruction_j87 {this : Nat} {Q Q' : Mem → Prop} {v1 : Int32} {v2 : Int32} {v3 : Int32} {v4 : Int32} {M : Mem} {M0 : Mem} (hQ : ∀ z0, KM this M0 z0 → Q z0 → Q' z0) : KM this M0 M → w_Machine_instruction_j87 this Q v1 v2 v3 v4 M → w_Machine_instruction_j87 this Q' v1 v2 v3 v4 M := by
  intro hf
  unfold w_Machine_instruction_j87
  exact (m8_w_Machine_instruction_j97 hQ hf)
set_option maxRecDepth 20000 in
theorem m8_w_Machine_instruction {this : Nat} {Q Q' : Mem → Prop} {M : Mem} (hQ : ∀ z0, KM this M z0 → Q z0 → Q' z0) : w_Machine_instruction this Q M → w_Machine_instruction this Q' M := by
  unfold w_Machine_instruction
  exact (Exists.imp fun i1 => (mf_and fun _ => (Exists.imp fun i2 => (mf_and fun _ => (mf_and fun _ => (mf_and fun _ => (Exists.imp fun i5 => (mf_and fun _ => (mf_and fun _ => (Exists.imp fun x7 => (mf_and fun _ => (mf_and fun _ => (Exists.imp fun i9 => (mf_and fun _ => (mf_and fun _ => (Exists.imp fun M11 => (mf_and fun e1 => (mf_ite (m8_w_Machine_instruction_j87 hQ (KM.of e1 (KM.wI rfl (KM.wI rfl (KM.rf this M))))) (mf_ite (m8_w_Machine_instruction_j87 hQ (KM.of e1 (KM.wI rfl (KM.wI rfl (KM.rf this M))))) (mf_w_Machine_finds (fun r52 M51 f2 => (m8_w_Machine_instruction_j97 hQ (KM.trans (KM.of e1 (KM.wI rfl (KM.wI rfl (KM.rf this M)))) (KM.fr f2 rfl rfl))))))))))))))))))))))))
set_option maxRecDepth 20000 in
theorem m8_w_Machine_go_j147 {this : Nat} {Q Q' : Int32 → Mem → Prop} {k2 k2' : Int32 → Mem → Prop} {v2 : Int32} {M : Mem} {M0 : Mem} (hQ : ∀ z0 z1, KM this M0 z1 → Q z0 z1 → Q' z0 z1) (hk2 : ∀ z0 z1, KM this M0 z1 → k2 z0 z1 → k2' z0 z1) : KM this M0 M → w_Machine_go_j147 this Q k2 v2 M → w_Machine_go_j147 this Q' k2' v2 M := by
  intro hf
  unfold w_Machine_go_j147
  exact (hk2 _ _ hf)
set_option maxRecDepth 20000 in
theorem m8_w_Machine_go_j142 {this : Nat} {Q Q' : Int32 → Mem → Prop} {k2 k2' : Int32 → Mem → Prop} {v2 : Int32} {M : Mem} {M0 : Mem} (hQ : ∀ z0 z1, KM this M0 z1 → Q z0 z1 → Q' z0 z1) (hk2 : ∀ z0 z1, KM this M0 z1 → k2 z0 z1 → k2' z0 z1) : KM this M0 M → w_Machine_go_j142 this Q k2 v2 M → w_Machine_go_j142 this Q' k2' v2 M := by
  intro hf
  unfold w_Machine_go_j142
  exact (m8_w_Machine_go_j147 hQ hk2 (KM.wI rfl hf))
set_option maxRecDepth 20000 in
theorem m8_w_Machine_go_j120 {this : Nat} {Q Q' : Int32 → Mem → Prop} {k2 k2' : Int32 → Mem → Prop} {v2 : Int32} {M : Mem} {M0 : Mem} (hQ : ∀ z0 z1, KM this M0 z1 → Q z0 z1 → Q' z0 z1) (hk2 : ∀ z0 z1, KM this M0 z1 → k2 z0 z1 → k2' z0 z1) : KM this M0 M → w_Machine_go_j120 this Q k2 v2 M → w_Machine_go_j120 this Q' k2' v2 M := by
  intro hf
  unfold w_Machine_go_j120
  exact (Exists.imp fun i13 => (mf_and fun _ => (mf_ite (Exists.imp fun i15 => (mf_and fun _ => (mf_w_Machine_waits (fun r17 M16 f1 => (mf_ite (m8_w_Machine_go_j147 hQ hk2 (KM.trans hf (KM.fr f1 rfl rfl))) (m8_w_Machine_go_j142 hQ hk2 (KM.trans hf (KM.fr f1 rfl rfl)))))))) (m8_w_Machine_go_j142 hQ hk2 hf))))
set_option maxRecDepth 20000 in
theorem m8_w_Machine_go_j96 {this : Nat} {Q Q' : Int32 → Mem → Prop} {k2 k2' : Int32 → Mem → Prop} {v2 : Int32} {v3 : Int32} {M : Mem} {M0 : Mem} (hQ : ∀ z0 z1, KM this M0 z1 → Q z0 z1 → Q' z0 z1) (hk2 : ∀ z0 z1, KM this M0 z1 → k2 z0 z1 → k2' z0 z1) : KM this M0 M → w_Machine_go_j96 this Q k2 v2 v3 M → w_Machine_go_j96 this Q' k2' v2 v3 M := by
  intro hf
  unfold w_Machine_go_j96
  exact (Exists.imp fun i11 => (mf_and fun _ => (mf_ite (m8_w_Machine_go_j120 hQ hk2 hf) (m8_w_Machine_go_j120 hQ hk2 (KM.wI rfl hf)))))
set_option maxRecDepth 20000 in
theorem m8_w_Machine_go_L2 {this : Nat} {Q Q' : Int32 → Mem → Prop} {M0 : Mem} (hQ : ∀ z0 z1, KM this M0 z1 → Q z0 z1 → Q' z0 z1) : ∀ (n : Nat) (v2 : Int32) (M : Mem), KM this M0 M → w_Machine_go_L2 this Q n v2 M → w_Machine_go_L2 this Q' n v2 M
  | 0, _, _ => fun _ h => h
  | n + 1, v2, M => fun hf => by
    unfold w_Machine_go_L2
    exact (mf_ite (hQ _ _ hf) (mf_w_Machine_hasTurn (fun r3 M2 f1 => (mf_ite (hQ _ _ (KM.trans hf (KM.fr f1 rfl rfl))) (Exists.imp fun i5 => (mf_and fun _ => (Exists.imp fun i6 => (mf_and fun _ => (Exists.imp fun i7 => (mf_and fun _ => (Exists.imp fun i8 => (mf_and fun _ => (mf_ite (mf_w_Machine_first (fun M10 f2 => (m8_w_Machine_go_j96 hQ (m8_w_Machine_go_L2 hQ n) (KM.trans (KM.wI rfl (KM.wI rfl (KM.trans hf (KM.fr f1 rfl rfl)))) (KM.fr f2 rfl rfl))))) (Exists.imp fun i19 => (mf_and fun _ => (Exists.imp fun i20 => (mf_and fun _ => (mf_and fun _ => (mf_ite (m8_w_Machine_instruction (fun M23 f3 => (m8_w_Machine_go_j96 hQ (m8_w_Machine_go_L2 hQ n) (KM.trans (KM.wI rfl (KM.wI rfl (KM.trans hf (KM.fr f1 rfl rfl)))) f3)))) (Exists.imp fun i24 => (mf_and fun _ => (mf_w_Machine_start (fun M25 f4 => (m8_w_Machine_go_j96 hQ (m8_w_Machine_go_L2 hQ n) (KM.trans (KM.wI rfl (KM.wI rfl (KM.trans hf (KM.fr f1 rfl rfl)))) (KM.fr f4 rfl rfl))))))))))))))))))))))))))
set_option maxRecDepth 20000 in
theorem m8_w_Machine_go {this : Nat} {a1 : Int32} {Q Q' : Int32 → Mem → Prop} {M : Mem} (hQ : ∀ z0 z1, KM this M z1 → Q z0 z1 → Q' z0 z1) : w_Machine_go this a1 Q M → w_Machine_go this a1 Q' M := by
  unfold w_Machine_go
  exact (Exists.imp fun n26 => (m8_w_Machine_go_L2 hQ _ _ _ (KM.rf this M)))
set_option maxRecDepth 20000 in
theorem m8_w_Works_work1_j242 {this : Nat} {Q Q' : Mem → Prop} {X X' : Mem → Prop} {s0 : Int32} {s1 : Int32} {M : Mem} {M0 : Mem} (hQ : ∀ z0, K8 M0 z0 → Q z0 → Q' z0) (hX : ∀ z0, K8 M0 z0 → X z0 → X' z0) : K8 M0 M → w_Works_work1_j242 this Q X s0 s1 M → w_Works_work1_j242 this Q' X' s0 s1 M := by
  intro hf
  unfold w_Works_work1_j242
  exact (hQ _ (K8.wI rfl hf))
set_option maxRecDepth 20000 in
theorem m8_w_Works_work1_j296 {this : Nat} {Q Q' : Mem → Prop} {X X' : Mem → Prop} {s0 : Int32} {M : Mem} {M0 : Mem} (hQ : ∀ z0, K8 M0 z0 → Q z0 → Q' z0) (hX : ∀ z0, K8 M0 z0 → X z0 → X' z0) : K8 M0 M → w_Works_work1_j296 this Q X s0 M → w_Works_work1_j296 this Q' X' s0 M := by
  intro hf
  unfold w_Works_work1_j296
  exact (hQ _ (K8.wI rfl hf))
set_option maxRecDepth 20000 in
theorem m8_w_Works_work1_j264 {this : Nat} {Q Q' : Mem → Prop} {X X' : Mem → Prop} {v5 : Nat} {s0 : Int32} {M : Mem} {M0 : Mem} (hQ : ∀ z0, K8 M0 z0 → Q z0 → Q' z0) (hX : ∀ z0, K8 M0 z0 → X z0 → X' z0) : K8 M0 M → w_Works_work1_j264 this Q X v5 s0 M → w_Works_work1_j264 this Q' X' v5 s0 M := by
  intro hf
  unfold w_Works_work1_j264
  exact (mf_ite (m8_w_Works_work1_j296 hQ hX (K8.wI rfl hf)) (mf_w_JMath_max (fun r21 M20 f1 => (m8_w_Works_work1_j296 hQ hX (K8.trans (K8.wI rfl hf) (K8.fr f1 rfl))))))
set_option maxRecDepth 20000 in
theorem m8_w_Works_work1_j64 {this : Nat} {Q Q' : Mem → Prop} {X X' : Mem → Prop} {s0 : Nat} {M : Mem} {M0 : Mem} (hQ : ∀ z0, K8 M0 z0 → Q z0 → Q' z0) (hX : ∀ z0, K8 M0 z0 → X z0 → X' z0) : K8 M0 M → w_Works_work1_j64 this Q X s0 M → w_Works_work1_j64 this Q' X' s0 M := by
  intro hf
  unfold w_Works_work1_j64
  exact (Exists.imp fun M23 => (mf_and fun e1 => (hQ _ (K8.of e1 (K8.wI rfl (K8.wI rfl hf))))))
set_option maxRecDepth 20000 in
theorem m8_w_Works_work1_j27 {this : Nat} {Q Q' : Mem → Prop} {X X' : Mem → Prop} {v1 : Nat} {v2 : Int32} {v3 : Int32} {v4 : Int32} {M : Mem} {M0 : Mem} (hQ : ∀ z0, K8 M0 z0 → Q z0 → Q' z0) (hX : ∀ z0, K8 M0 z0 → X z0 → X' z0) : K8 M0 M → w_Works_work1_j27 this Q X v1 v2 v3 v4 M → w_Works_work1_j27 this Q' X' v1 v2 v3 v4 M := by
  intro hf
  unfold w_Works_work1_j27
  exact (mf_w_World_begin (fun M2 f1 => (mf_and fun _ => (mf_w_Reader_define (fun r5 M4 f2 => (mf_w_Words_begin (fun M6 f3 => (mf_w_Words_next (fun M7 f4 => (mf_w_Words_next (fun M8 f5 => (mf_w_Reader_call (fun M9 f6 => (mf_and fun _ => (Exists.imp fun i11 => (mf_and fun _ => (mf_w_Line_call (fun M12 f7 => (m8_w_Machine_go (fun r14 M13 f8 => (mf_ite (hQ _ (K8.wI rfl (K8.wI rfl (K8.trans (K8.trans (K8.trans (K8.trans (K8.trans (K8.wI rfl (K8.trans (K8.trans (K8.wI rfl (K8.trans hf (K8.fr f1 rfl))) (K8.fr f2 rfl)) (K8.fr f3 rfl))) (K8.fr f4 rfl)) (K8.fr f5 rfl)) (K8.fr f6 rfl)) (K8.fr f7 rfl)) (KM.use f8 (K35.fr f7 rfl (K35.fr f6 rfl (K35.fr f5 rfl (K35.fr f4 rfl (K35.wI rfl (K35.fr f3 rfl (K35.fr f2 rfl (K35.set _))))))))))))) (mf_ite (mf_ite (m8_w_Works_work1_j242 hQ hX (K8.wI rfl (K8.wI rfl (K8.trans (K8.trans (K8.trans (K8.trans (K8.trans (K8.wI rfl (K8.trans (K8.trans (K8.wI rfl (K8.trans hf (K8.fr f1 rfl))) (K8.fr f2 rfl)) (K8.fr f3 rfl))) (K8.fr f4 rfl)) (K8.fr f5 rfl)) (K8.fr f6 rfl)) (K8.fr f7 rfl)) (KM.use f8 (K35.fr f7 rfl (K35.fr f6 rfl (K35.fr f5 rfl (K35.fr f4 rfl (K35.wI rfl (K35.fr f3 rfl (K35.fr f2 rfl (K35.set _))))))))))))) (m8_w_Works_work1_j242 hQ hX (K8.wI rfl (K8.wI rfl (K8.trans (K8.trans (K8.trans (K8.trans (K8.trans (K8.wI rfl (K8.trans (K8.trans (K8.wI rfl (K8.trans hf (K8.fr f1 rfl))) (K8.fr f2 rfl)) (K8.fr f3 rfl))) (K8.fr f4 rfl)) (K8.fr f5 rfl)) (K8.fr f6 rfl)) (K8.fr f7 rfl)) (KM.use f8 (K35.fr f7 rfl (K35.fr f6 rfl (K35.fr f5 rfl (K35.fr f4 rfl (K35.wI rfl (K35.fr f3 rfl (K35.fr f2 rfl (K35.set _)))))))))))))) (mf_ite (m8_w_Works_work1_j264 hQ hX (K8.wI rfl (K8.trans (K8.trans (K8.trans (K8.trans (K8.trans (K8.wI rfl (K8.trans (K8.trans (K8.wI rfl (K8.trans hf (K8.fr f1 rfl))) (K8.fr f2 rfl)) (K8.fr f3 rfl))) (K8.fr f4 rfl)) (K8.fr f5 rfl)) (K8.fr f6 rfl)) (K8.fr f7 rfl)) (KM.use f8 (K35.fr f7 rfl (K35.fr f6 rfl (K35.fr f5 rfl (K35.fr f4 rfl (K35.wI rfl (K35.fr f3 rfl (K35.fr f2 rfl (K35.set _)))))))))))) (m8_w_Works_work1_j264 hQ hX (K8.wI rfl (K8.trans (K8.trans (K8.trans (K8.trans (K8.trans (K8.wI rfl (K8.trans (K8.trans (K8.wI rfl (K8.trans hf (K8.fr f1 rfl))) (K8.fr f2 rfl)) (K8.fr f3 rfl))) (K8.fr f4 rfl)) (K8.fr f5 rfl)) (K8.fr f6 rfl)) (K8.fr f7 rfl)) (KM.use f8 (K35.fr f7 rfl (K35.fr f6 rfl (K35.fr f5 rfl (K35.fr f4 rfl (K35.wI rfl (K35.fr f3 rfl (K35.fr f2 rfl (K35.set _))))))))))))))))))))))) (fun z10 f9 => hX z10 (K8.trans (K8.trans (K8.trans (K8.wI rfl (K8.trans (K8.trans (K8.wI rfl (K8.trans hf (K8.fr f1 rfl))) (K8.fr f2 rfl)) (K8.fr f3 rfl))) (K8.fr f4 rfl)) (K8.fr f5 rfl)) (K8.fr f9 rfl))))))))))) (fun M22 f11 => (m8_w_Works_work1_j64 hQ hX (K8.trans (K8.wI rfl (K8.trans hf (K8.fr f1 rfl))) (K8.fr f11 rfl))))))))
set_option maxRecDepth 20000 in
theorem m8_w_Works_work1_L5 {this : Nat} {Q Q' : Mem → Prop} {X X' : Mem → Prop} {M0 : Mem} (hQ : ∀ z0, K8 M0 z0 → Q z0 → Q' z0) (hX : ∀ z0, K8 M0 z0 → X z0 → X' z0) : ∀ (n : Nat) (v1 : Nat) (v2 : Int32) (v3 : Int32) (v4 : Int32) (M : Mem), K8 M0 M → w_Works_work1_L5 this Q X n v1 v2 v3 v4 M → w_Works_work1_L5 this Q' X' n v1 v2 v3 v4 M
  | 0, _, _, _, _, _ => fun _ h => h
  | n + 1, v1, v2, v3, v4, M => fun hf => by
    unfold w_Works_work1_L5
    exact (mf_ite (m8_w_Works_work1_j27 hQ hX hf) (mf_and fun _ => (mf_ite (m8_w_Works_work1_j27 hQ hX hf) (m8_w_Works_work1_L5 hQ hX _ _ _ _ _ _ hf))))
set_option maxRecDepth 20000 in
theorem m8_w_Works_work1 {this : Nat} {a1 : Nat} {a2 : Int32} {a3 : Int32} {Q Q' : Mem → Prop} {X X' : Mem → Prop} {M : Mem} (hQ : ∀ z0, K8 M z0 → Q z0 → Q' z0) (hX : ∀ z0, K8 M z0 → X z0 → X' z0) : w_Works_work1 this a1 a2 a3 Q X M → w_Works_work1 this a1 a2 a3 Q' X' M := by
  unfold w_Works_work1
  exact (Exists.imp fun n26 => (m8_w_Works_work1_L5 hQ hX _ _ _ _ _ _ (K8.rf M)))
set_option maxRecDepth 20000 in
theorem m8_w_Works_work2_j72 {this : Nat} {Q Q' : Mem → Prop} {X X' : Mem → Prop} {v1 : Int32} {v2 : Int32} {v3 : Int32} {v4 : Int32} {M : Mem} {M0 : Mem} (hQ : ∀ z0, K8 M0 z0 → Q z0 → Q' z0) (hX : ∀ z0, K8 M0 z0 → X z0 → X' z0) : K8 M0 M → w_Works_work2_j72 this Q X v1 v2 v3 v4 M → w_Works_work2_j72 this Q' X' v1 v2 v3 v4 M := by
  intro hf
  unfold w_Works_work2_j72
  exact (mf_and fun _ => (Exists.imp fun i4 => (mf_and fun _ => (mf_and fun _ => (m8_w_Works_work1 (fun M6 f1 => (mf_ite (mf_and fun _ => (mf_and fun _ => (Exists.imp fun M10 => (mf_and fun e2 => (mf_and fun _ => (hQ _ (K8.wI rfl (K8.of e2 (K8.wI rfl (K8.wI rfl (K8.trans hf f1))))))))))) (hQ _ (K8.trans hf f1)))) (fun z4 f3 => hX z4 (K8.trans hf f3)))))))
set_option maxRecDepth 20000 in
theorem m8_w_Works_work2_j26 {this : Nat} {Q Q' : Mem → Prop} {X X' : Mem → Prop} {v1 : Int32} {v2 : Int32} {s0 : Int32} {M : Mem} {M0 : Mem} (hQ : ∀ z0, K8 M0 z0 → Q z0 → Q' z0) (hX : ∀ z0, K8 M0 z0 → X z0 → X' z0) : K8 M0 M → w_Works_work2_j26 this Q X v1 v2 s0 M → w_Works_work2_j26 this Q' X' v1 v2 s0 M := by
  intro hf
  unfold w_Works_work2_j26
  exact (mf_ite (m8_w_Works_work2_j72 hQ hX hf) (mf_and fun _ => (mf_ite (m8_w_Works_work2_j72 hQ hX hf) (mf_and fun _ => (Exists.imp fun M15 => (mf_and fun e1 => (mf_and fun _ => (Exists.imp fun M17 => (mf_and fun e2 => (hQ _ (K8.of e2 (K8.wI rfl (K8.of e1 (K8.wI rfl hf))))))))))))))
set_option maxRecDepth 20000 in
theorem m8_w_Works_work2 {this : Nat} {a1 : Int32} {a2 : Int32} {Q Q' : Mem → Prop} {X X' : Mem → Prop} {M : Mem} (hQ : ∀ z0, K8 M z0 → Q z0 → Q' z0) (hX : ∀ z0, K8 M z0 → X z0 → X' z0) : w_Works_work2 this a1 a2 Q X M → w_Works_work2 this a1 a2 Q' X' M := by
  unfold w_Works_work2
  exact (mf_ite (m8_w_Works_work2_j26 hQ hX (K8.rf M)) (mf_w_JInteger_bitCount (fun r19 M18 f1 => (mf_ite (mf_w_JInteger_numberOfTrailingZeros (fun r22 M21 f2 => (m8_w_Works_work2_j26 hQ hX (K8.trans (K8.trans (K8.rf M) (K8.fr f1 rfl)) (K8.fr f2 rfl))))) (m8_w_Works_work2_j26 hQ hX (K8.trans (K8.rf M) (K8.fr f1 rfl)))))))
set_option maxRecDepth 20000 in
theorem m8_w_Works_ruleMet_j40 {this : Nat} {Q Q' : Int32 → Mem → Prop} {X X' : Mem → Prop} {s0 : Int32} {M : Mem} {M0 : Mem} (hQ : ∀ z0 z1, K8 M0 z1 → Q z0 z1 → Q' z0 z1) (hX : ∀ z0, K8 M0 z0 → X z0 → X' z0) : K8 M0 M → w_Works_ruleMet_j40 this Q X s0 M → w_Works_ruleMet_j40 this Q' X' s0 M := by
  intro hf
  unfold w_Works_ruleMet_j40
  exact (mf_w_Works_isRule (fun r4 M3 f1 => (mf_ite (hQ _ _ (K8.trans hf (K8.fr f1 rfl))) (hQ _ _ (K8.trans hf (K8.fr f1 rfl))))))
set_option maxRecDepth 20000 in
theorem m8_w_Works_ruleMet {this : Nat} {a1 : Int32} {Q Q' : Int32 → Mem → Prop} {X X' : Mem → Prop} {M : Mem} (hQ : ∀ z0 z1, K8 M z1 → Q z0 z1 → Q' z0 z1) (hX : ∀ z0, K8 M z0 → X z0 → X' z0) : w_Works_ruleMet this a1 Q X M → w_Works_ruleMet this a1 Q' X' M := by
  unfold w_Works_ruleMet
  exact (m8_w_Works_work2 (fun M1 f1 => (mf_ite (m8_w_Works_ruleMet_j40 hQ hX (K8.trans (K8.rf M) f1)) (mf_ite (mf_and fun _ => (m8_w_Works_ruleMet_j40 hQ hX (K8.trans (K8.rf M) f1))) (m8_w_Works_ruleMet_j40 hQ hX (K8.trans (K8.rf M) f1))))) (fun z3 f2 => hX z3 (K8.trans (K8.rf M) f2)))
set_option maxRecDepth 20000 in
theorem m8_w_Works_finds0 {this : Nat} {a1 : Int32} {a2 : Int32} {Q Q' : Int32 → Mem → Prop} {X X' : Mem → Prop} {M : Mem} (hQ : ∀ z0 z1, K8 M z1 → Q z0 z1 → Q' z0 z1) (hX : ∀ z0, K8 M z0 → X z0 → X' z0) : w_Works_finds0 this a1 a2 Q X M → w_Works_finds0 this a1 a2 Q' X' M := by
  unfold w_Works_finds0
  exact (m8_w_Works_work2 (fun M1 f1 => (m8_w_Works_work2 (fun M2 f2 => (mf_ite (mf_ite (hQ _ _ (K8.trans (K8.trans (K8.rf M) f1) f2)) (hQ _ _ (K8.trans (K8.trans (K8.rf M) f1) f2))) (hQ _ _ (K8.trans (K8.trans (K8.rf M) f1) f2)))) (fun z4 f3 => hX z4 (K8.trans (K8.trans (K8.rf M) f1) f3)))) (fun z6 f5 => hX z6 (K8.trans (K8.rf M) f5)))
set_option maxRecDepth 20000 in
theorem m8_w_Works_breaksFound_j29 {this : Nat} {Q Q' : Int32 → Mem → Prop} {X X' : Mem → Prop} {k4 k4' : Int32 → Int32 → Int32 → Mem → Prop} {v1 : Int32} {v3 : Int32} {s0 : Int32} {s1 : Int32} {M : Mem} {M0 : Mem} (hQ : ∀ z0 z1, K8 M0 z1 → Q z0 z1 → Q' z0 z1) (hX : ∀ z0, K8 M0 z0 → X z0 → X' z0) (hk4 : ∀ z0 z1 z2 z3, K8 M0 z3 → k4 z0 z1 z2 z3 → k4' z0 z1 z2 z3) : K8 M0 M → w_Works_breaksFound_j29 this Q X k4 v1 v3 s0 s1 M → w_Works_breaksFound_j29 this Q' X' k4' v1 v3 s0 s1 M := by
  intro hf
  unfold w_Works_breaksFound_j29
  exact (hk4 _ _ _ _ hf)
set_option maxRecDepth 20000 in
theorem m8_w_Works_breaksFound_L4 {this : Nat} {Q Q' : Int32 → Mem → Prop} {X X' : Mem → Prop} {M0 : Mem} (hQ : ∀ z0 z1, K8 M0 z1 → Q z0 z1 → Q' z0 z1) (hX : ∀ z0, K8 M0 z0 → X z0 → X' z0) : ∀ (n : Nat) (v1 : Int32) (v2 : Int32) (v3 : Int32) (M : Mem), K8 M0 M → w_Works_breaksFound_L4 this Q X n v1 v2 v3 M → w_Works_breaksFound_L4 this Q' X' n v1 v2 v3 M
  | 0, _, _, _, _ => fun _ h => h
  | n + 1, v1, v2, v3, M => fun hf => by
    unfold w_Works_breaksFound_L4
    exact (mf_ite (hQ _ _ hf) (m8_w_Works_finds0 (fun r3 M2 f1 => (mf_ite (m8_w_Works_breaksFound_j29 hQ hX (m8_w_Works_breaksFound_L4 hQ hX n) (K8.trans hf f1)) (m8_w_Works_breaksFound_j29 hQ hX (m8_w_Works_breaksFound_L4 hQ hX n) (K8.trans hf f1)))) (fun z3 f2 => hX z3 (K8.trans hf f2))))
set_option maxRecDepth 20000 in
theorem m8_w_Works_breaksFound {this : Nat} {a1 : Int32} {Q Q' : Int32 → Mem → Prop} {X X' : Mem → Prop} {M : Mem} (hQ : ∀ z0 z1, K8 M z1 → Q z0 z1 → Q' z0 z1) (hX : ∀ z0, K8 M z0 → X z0 → X' z0) : w_Works_breaksFound this a1 Q X M → w_Works_breaksFound this a1 Q' X' M := by
  unfold w_Works_breaksFound
  exact (Exists.imp fun n5 => (m8_w_Works_breaksFound_L4 hQ hX _ _ _ _ _ (K8.rf M)))
set_option maxRecDepth 20000 in
theorem m8_w_Works_meetOne_j92 {this : Nat} {Q Q' : Mem → Prop} {X X' : Mem → Prop} {k14 k14' : Int32 → Int32 → Int32 → Mem → Prop} {v1 : Int32} {v2 : Int32} {v3 : Int32} {M : Mem} {M0 : Mem} (hQ : ∀ z0, K8 M0 z0 → Q z0 → Q' z0) (hX : ∀ z0, K8 M0 z0 → X z0 → X' z0) (hk14 : ∀ z0 z1 z2 z3, K8 M0 z3 → k14 z0 z1 z2 z3 → k14' z0 z1 z2 z3) : K8 M0 M → w_Works_meetOne_j92 this Q X k14 v1 v2 v3 M → w_Works_meetOne_j92 this Q' X' k14' v1 v2 v3 M := by
  intro hf
  unfold w_Works_meetOne_j92
  exact (hk14 _ _ _ _ hf)
set_option maxRecDepth 20000 in
theorem m8_w_Works_meetOne_L46 {this : Nat} {Q Q' : Mem → Prop} {X X' : Mem → Prop} {k14 k14' : Int32 → Int32 → Int32 → Mem → Prop} {M0 : Mem} (hQ : ∀ z0, K8 M0 z0 → Q z0 → Q' z0) (hX : ∀ z0, K8 M0 z0 → X z0 → X' z0) (hk14 : ∀ z0 z1 z2 z3, K8 M0 z3 → k14 z0 z1 z2 z3 → k14' z0 z1 z2 z3) : ∀ (n : Nat) (v1 : Int32) (v2 : Int32) (v3 : Int32) (v4 : Int32) (v5 : Int32) (M : Mem), K8 M0 M → w_Works_meetOne_L46 this Q X k14 n v1 v2 v3 v4 v5 M → w_Works_meetOne_L46 this Q' X' k14' n v1 v2 v3 v4 v5 M
  | 0, _, _, _, _, _, _ => fun _ h => h
  | n + 1, v1, v2, v3, v4, v5, M => fun hf => by
    unfold w_Works_meetOne_L46
    exact (mf_ite (m8_w_Works_meetOne_j92 hQ hX hk14 hf) (mf_and fun _ => (mf_and fun _ => (mf_w_JMath_min (fun r20 M19 f1 => (mf_and fun _ => (m8_w_Works_meetOne_L46 hQ hX hk14 _ _ _ _ _ _ _ (K8.wI rfl (K8.trans hf (K8.fr f1 rfl))))))))))
set_option maxRecDepth 20000 in
theorem m8_w_Works_meetOne_L14 {this : Nat} {Q Q' : Mem → Prop} {X X' : Mem → Prop} {M0 : Mem} (hQ : ∀ z0, K8 M0 z0 → Q z0 → Q' z0) (hX : ∀ z0, K8 M0 z0 → X z0 → X' z0) : ∀ (n : Nat) (v1 : Int32) (v2 : Int32) (v3 : Int32) (M : Mem), K8 M0 M → w_Works_meetOne_L14 this Q X n v1 v2 v3 M → w_Works_meetOne_L14 this Q' X' n v1 v2 v3 M
  | 0, _, _, _, _ => fun _ h => h
  | n + 1, v1, v2, v3, M => fun hf => by
    unfold w_Works_meetOne_L14
    exact (mf_ite (mf_ite (hQ _ hf) (mf_and fun _ => (mf_and fun _ => (mf_and fun _ => (mf_and fun _ => (mf_and fun _ => (Exists.imp fun M5 => (mf_and fun e1 => (hQ _ (K8.of e1 (K8.wc rfl hf))))))))))) (m8_w_Works_ruleMet (fun r12 M11 f2 => (mf_ite (m8_w_Works_breaksFound (fun r15 M14 f3 => (Exists.imp fun n22 => (m8_w_Works_meetOne_L46 hQ hX (m8_w_Works_meetOne_L14 hQ hX n) _ _ _ _ _ _ _ (K8.trans (K8.trans hf f2) f3)))) (fun z5 f4 => hX z5 (K8.trans (K8.trans hf f2) f4))) (m8_w_Works_meetOne_j92 hQ hX (m8_w_Works_meetOne_L14 hQ hX n) (K8.trans hf f2)))) (fun z7 f6 => hX z7 (K8.trans hf f6))))
set_option maxRecDepth 20000 in
theorem m8_w_Works_meetOne {this : Nat} {a1 : Int32} {Q Q' : Mem → Prop} {X X' : Mem → Prop} {M : Mem} (hQ : ∀ z0, K8 M z0 → Q z0 → Q' z0) (hX : ∀ z0, K8 M z0 → X z0 → X' z0) : w_Works_meetOne this a1 Q X M → w_Works_meetOne this a1 Q' X' M := by
  unfold w_Works_meetOne
  exact (mf_and fun _ => (Exists.imp fun M1 => (mf_and fun e1 => (Exists.imp fun n23 => (m8_w_Works_meetOne_L14 hQ hX _ _ _ _ _ (K8.of e1 (K8.wf rfl (K8.rf M))))))))
set_option maxRecDepth 20000 in
theorem m8_w_Works_fewest_L98 {this : Nat} {Q Q' : Int32 → Mem → Prop} {X X' : Mem → Prop} {k72 k72' : Int32 → Int32 → Mem → Prop} {k80 k80' : Int32 → Int32 → Int32 → Mem → Prop} {M0 : Mem} (hQ : ∀ z0 z1, K8 M0 z1 → Q z0 z1 → Q' z0 z1) (hX : ∀ z0, K8 M0 z0 → X z0 → X' z0) (hk72 : ∀ z0 z1 z2, K8 M0 z2 → k72 z0 z1 z2 → k72' z0 z1 z2) (hk80 : ∀ z0 z1 z2 z3, K8 M0 z3 → k80 z0 z1 z2 z3 → k80' z0 z1 z2 z3) : ∀ (n : Nat) (v1 : Int32) (v2 : Int32) (v3 : Int32) (v4 : Int32) (v5 : Int32) (M : Mem), K8 M0 M → w_Works_fewest_L98 this Q X k72 k80 n v1 v2 v3 v4 v5 M → w_Works_fewest_L98 this Q' X' k72' k80' n v1 v2 v3 v4 v5 M
  | 0, _, _, _, _, _, _ => fun _ h => h
  | n + 1, v1, v2, v3, v4, v5, M => fun hf => by
    unfold w_Works_fewest_L98
    exact (mf_ite (hk80 _ _ _ _ hf) (mf_and fun _ => (mf_and fun _ => (mf_w_JMath_min (fun r15 M14 f1 => (mf_and fun _ => (m8_w_Works_fewest_L98 hQ hX hk72 hk80 _ _ _ _ _ _ _ (K8.wI rfl (K8.trans hf (K8.fr f1 rfl))))))))))
set_option maxRecDepth 20000 in
theorem m8_w_Works_fewest_L80 {this : Nat} {Q Q' : Int32 → Mem → Prop} {X X' : Mem → Prop} {k72 k72' : Int32 → Int32 → Mem → Prop} {M0 : Mem} (hQ : ∀ z0 z1, K8 M0 z1 → Q z0 z1 → Q' z0 z1) (hX : ∀ z0, K8 M0 z0 → X z0 → X' z0) (hk72 : ∀ z0 z1 z2, K8 M0 z2 → k72 z0 z1 z2 → k72' z0 z1 z2) : ∀ (n : Nat) (v1 : Int32) (v2 : Int32) (v3 : Int32) (M : Mem), K8 M0 M → w_Works_fewest_L80 this Q X k72 n v1 v2 v3 M → w_Works_fewest_L80 this Q' X' k72' n v1 v2 v3 M
  | 0, _, _, _, _ => fun _ h => h
  | n + 1, v1, v2, v3, M => fun hf => by
    unfold w_Works_fewest_L80
    exact (mf_ite (hk72 _ _ _ hf) (m8_w_Works_breaksFound (fun r10 M9 f1 => (Exists.imp fun n17 => (m8_w_Works_fewest_L98 hQ hX hk72 (m8_w_Works_fewest_L80 hQ hX hk72 n) _ _ _ _ _ _ _ (K8.trans hf f1)))) (fun z3 f2 => hX z3 (K8.trans hf f2))))
set_option maxRecDepth 20000 in
theorem m8_w_Works_fewest_L72 {this : Nat} {Q Q' : Int32 → Mem → Prop} {X X' : Mem → Prop} {M0 : Mem} (hQ : ∀ z0 z1, K8 M0 z1 → Q z0 z1 → Q' z0 z1) (hX : ∀ z0, K8 M0 z0 → X z0 → X' z0) : ∀ (n : Nat) (v1 : Int32) (v2 : Int32) (M : Mem), K8 M0 M → w_Works_fewest_L72 this Q X n v1 v2 M → w_Works_fewest_L72 this Q' X' n v1 v2 M
  | 0, _, _, _ => fun _ h => h
  | n + 1, v1, v2, M => fun hf => by
    unfold w_Works_fewest_L72
    exact (mf_ite (mf_and fun _ => (hQ _ _ hf)) (Exists.imp fun n18 => (m8_w_Works_fewest_L80 hQ hX (m8_w_Works_fewest_L72 hQ hX n) _ _ _ _ _ hf)))
set_option maxRecDepth 20000 in
theorem m8_w_Works_fewest_j64 {this : Nat} {Q Q' : Int32 → Mem → Prop} {X X' : Mem → Prop} {k45 k45' : Int32 → Int32 → Mem → Prop} {v1 : Int32} {v2 : Int32} {M : Mem} {M0 : Mem} (hQ : ∀ z0 z1, K8 M0 z1 → Q z0 z1 → Q' z0 z1) (hX : ∀ z0, K8 M0 z0 → X z0 → X' z0) (hk45 : ∀ z0 z1 z2, K8 M0 z2 → k45 z0 z1 z2 → k45' z0 z1 z2) : K8 M0 M → w_Works_fewest_j64 this Q X k45 v1 v2 M → w_Works_fewest_j64 this Q' X' k45' v1 v2 M := by
  intro hf
  unfold w_Works_fewest_j64
  exact (hk45 _ _ _ hf)
set_option maxRecDepth 20000 in
theorem m8_w_Works_fewest_L45 {this : Nat} {Q Q' : Int32 → Mem → Prop} {X X' : Mem → Prop} {M0 : Mem} (hQ : ∀ z0 z1, K8 M0 z1 → Q z0 z1 → Q' z0 z1) (hX : ∀ z0, K8 M0 z0 → X z0 → X' z0) : ∀ (n : Nat) (v1 : Int32) (v2 : Int32) (M : Mem), K8 M0 M → w_Works_fewest_L45 this Q X n v1 v2 M → w_Works_fewest_L45 this Q' X' n v1 v2 M
  | 0, _, _, _ => fun _ h => h
  | n + 1, v1, v2, M => fun hf => by
    unfold w_Works_fewest_L45
    exact (mf_ite (Exists.imp fun n19 => (m8_w_Works_fewest_L72 hQ hX _ _ _ _ hf)) (mf_w_Works_isRule (fun r21 M20 f1 => (mf_ite (m8_w_Works_fewest_j64 hQ hX (m8_w_Works_fewest_L45 hQ hX n) (K8.trans hf (K8.fr f1 rfl))) (m8_w_Works_meetOne (fun M23 f2 => (m8_w_Works_fewest_j64 hQ hX (m8_w_Works_fewest_L45 hQ hX n) (K8.trans (K8.trans hf (K8.fr f1 rfl)) f2))) (fun z4 f3 => hX z4 (K8.trans (K8.trans hf (K8.fr f1 rfl)) f3)))))))
set_option maxRecDepth 20000 in
theorem m8_w_Works_fewest_L4 {this : Nat} {Q Q' : Int32 → Mem → Prop} {X X' : Mem → Prop} {M0 : Mem} (hQ : ∀ z0 z1, K8 M0 z1 → Q z0 z1 → Q' z0 z1) (hX : ∀ z0, K8 M0 z0 → X z0 → X' z0) : ∀ (n : Nat) (v1 : Int32) (v2 : Int32) (M : Mem), K8 M0 M → w_Works_fewest_L4 this Q X n v1 v2 M → w_Works_fewest_L4 this Q' X' n v1 v2 M
  | 0, _, _, _ => fun _ h => h
  | n + 1, v1, v2, M => fun hf => by
    unfold w_Works_fewest_L4
    exact (mf_ite (mf_and fun _ => (Exists.imp fun M2 => (mf_and fun e1 => (mf_and fun _ => (Exists.imp fun n24 => (m8_w_Works_fewest_L45 hQ hX _ _ _ _ (K8.wI rfl (K8.of e1 (K8.wf rfl hf))))))))) (m8_w_Works_breaksFound (fun r26 M25 f2 => (m8_w_Works_fewest_L4 hQ hX _ _ _ _ (K8.trans hf f2))) (fun z4 f3 => hX z4 (K8.trans hf f3))))
set_option maxRecDepth 20000 in
theorem m8_w_Works_fewest {this : Nat} {Q Q' : Int32 → Mem → Prop} {X X' : Mem → Prop} {M : Mem} (hQ : ∀ z0 z1, K8 M z1 → Q z0 z1 → Q' z0 z1) (hX : ∀ z0, K8 M z0 → X z0 → X' z0) : w_Works_fewest this Q X M → w_Works_fewest this Q' X' M := by
  unfold w_Works_fewest
  exact (Exists.imp fun n27 => (m8_w_Works_fewest_L4 hQ hX _ _ _ _ (K8.rf M)))
set_option maxRecDepth 20000 in
theorem m8_w_Works_outcome {this : Nat} {a1 : Int32} {a2 : Int32} {a3 : Int32} {Q Q' : Int32 → Mem → Prop} {X X' : Mem → Prop} {M : Mem} (hQ : ∀ z0 z1, K8 M z1 → Q z0 z1 → Q' z0 z1) (hX : ∀ z0, K8 M z0 → X z0 → X' z0) : w_Works_outcome this a1 a2 a3 Q X M → w_Works_outcome this a1 a2 a3 Q' X' M := by
  unfold w_Works_outcome
  exact (mf_w_Works_isTrial (fun r2 M1 f1 => (mf_ite (hQ _ _ (K8.trans (K8.rf M) (K8.fr f1 rfl))) (mf_w_Works_isIn (fun r5 M4 f2 => (mf_ite (hQ _ _ (K8.trans (K8.trans (K8.rf M) (K8.fr f1 rfl)) (K8.fr f2 rfl))) (mf_w_Works_isIn (fun r8 M7 f3 => (mf_ite (hQ _ _ (K8.trans (K8.trans (K8.trans (K8.rf M) (K8.fr f1 rfl)) (K8.fr f2 rfl)) (K8.fr f3 rfl))) (m8_w_Works_work2 (fun M10 f4 => (mf_ite (hQ _ _ (K8.trans (K8.trans (K8.trans (K8.trans (K8.rf M) (K8.fr f1 rfl)) (K8.fr f2 rfl)) (K8.fr f3 rfl)) f4)) (hQ _ _ (K8.trans (K8.trans (K8.trans (K8.trans (K8.rf M) (K8.fr f1 rfl)) (K8.fr f2 rfl)) (K8.fr f3 rfl)) f4)))) (fun z6 f5 => hX z6 (K8.trans (K8.trans (K8.trans (K8.trans (K8.rf M) (K8.fr f1 rfl)) (K8.fr f2 rfl)) (K8.fr f3 rfl)) f5))))))))))))
set_option maxRecDepth 20000 in
theorem m8_w_Works_meets {this : Nat} {a1 : Int32} {Q Q' : Int32 → Mem → Prop} {X X' : Mem → Prop} {M : Mem} (hQ : ∀ z0 z1, K8 M z1 → Q z0 z1 → Q' z0 z1) (hX : ∀ z0, K8 M z0 → X z0 → X' z0) : w_Works_meets this a1 Q X M → w_Works_meets this a1 Q' X' M := by
  unfold w_Works_meets
  exact (mf_w_Works_isTrial (fun r2 M1 f1 => (mf_ite (hQ _ _ (K8.trans (K8.rf M) (K8.fr f1 rfl))) (m8_w_Works_ruleMet (fun r5 M4 f2 => (hQ _ _ (K8.trans (K8.trans (K8.rf M) (K8.fr f1 rfl)) f2))) (fun z4 f3 => hX z4 (K8.trans (K8.trans (K8.rf M) (K8.fr f1 rfl)) f3))))))
set_option maxRecDepth 20000 in
theorem m8_w_Works_finds {this : Nat} {a1 : Int32} {a2 : Int32} {Q Q' : Int32 → Mem → Prop} {X X' : Mem → Prop} {M : Mem} (hQ : ∀ z0 z1, K8 M z1 → Q z0 z1 → Q' z0 z1) (hX : ∀ z0, K8 M z0 → X z0 → X' z0) : w_Works_finds this a1 a2 Q X M → w_Works_finds this a1 a2 Q' X' M := by
  unfold w_Works_finds
  exact (mf_w_Works_isTrial (fun r2 M1 f1 => (mf_ite (hQ _ _ (K8.trans (K8.rf M) (K8.fr f1 rfl))) (mf_w_Works_isIn (fun r5 M4 f2 => (mf_ite (hQ _ _ (K8.trans (K8.trans (K8.rf M) (K8.fr f1 rfl)) (K8.fr f2 rfl))) (m8_w_Works_finds0 (fun r8 M7 f3 => (mf_ite (hQ _ _ (K8.trans (K8.trans (K8.trans (K8.rf M) (K8.fr f1 rfl)) (K8.fr f2 rfl)) f3)) (hQ _ _ (K8.trans (K8.trans (K8.trans (K8.rf M) (K8.fr f1 rfl)) (K8.fr f2 rfl)) f3)))) (fun z5 f4 => hX z5 (K8.trans (K8.trans (K8.trans (K8.rf M) (K8.fr f1 rfl)) (K8.fr f2 rfl)) f4)))))))))
set_option maxRecDepth 20000 in
theorem m8_w_Works_hole_j87 {this : Nat} {Q Q' : Int32 → Mem → Prop} {X X' : Mem → Prop} {k10 k10' : Int32 → Int32 → Mem → Prop} {v2 : Int32} {v3 : Int32} {M : Mem} {M0 : Mem} (hQ : ∀ z0 z1, K8 M0 z1 → Q z0 z1 → Q' z0 z1) (hX : ∀ z0, K8 M0 z0 → X z0 → X' z0) (hk10 : ∀ z0 z1 z2, K8 M0 z2 → k10 z0 z1 z2 → k10' z0 z1 z2) : K8 M0 M → w_Works_hole_j87 this Q X k10 v2 v3 M → w_Works_hole_j87 this Q' X' k10' v2 v3 M := by
  intro hf
  unfold w_Works_hole_j87
  exact (hk10 _ _ _ hf)
set_option maxRecDepth 20000 in
theorem m8_w_Works_hole_j70 {this : Nat} {Q Q' : Int32 → Mem → Prop} {X X' : Mem → Prop} {k10 k10' : Int32 → Int32 → Mem → Prop} {v2 : Int32} {v3 : Int32} {v4 : Int32} {M : Mem} {M0 : Mem} (hQ : ∀ z0 z1, K8 M0 z1 → Q z0 z1 → Q' z0 z1) (hX : ∀ z0, K8 M0 z0 → X z0 → X' z0) (hk10 : ∀ z0 z1 z2, K8 M0 z2 → k10 z0 z1 z2 → k10' z0 z1 z2) : K8 M0 M → w_Works_hole_j70 this Q X k10 v2 v3 v4 M → w_Works_hole_j70 this Q' X' k10' v2 v3 v4 M := by
  intro hf
  unfold w_Works_hole_j70
  exact (mf_ite (mf_ite (hQ _ _ hf) (m8_w_Works_hole_j87 hQ hX hk10 hf)) (m8_w_Works_hole_j87 hQ hX hk10 hf))
set_option maxRecDepth 20000 in
theorem m8_w_Works_hole_j62 {this : Nat} {Q Q' : Int32 → Mem → Prop} {X X' : Mem → Prop} {k10 k10' : Int32 → Int32 → Mem → Prop} {k33 k33' : Int32 → Int32 → Int32 → Int32 → Mem → Prop} {v2 : Int32} {v3 : Int32} {v5 : Int32} {s0 : Int32} {M : Mem} {M0 : Mem} (hQ : ∀ z0 z1, K8 M0 z1 → Q z0 z1 → Q' z0 z1) (hX : ∀ z0, K8 M0 z0 → X z0 → X' z0) (hk10 : ∀ z0 z1 z2, K8 M0 z2 → k10 z0 z1 z2 → k10' z0 z1 z2) (hk33 : ∀ z0 z1 z2 z3 z4, K8 M0 z4 → k33 z0 z1 z2 z3 z4 → k33' z0 z1 z2 z3 z4) : K8 M0 M → w_Works_hole_j62 this Q X k10 k33 v2 v3 v5 s0 M → w_Works_hole_j62 this Q' X' k10' k33' v2 v3 v5 s0 M := by
  intro hf
  unfold w_Works_hole_j62
  exact (hk33 _ _ _ _ _ hf)
set_option maxRecDepth 20000 in
theorem m8_w_Works_hole_L33 {this : Nat} {Q Q' : Int32 → Mem → Prop} {X X' : Mem → Prop} {k10 k10' : Int32 → Int32 → Mem → Prop} {M0 : Mem} (hQ : ∀ z0 z1, K8 M0 z1 → Q z0 z1 → Q' z0 z1) (hX : ∀ z0, K8 M0 z0 → X z0 → X' z0) (hk10 : ∀ z0 z1 z2, K8 M0 z2 → k10 z0 z1 z2 → k10' z0 z1 z2) : ∀ (n : Nat) (v2 : Int32) (v3 : Int32) (v4 : Int32) (v5 : Int32) (M : Mem), K8 M0 M → w_Works_hole_L33 this Q X k10 n v2 v3 v4 v5 M → w_Works_hole_L33 this Q' X' k10' n v2 v3 v4 v5 M
  | 0, _, _, _, _, _ => fun _ h => h
  | n + 1, v2, v3, v4, v5, M => fun hf => by
    unfold w_Works_hole_L33
    exact (mf_ite (m8_w_Works_hole_j70 hQ hX hk10 hf) (mf_ite (m8_w_Works_ruleMet (fun r11 M10 f1 => (mf_ite (m8_w_Works_hole_j62 hQ hX hk10 (m8_w_Works_hole_L33 hQ hX hk10 n) (K8.trans hf f1)) (m8_w_Works_hole_j62 hQ hX hk10 (m8_w_Works_hole_L33 hQ hX hk10 n) (K8.trans hf f1)))) (fun z3 f2 => hX z3 (K8.trans hf f2))) (m8_w_Works_hole_j70 hQ hX hk10 hf)))
set_option maxRecDepth 20000 in
theorem m8_w_Works_hole_L10 {this : Nat} {Q Q' : Int32 → Mem → Prop} {X X' : Mem → Prop} {M0 : Mem} (hQ : ∀ z0 z1, K8 M0 z1 → Q z0 z1 → Q' z0 z1) (hX : ∀ z0, K8 M0 z0 → X z0 → X' z0) : ∀ (n : Nat) (v2 : Int32) (v3 : Int32) (M : Mem), K8 M0 M → w_Works_hole_L10 this Q X n v2 v3 M → w_Works_hole_L10 this Q' X' n v2 v3 M
  | 0, _, _, _ => fun _ h => h
  | n + 1, v2, v3, M => fun hf => by
    unfold w_Works_hole_L10
    exact (mf_ite (hQ _ _ hf) (mf_w_Works_isRule (fun r4 M3 f1 => (mf_ite (m8_w_Works_hole_j87 hQ hX (m8_w_Works_hole_L10 hQ hX n) (K8.trans hf (K8.fr f1 rfl))) (Exists.imp fun n13 => (m8_w_Works_hole_L33 hQ hX (m8_w_Works_hole_L10 hQ hX n) _ _ _ _ _ _ (K8.trans hf (K8.fr f1 rfl))))))))
set_option maxRecDepth 20000 in
theorem m8_w_Works_hole {this : Nat} {a1 : Int32} {Q Q' : Int32 → Mem → Prop} {X X' : Mem → Prop} {M : Mem} (hQ : ∀ z0 z1, K8 M z1 → Q z0 z1 → Q' z0 z1) (hX : ∀ z0, K8 M z0 → X z0 → X' z0) : w_Works_hole this a1 Q X M → w_Works_hole this a1 Q' X' M := by
  unfold w_Works_hole
  exact (mf_ite (Exists.imp fun n14 => (m8_w_Works_hole_L10 hQ hX _ _ _ _ (K8.rf M))) (hQ _ _ (K8.rf M)))
set_option maxRecDepth 20000 in
theorem m8_w_Works_isNeedless_j144 {this : Nat} {Q Q' : Int32 → Mem → Prop} {X X' : Mem → Prop} {k63 k63' : Int32 → Int32 → Int32 → Mem → Prop} {v1 : Int32} {v3 : Int32} {v4 : Int32} {M : Mem} {M0 : Mem} (hQ : ∀ z0 z1, K8 M0 z1 → Q z0 z1 → Q' z0 z1) (hX : ∀ z0, K8 M0 z0 → X z0 → X' z0) (hk63 : ∀ z0 z1 z2 z3, K8 M0 z3 → k63 z0 z1 z2 z3 → k63' z0 z1 z2 z3) : K8 M0 M → w_Works_isNeedless_j144 this Q X k63 v1 v3 v4 M → w_Works_isNeedless_j144 this Q' X' k63' v1 v3 v4 M := by
  intro hf
  unfold w_Works_isNeedless_j144
  exact (hk63 _ _ _ _ hf)
set_option maxRecDepth 20000 in
theorem m8_w_Works_isNeedless_j141 {this : Nat} {Q Q' : Int32 → Mem → Prop} {X X' : Mem → Prop} {k63 k63' : Int32 → Int32 → Int32 → Mem → Prop} {v1 : Int32} {v4 : Int32} {v5 : Int32} {M : Mem} {M0 : Mem} (hQ : ∀ z0 z1, K8 M0 z1 → Q z0 z1 → Q' z0 z1) (hX : ∀ z0, K8 M0 z0 → X z0 → X' z0) (hk63 : ∀ z0 z1 z2 z3, K8 M0 z3 → k63 z0 z1 z2 z3 → k63' z0 z1 z2 z3) : K8 M0 M → w_Works_isNeedless_j141 this Q X k63 v1 v4 v5 M → w_Works_isNeedless_j141 this Q' X' k63' v1 v4 v5 M := by
  intro hf
  unfold w_Works_isNeedless_j141
  exact (m8_w_Works_isNeedless_j144 hQ hX hk63 hf)
set_option maxRecDepth 20000 in
theorem m8_w_Works_isNeedless_j133 {this : Nat} {Q Q' : Int32 → Mem → Prop} {X X' : Mem → Prop} {k63 k63' : Int32 → Int32 → Int32 → Mem → Prop} {k95 k95' : Int32 → Int32 → Int32 → Int32 → Mem → Prop} {v1 : Int32} {v4 : Int32} {v6 : Int32} {s0 : Int32} {M : Mem} {M0 : Mem} (hQ : ∀ z0 z1, K8 M0 z1 → Q z0 z1 → Q' z0 z1) (hX : ∀ z0, K8 M0 z0 → X z0 → X' z0) (hk63 : ∀ z0 z1 z2 z3, K8 M0 z3 → k63 z0 z1 z2 z3 → k63' z0 z1 z2 z3) (hk95 : ∀ z0 z1 z2 z3 z4, K8 M0 z4 → k95 z0 z1 z2 z3 z4 → k95' z0 z1 z2 z3 z4) : K8 M0 M → w_Works_isNeedless_j133 this Q X k63 k95 v1 v4 v6 s0 M → w_Works_isNeedless_j133 this Q' X' k63' k95' v1 v4 v6 s0 M := by
  intro hf
  unfold w_Works_isNeedless_j133
  exact (hk95 _ _ _ _ _ hf)
set_option maxRecDepth 20000 in
theorem m8_w_Works_isNeedless_j132 {this : Nat} {Q Q' : Int32 → Mem → Prop} {X X' : Mem → Prop} {k63 k63' : Int32 → Int32 → Int32 → Mem → Prop} {k95 k95' : Int32 → Int32 → Int32 → Int32 → Mem → Prop} {v1 : Int32} {v4 : Int32} {v6 : Int32} {M : Mem} {M0 : Mem} (hQ : ∀ z0 z1, K8 M0 z1 → Q z0 z1 → Q' z0 z1) (hX : ∀ z0, K8 M0 z0 → X z0 → X' z0) (hk63 : ∀ z0 z1 z2 z3, K8 M0 z3 → k63 z0 z1 z2 z3 → k63' z0 z1 z2 z3) (hk95 : ∀ z0 z1 z2 z3 z4, K8 M0 z4 → k95 z0 z1 z2 z3 z4 → k95' z0 z1 z2 z3 z4) : K8 M0 M → w_Works_isNeedless_j132 this Q X k63 k95 v1 v4 v6 M → w_Works_isNeedless_j132 this Q' X' k63' k95' v1 v4 v6 M := by
  intro hf
  unfold w_Works_isNeedless_j132
  exact (m8_w_Works_isNeedless_j133 hQ hX hk63 hk95 hf)
set_option maxRecDepth 20000 in
theorem m8_w_Works_isNeedless_L95 {this : Nat} {Q Q' : Int32 → Mem → Prop} {X X' : Mem → Prop} {k63 k63' : Int32 → Int32 → Int32 → Mem → Prop} {M0 : Mem} (hQ : ∀ z0 z1, K8 M0 z1 → Q z0 z1 → Q' z0 z1) (hX : ∀ z0, K8 M0 z0 → X z0 → X' z0) (hk63 : ∀ z0 z1 z2 z3, K8 M0 z3 → k63 z0 z1 z2 z3 → k63' z0 z1 z2 z3) : ∀ (n : Nat) (v1 : Int32) (v4 : Int32) (v5 : Int32) (v6 : Int32) (M : Mem), K8 M0 M → w_Works_isNeedless_L95 this Q X k63 n v1 v4 v5 v6 M → w_Works_isNeedless_L95 this Q' X' k63' n v1 v4 v5 v6 M
  | 0, _, _, _, _, _ => fun _ h => h
  | n + 1, v1, v4, v5, v6, M => fun hf => by
    unfold w_Works_isNeedless_L95
    exact (mf_ite (m8_w_Works_isNeedless_j141 hQ hX hk63 hf) (mf_ite (mf_ite (m8_w_Works_isNeedless_j132 hQ hX hk63 (m8_w_Works_isNeedless_L95 hQ hX hk63 n) hf) (m8_w_Works_finds0 (fun r14 M13 f1 => (mf_ite (m8_w_Works_isNeedless_j132 hQ hX hk63 (m8_w_Works_isNeedless_L95 hQ hX hk63 n) (K8.trans hf f1)) (m8_w_Works_isNeedless_j133 hQ hX hk63 (m8_w_Works_isNeedless_L95 hQ hX hk63 n) (K8.trans hf f1)))) (fun z3 f2 => hX z3 (K8.trans hf f2)))) (m8_w_Works_isNeedless_j141 hQ hX hk63 hf)))
set_option maxRecDepth 20000 in
theorem m8_w_Works_isNeedless_L63 {this : Nat} {Q Q' : Int32 → Mem → Prop} {X X' : Mem → Prop} {M0 : Mem} (hQ : ∀ z0 z1, K8 M0 z1 → Q z0 z1 → Q' z0 z1) (hX : ∀ z0, K8 M0 z0 → X z0 → X' z0) : ∀ (n : Nat) (v1 : Int32) (v3 : Int32) (v4 : Int32) (M : Mem), K8 M0 M → w_Works_isNeedless_L63 this Q X n v1 v3 v4 M → w_Works_isNeedless_L63 this Q' X' n v1 v3 v4 M
  | 0, _, _, _, _ => fun _ h => h
  | n + 1, v1, v3, v4, M => fun hf => by
    unfold w_Works_isNeedless_L63
    exact (mf_ite (mf_and fun _ => (hQ _ _ hf)) (mf_ite (mf_and fun _ => (hQ _ _ hf)) (m8_w_Works_finds0 (fun r8 M7 f1 => (mf_ite (m8_w_Works_isNeedless_j144 hQ hX (m8_w_Works_isNeedless_L63 hQ hX n) (K8.trans hf f1)) (Exists.imp fun n16 => (m8_w_Works_isNeedless_L95 hQ hX (m8_w_Works_isNeedless_L63 hQ hX n) _ _ _ _ _ _ (K8.trans hf f1))))) (fun z3 f2 => hX z3 (K8.trans hf f2)))))
set_option maxRecDepth 20000 in
theorem m8_w_Works_isNeedless_j60 {this : Nat} {Q Q' : Int32 → Mem → Prop} {X X' : Mem → Prop} {v1 : Int32} {v3 : Int32} {M : Mem} {M0 : Mem} (hQ : ∀ z0 z1, K8 M0 z1 → Q z0 z1 → Q' z0 z1) (hX : ∀ z0, K8 M0 z0 → X z0 → X' z0) : K8 M0 M → w_Works_isNeedless_j60 this Q X v1 v3 M → w_Works_isNeedless_j60 this Q' X' v1 v3 M := by
  intro hf
  unfold w_Works_isNeedless_j60
  exact (Exists.imp fun n17 => (m8_w_Works_isNeedless_L63 hQ hX _ _ _ _ _ hf))
set_option maxRecDepth 20000 in
theorem m8_w_Works_isNeedless_j53 {this : Nat} {Q Q' : Int32 → Mem → Prop} {X X' : Mem → Prop} {k19 k19' : Int32 → Int32 → Int32 → Int32 → Mem → Prop} {v1 : Int32} {v2 : Int32} {v4 : Int32} {s0 : Int32} {M : Mem} {M0 : Mem} (hQ : ∀ z0 z1, K8 M0 z1 → Q z0 z1 → Q' z0 z1) (hX : ∀ z0, K8 M0 z0 → X z0 → X' z0) (hk19 : ∀ z0 z1 z2 z3 z4, K8 M0 z4 → k19 z0 z1 z2 z3 z4 → k19' z0 z1 z2 z3 z4) : K8 M0 M → w_Works_isNeedless_j53 this Q X k19 v1 v2 v4 s0 M → w_Works_isNeedless_j53 this Q' X' k19' v1 v2 v4 s0 M := by
  intro hf
  unfold w_Works_isNeedless_j53
  exact (hk19 _ _ _ _ _ hf)
set_option maxRecDepth 20000 in
theorem m8_w_Works_isNeedless_j52 {this : Nat} {Q Q' : Int32 → Mem → Prop} {X X' : Mem → Prop} {k19 k19' : Int32 → Int32 → Int32 → Int32 → Mem → Prop} {v1 : Int32} {v2 : Int32} {v4 : Int32} {M : Mem} {M0 : Mem} (hQ : ∀ z0 z1, K8 M0 z1 → Q z0 z1 → Q' z0 z1) (hX : ∀ z0, K8 M0 z0 → X z0 → X' z0) (hk19 : ∀ z0 z1 z2 z3 z4, K8 M0 z4 → k19 z0 z1 z2 z3 z4 → k19' z0 z1 z2 z3 z4) : K8 M0 M → w_Works_isNeedless_j52 this Q X k19 v1 v2 v4 M → w_Works_isNeedless_j52 this Q' X' k19' v1 v2 v4 M := by
  intro hf
  unfold w_Works_isNeedless_j52
  exact (m8_w_Works_isNeedless_j53 hQ hX hk19 hf)
set_option maxRecDepth 20000 in
theorem m8_w_Works_isNeedless_L19 {this : Nat} {Q Q' : Int32 → Mem → Prop} {X X' : Mem → Prop} {M0 : Mem} (hQ : ∀ z0 z1, K8 M0 z1 → Q z0 z1 → Q' z0 z1) (hX : ∀ z0, K8 M0 z0 → X z0 → X' z0) : ∀ (n : Nat) (v1 : Int32) (v2 : Int32) (v3 : Int32) (v4 : Int32) (M : Mem), K8 M0 M → w_Works_isNeedless_L19 this Q X n v1 v2 v3 v4 M → w_Works_isNeedless_L19 this Q' X' n v1 v2 v3 v4 M
  | 0, _, _, _, _, _ => fun _ h => h
  | n + 1, v1, v2, v3, v4, M => fun hf => by
    unfold w_Works_isNeedless_L19
    exact (mf_ite (m8_w_Works_isNeedless_j60 hQ hX hf) (mf_ite (mf_ite (m8_w_Works_isNeedless_j52 hQ hX (m8_w_Works_isNeedless_L19 hQ hX n) hf) (m8_w_Works_ruleMet (fun r21 M20 f1 => (mf_ite (m8_w_Works_isNeedless_j53 hQ hX (m8_w_Works_isNeedless_L19 hQ hX n) (K8.trans hf f1)) (m8_w_Works_isNeedless_j52 hQ hX (m8_w_Works_isNeedless_L19 hQ hX n) (K8.trans hf f1)))) (fun z3 f2 => hX z3 (K8.trans hf f2)))) (m8_w_Works_isNeedless_j60 hQ hX hf)))
set_option maxRecDepth 20000 in
theorem m8_w_Works_isNeedless_j15 {this : Nat} {Q Q' : Int32 → Mem → Prop} {X X' : Mem → Prop} {v1 : Int32} {v2 : Int32} {s0 : Int32} {M : Mem} {M0 : Mem} (hQ : ∀ z0 z1, K8 M0 z1 → Q z0 z1 → Q' z0 z1) (hX : ∀ z0, K8 M0 z0 → X z0 → X' z0) : K8 M0 M → w_Works_isNeedless_j15 this Q X v1 v2 s0 M → w_Works_isNeedless_j15 this Q' X' v1 v2 s0 M := by
  intro hf
  unfold w_Works_isNeedless_j15
  exact (Exists.imp fun n23 => (m8_w_Works_isNeedless_L19 hQ hX _ _ _ _ _ _ hf))
set_option maxRecDepth 20000 in
theorem m8_w_Works_isNeedless {this : Nat} {a1 : Int32} {Q Q' : Int32 → Mem → Prop} {X X' : Mem → Prop} {M : Mem} (hQ : ∀ z0 z1, K8 M z1 → Q z0 z1 → Q' z0 z1) (hX : ∀ z0, K8 M z0 → X z0 → X' z0) : w_Works_isNeedless this a1 Q X M → w_Works_isNeedless this a1 Q' X' M := by
  unfold w_Works_isNeedless
  exact (m8_w_Works_ruleMet (fun r2 M1 f1 => (mf_ite (m8_w_Works_isNeedless_j15 hQ hX (K8.trans (K8.rf M) f1)) (m8_w_Works_isNeedless_j15 hQ hX (K8.trans (K8.rf M) f1)))) (fun z3 f2 => hX z3 (K8.trans (K8.rf M) f2)))
set_option maxRecDepth 20000 in
theorem m8_w_Works_least_j24 {this : Nat} {Q Q' : Int32 → Mem → Prop} {X X' : Mem → Prop} {k7 k7' : Int32 → Mem → Prop} {v1 : Int32} {M : Mem} {M0 : Mem} (hQ : ∀ z0 z1, K8 M0 z1 → Q z0 z1 → Q' z0 z1) (hX : ∀ z0, K8 M0 z0 → X z0 → X' z0) (hk7 : ∀ z0 z1, K8 M0 z1 → k7 z0 z1 → k7' z0 z1) : K8 M0 M → w_Works_least_j24 this Q X k7 v1 M → w_Works_least_j24 this Q' X' k7' v1 M := by
  intro hf
  unfold w_Works_least_j24
  exact (hk7 _ _ hf)
set_option maxRecDepth 20000 in
theorem m8_w_Works_least_L7 {this : Nat} {Q Q' : Int32 → Mem → Prop} {X X' : Mem → Prop} {M0 : Mem} (hQ : ∀ z0 z1, K8 M0 z1 → Q z0 z1 → Q' z0 z1) (hX : ∀ z0, K8 M0 z0 → X z0 → X' z0) : ∀ (n : Nat) (v1 : Int32) (M : Mem), K8 M0 M → w_Works_least_L7 this Q X n v1 M → w_Works_least_L7 this Q' X' n v1 M
  | 0, _, _ => fun _ h => h
  | n + 1, v1, M => fun hf => by
    unfold w_Works_least_L7
    exact (mf_ite (hQ _ _ hf) (m8_w_Works_isNeedless (fun r3 M2 f1 => (mf_ite (m8_w_Works_least_j24 hQ hX (m8_w_Works_least_L7 hQ hX n) (K8.trans hf f1)) (mf_w_Works_remove (fun M5 f2 => (m8_w_Works_least_j24 hQ hX (m8_w_Works_least_L7 hQ hX n) (K8.trans (K8.trans hf f1) (K8.fr f2 rfl))))))) (fun z4 f3 => hX z4 (K8.trans hf f3))))
set_option maxRecDepth 20000 in
theorem m8_w_Works_least {this : Nat} {Q Q' : Int32 → Mem → Prop} {X X' : Mem → Prop} {M : Mem} (hQ : ∀ z0 z1, K8 M z1 → Q z0 z1 → Q' z0 z1) (hX : ∀ z0, K8 M z0 → X z0 → X' z0) : w_Works_least this Q X M → w_Works_least this Q' X' M := by
  unfold w_Works_least
  exact (Exists.imp fun n6 => (m8_w_Works_least_L7 hQ hX _ _ _ (K8.rf M)))
set_option maxRecDepth 20000 in
theorem m8_w_Works_shrink_j283 {this : Nat} {Q Q' : Int32 → Mem → Prop} {X X' : Mem → Prop} {k104 k104' : Int32 → Int32 → Int32 → Int32 → Int32 → Int32 → Nat → Int32 → Int32 → Int32 → Mem → Prop} {v1 : Int32} {v2 : Int32} {v3 : Int32} {v4 : Int32} {v5 : Int32} {v6 : Int32} {v7 : Nat} {v8 : Int32} {v10 : Int32} {v11 : Int32} {M : Mem} {M0 : Mem} (hQ : ∀ z0 z1, K8 M0 z1 → Q z0 z1 → Q' z0 z1) (hX : ∀ z0, K8 M0 z0 → X z0 → X' z0) (hk104 : ∀ z0 z1 z2 z3 z4 z5 z6 z7 z8 z9 z10, K8 M0 z10 → k104 z0 z1 z2 z3 z4 z5 z6 z7 z8 z9 z10 → k104' z0 z1 z2 z3 z4 z5 z6 z7 z8 z9 z10) : K8 M0 M → w_Works_shrink_j283 this Q X k104 v1 v2 v3 v4 v5 v6 v7 v8 v10 v11 M → w_Works_shrink_j283 this Q' X' k104' v1 v2 v3 v4 v5 v6 v7 v8 v10 v11 M := by
  intro hf
  unfold w_Works_shrink_j283
  exact (hk104 _ _ _ _ _ _ _ _ _ _ _ hf)
set_option maxRecDepth 20000 in
theorem m8_w_Works_shrink_j255 {this : Nat} {Q Q' : Int32 → Mem → Prop} {X X' : Mem → Prop} {k104 k104' : Int32 → Int32 → Int32 → Int32 → Int32 → Int32 → Nat → Int32 → Int32 → Int32 → Mem → Prop} {v1 : Int32} {v2 : Int32} {v3 : Int32} {v4 : Int32} {v5 : Int32} {v6 : Int32} {v7 : Nat} {v8 : Int32} {v10 : Int32} {v11 : Int32} {v12 : Int32} {v13 : Int32} {M : Mem} {M0 : Mem} (hQ : ∀ z0 z1, K8 M0 z1 → Q z0 z1 → Q' z0 z1) (hX : ∀ z0, K8 M0 z0 → X z0 → X' z0) (hk104 : ∀ z0 z1 z2 z3 z4 z5 z6 z7 z8 z9 z10, K8 M0 z10 → k104 z0 z1 z2 z3 z4 z5 z6 z7 z8 z9 z10 → k104' z0 z1 z2 z3 z4 z5 z6 z7 z8 z9 z10) : K8 M0 M → w_Works_shrink_j255 this Q X k104 v1 v2 v3 v4 v5 v6 v7 v8 v10 v11 v12 v13 M → w_Works_shrink_j255 this Q' X' k104' v1 v2 v3 v4 v5 v6 v7 v8 v10 v11 v12 v13 M := by
  intro hf
  unfold w_Works_shrink_j255
  exact (mf_ite (m8_w_Works_shrink_j283 hQ hX hk104 hf) (mf_and fun _ => (mf_and fun _ => (mf_and fun _ => (mf_and fun _ => (mf_and fun _ => (Exists.imp fun M34 => (mf_and fun e1 => (m8_w_Works_shrink_j283 hQ hX hk104 (K8.of e1 (K8.wc rfl hf)))))))))))
set_option maxRecDepth 20000 in
theorem m8_w_Works_shrink_j253 {this : Nat} {Q Q' : Int32 → Mem → Prop} {X X' : Mem → Prop} {k104 k104' : Int32 → Int32 → Int32 → Int32 → Int32 → Int32 → Nat → Int32 → Int32 → Int32 → Mem → Prop} {v1 : Int32} {v2 : Int32} {v3 : Int32} {v4 : Int32} {v5 : Int32} {v6 : Int32} {v7 : Nat} {v8 : Int32} {v10 : Int32} {v11 : Int32} {v12 : Int32} {s0 : Int32} {M : Mem} {M0 : Mem} (hQ : ∀ z0 z1, K8 M0 z1 → Q z0 z1 → Q' z0 z1) (hX : ∀ z0, K8 M0 z0 → X z0 → X' z0) (hk104 : ∀ z0 z1 z2 z3 z4 z5 z6 z7 z8 z9 z10, K8 M0 z10 → k104 z0 z1 z2 z3 z4 z5 z6 z7 z8 z9 z10 → k104' z0 z1 z2 z3 z4 z5 z6 z7 z8 z9 z10) : K8 M0 M → w_Works_shrink_j253 this Q X k104 v1 v2 v3 v4 v5 v6 v7 v8 v10 v11 v12 s0 M → w_Works_shrink_j253 this Q' X' k104' v1 v2 v3 v4 v5 v6 v7 v8 v10 v11 v12 s0 M := by
  intro hf
  unfold w_Works_shrink_j253
  exact (m8_w_Works_shrink_j255 hQ hX hk104 hf)
set_option maxRecDepth 20000 in
theorem m8_w_Works_shrink_j252 {this : Nat} {Q Q' : Int32 → Mem → Prop} {X X' : Mem → Prop} {k104 k104' : Int32 → Int32 → Int32 → Int32 → Int32 → Int32 → Nat → Int32 → Int32 → Int32 → Mem → Prop} {v1 : Int32} {v2 : Int32} {v3 : Int32} {v4 : Int32} {v5 : Int32} {v6 : Int32} {v7 : Nat} {v8 : Int32} {v10 : Int32} {v11 : Int32} {v12 : Int32} {M : Mem} {M0 : Mem} (hQ : ∀ z0 z1, K8 M0 z1 → Q z0 z1 → Q' z0 z1) (hX : ∀ z0, K8 M0 z0 → X z0 → X' z0) (hk104 : ∀ z0 z1 z2 z3 z4 z5 z6 z7 z8 z9 z10, K8 M0 z10 → k104 z0 z1 z2 z3 z4 z5 z6 z7 z8 z9 z10 → k104' z0 z1 z2 z3 z4 z5 z6 z7 z8 z9 z10) : K8 M0 M → w_Works_shrink_j252 this Q X k104 v1 v2 v3 v4 v5 v6 v7 v8 v10 v11 v12 M → w_Works_shrink_j252 this Q' X' k104' v1 v2 v3 v4 v5 v6 v7 v8 v10 v11 v12 M := by
  intro hf
  unfold w_Works_shrink_j252
  exact (m8_w_Works_shrink_j253 hQ hX hk104 hf)
set_option maxRecDepth 20000 in
theorem m8_w_Works_shrink_j212 {this : Nat} {Q Q' : Int32 → Mem → Prop} {X X' : Mem → Prop} {k104 k104' : Int32 → Int32 → Int32 → Int32 → Int32 → Int32 → Nat → Int32 → Int32 → Int32 → Mem → Prop} {v1 : Int32} {v2 : Int32} {v3 : Int32} {v4 : Int32} {v5 : Int32} {v6 : Int32} {v7 : Nat} {v8 : Int32} {v10 : Int32} {v11 : Int32} {v12 : Int32} {s0 : Int32} {M : Mem} {M0 : Mem} (hQ : ∀ z0 z1, K8 M0 z1 → Q z0 z1 → Q' z0 z1) (hX : ∀ z0, K8 M0 z0 → X z0 → X' z0) (hk104 : ∀ z0 z1 z2 z3 z4 z5 z6 z7 z8 z9 z10, K8 M0 z10 → k104 z0 z1 z2 z3 z4 z5 z6 z7 z8 z9 z10 → k104' z0 z1 z2 z3 z4 z5 z6 z7 z8 z9 z10) : K8 M0 M → w_Works_shrink_j212 this Q X k104 v1 v2 v3 v4 v5 v6 v7 v8 v10 v11 v12 s0 M → w_Works_shrink_j212 this Q' X' k104' v1 v2 v3 v4 v5 v6 v7 v8 v10 v11 v12 s0 M := by
  intro hf
  unfold w_Works_shrink_j212
  exact (mf_ite (m8_w_Works_shrink_j255 hQ hX hk104 hf) (m8_w_Works_work1 (fun M40 f1 => (mf_ite (mf_ite (m8_w_Works_shrink_j253 hQ hX hk104 (K8.trans hf f1)) (m8_w_Works_shrink_j252 hQ hX hk104 (K8.trans hf f1))) (m8_w_Works_shrink_j252 hQ hX hk104 (K8.trans hf f1)))) (fun z3 f2 => hX z3 (K8.trans hf f2))))
set_option maxRecDepth 20000 in
theorem m8_w_Works_shrink_j211 {this : Nat} {Q Q' : Int32 → Mem → Prop} {X X' : Mem → Prop} {k104 k104' : Int32 → Int32 → Int32 → Int32 → Int32 → Int32 → Nat → Int32 → Int32 → Int32 → Mem → Prop} {v1 : Int32} {v2 : Int32} {v3 : Int32} {v4 : Int32} {v5 : Int32} {v6 : Int32} {v7 : Nat} {v8 : Int32} {v10 : Int32} {v11 : Int32} {v12 : Int32} {M : Mem} {M0 : Mem} (hQ : ∀ z0 z1, K8 M0 z1 → Q z0 z1 → Q' z0 z1) (hX : ∀ z0, K8 M0 z0 → X z0 → X' z0) (hk104 : ∀ z0 z1 z2 z3 z4 z5 z6 z7 z8 z9 z10, K8 M0 z10 → k104 z0 z1 z2 z3 z4 z5 z6 z7 z8 z9 z10 → k104' z0 z1 z2 z3 z4 z5 z6 z7 z8 z9 z10) : K8 M0 M → w_Works_shrink_j211 this Q X k104 v1 v2 v3 v4 v5 v6 v7 v8 v10 v11 v12 M → w_Works_shrink_j211 this Q' X' k104' v1 v2 v3 v4 v5 v6 v7 v8 v10 v11 v12 M := by
  intro hf
  unfold w_Works_shrink_j211
  exact (m8_w_Works_shrink_j212 hQ hX hk104 hf)
set_option maxRecDepth 20000 in
theorem m8_w_Works_shrink_j138 {this : Nat} {Q Q' : Int32 → Mem → Prop} {X X' : Mem → Prop} {k104 k104' : Int32 → Int32 → Int32 → Int32 → Int32 → Int32 → Nat → Int32 → Int32 → Int32 → Mem → Prop} {v1 : Int32} {v2 : Int32} {v3 : Int32} {v4 : Int32} {v5 : Int32} {v6 : Int32} {v7 : Nat} {v8 : Int32} {v9 : Int32} {v10 : Int32} {v11 : Int32} {M : Mem} {M0 : Mem} (hQ : ∀ z0 z1, K8 M0 z1 → Q z0 z1 → Q' z0 z1) (hX : ∀ z0, K8 M0 z0 → X z0 → X' z0) (hk104 : ∀ z0 z1 z2 z3 z4 z5 z6 z7 z8 z9 z10, K8 M0 z10 → k104 z0 z1 z2 z3 z4 z5 z6 z7 z8 z9 z10 → k104' z0 z1 z2 z3 z4 z5 z6 z7 z8 z9 z10) : K8 M0 M → w_Works_shrink_j138 this Q X k104 v1 v2 v3 v4 v5 v6 v7 v8 v9 v10 v11 M → w_Works_shrink_j138 this Q' X' k104' v1 v2 v3 v4 v5 v6 v7 v8 v9 v10 v11 M := by
  intro hf
  unfold w_Works_shrink_j138
  exact (mf_and fun _ => (mf_and fun _ => (mf_and fun _ => (mf_and fun _ => (mf_and fun _ => (Exists.imp fun M17 => (mf_and fun e1 => (mf_and fun _ => (mf_and fun _ => (mf_and fun _ => (mf_and fun _ => (mf_and fun _ => (Exists.imp fun M23 => (mf_and fun e2 => (m8_w_Works_work1 (fun M29 f3 => (mf_ite (mf_ite (m8_w_Works_shrink_j212 hQ hX hk104 (K8.trans (K8.of e2 (K8.wc rfl (K8.of e1 (K8.wc rfl hf)))) f3)) (m8_w_Works_shrink_j211 hQ hX hk104 (K8.trans (K8.of e2 (K8.wc rfl (K8.of e1 (K8.wc rfl hf)))) f3))) (m8_w_Works_shrink_j211 hQ hX hk104 (K8.trans (K8.of e2 (K8.wc rfl (K8.of e1 (K8.wc rfl hf)))) f3)))) (fun z5 f4 => hX z5 (K8.trans (K8.of e2 (K8.wc rfl (K8.of e1 (K8.wc rfl hf)))) f4)))))))))))))))))
set_option maxRecDepth 20000 in
theorem m8_w_Works_shrink_L115 {this : Nat} {Q Q' : Int32 → Mem → Prop} {X X' : Mem → Prop} {k104 k104' : Int32 → Int32 → Int32 → Int32 → Int32 → Int32 → Nat → Int32 → Int32 → Int32 → Mem → Prop} {M0 : Mem} (hQ : ∀ z0 z1, K8 M0 z1 → Q z0 z1 → Q' z0 z1) (hX : ∀ z0, K8 M0 z0 → X z0 → X' z0) (hk104 : ∀ z0 z1 z2 z3 z4 z5 z6 z7 z8 z9 z10, K8 M0 z10 → k104 z0 z1 z2 z3 z4 z5 z6 z7 z8 z9 z10 → k104' z0 z1 z2 z3 z4 z5 z6 z7 z8 z9 z10) : ∀ (n : Nat) (v1 : Int32) (v2 : Int32) (v3 : Int32) (v4 : Int32) (v5 : Int32) (v6 : Int32) (v7 : Nat) (v8 : Int32) (v9 : Int32) (v10 : Int32) (v11 : Int32) (M : Mem), K8 M0 M → w_Works_shrink_L115 this Q X k104 n v1 v2 v3 v4 v5 v6 v7 v8 v9 v10 v11 M → w_Works_shrink_L115 this Q' X' k104' n v1 v2 v3 v4 v5 v6 v7 v8 v9 v10 v11 M
  | 0, _, _, _, _, _, _, _, _, _, _, _, _ => fun _ h => h
  | n + 1, v1, v2, v3, v4, v5, v6, v7, v8, v9, v10, v11, M => fun hf => by
    unfold w_Works_shrink_L115
    exact (mf_ite (m8_w_Works_shrink_j138 hQ hX hk104 hf) (mf_and fun _ => (mf_ite (m8_w_Works_shrink_j138 hQ hX hk104 hf) (m8_w_Works_shrink_L115 hQ hX hk104 _ _ _ _ _ _ _ _ _ _ _ _ _ hf))))
set_option maxRecDepth 20000 in
theorem m8_w_Works_shrink_L104 {this : Nat} {Q Q' : Int32 → Mem → Prop} {X X' : Mem → Prop} {M0 : Mem} (hQ : ∀ z0 z1, K8 M0 z1 → Q z0 z1 → Q' z0 z1) (hX : ∀ z0, K8 M0 z0 → X z0 → X' z0) : ∀ (n : Nat) (v1 : Int32) (v2 : Int32) (v3 : Int32) (v4 : Int32) (v5 : Int32) (v6 : Int32) (v7 : Nat) (v8 : Int32) (v9 : Int32) (v10 : Int32) (M : Mem), K8 M0 M → w_Works_shrink_L104 this Q X n v1 v2 v3 v4 v5 v6 v7 v8 v9 v10 M → w_Works_shrink_L104 this Q' X' n v1 v2 v3 v4 v5 v6 v7 v8 v9 v10 M
  | 0, _, _, _, _, _, _, _, _, _, _, _ => fun _ h => h
  | n + 1, v1, v2, v3, v4, v5, v6, v7, v8, v9, v10, M => fun hf => by
    unfold w_Works_shrink_L104
    exact (mf_ite (mf_and fun _ => (mf_w_Works_forget (fun M15 f1 => (hQ _ _ (K8.trans (K8.wI rfl hf) (K8.fr f1 rfl)))))) (Exists.imp fun n45 => (m8_w_Works_shrink_L115 hQ hX (m8_w_Works_shrink_L104 hQ hX n) _ _ _ _ _ _ _ _ _ _ _ _ _ hf)))
set_option maxRecDepth 20000 in
theorem m8_w_Works_shrink_j101 {this : Nat} {Q Q' : Int32 → Mem → Prop} {X X' : Mem → Prop} {v1 : Int32} {v2 : Int32} {v3 : Int32} {v4 : Int32} {v5 : Int32} {v6 : Int32} {v7 : Nat} {v8 : Int32} {v9 : Int32} {M : Mem} {M0 : Mem} (hQ : ∀ z0 z1, K8 M0 z1 → Q z0 z1 → Q' z0 z1) (hX : ∀ z0, K8 M0 z0 → X z0 → X' z0) : K8 M0 M → w_Works_shrink_j101 this Q X v1 v2 v3 v4 v5 v6 v7 v8 v9 M → w_Works_shrink_j101 this Q' X' v1 v2 v3 v4 v5 v6 v7 v8 v9 M := by
  intro hf
  unfold w_Works_shrink_j101
  exact (Exists.imp fun n46 => (m8_w_Works_shrink_L104 hQ hX _ _ _ _ _ _ _ _ _ _ _ _ hf))
set_option maxRecDepth 20000 in
theorem m8_w_Works_shrink_L78 {this : Nat} {Q Q' : Int32 → Mem → Prop} {X X' : Mem → Prop} {M0 : Mem} (hQ : ∀ z0 z1, K8 M0 z1 → Q z0 z1 → Q' z0 z1) (hX : ∀ z0, K8 M0 z0 → X z0 → X' z0) : ∀ (n : Nat) (v1 : Int32) (v2 : Int32) (v3 : Int32) (v4 : Int32) (v5 : Int32) (v6 : Int32) (v7 : Nat) (v8 : Int32) (v9 : Int32) (M : Mem), K8 M0 M → w_Works_shrink_L78 this Q X n v1 v2 v3 v4 v5 v6 v7 v8 v9 M → w_Works_shrink_L78 this Q' X' n v1 v2 v3 v4 v5 v6 v7 v8 v9 M
  | 0, _, _, _, _, _, _, _, _, _, _ => fun _ h => h
  | n + 1, v1, v2, v3, v4, v5, v6, v7, v8, v9, M => fun hf => by
    unfold w_Works_shrink_L78
    exact (mf_ite (m8_w_Works_shrink_j101 hQ hX hf) (mf_and fun _ => (mf_ite (m8_w_Works_shrink_j101 hQ hX hf) (m8_w_Works_shrink_L78 hQ hX _ _ _ _ _ _ _ _ _ _ _ hf))))
set_option maxRecDepth 20000 in
theorem m8_w_Works_shrink {this : Nat} {a1 : Int32} {a2 : Int32} {Q Q' : Int32 → Mem → Prop} {X X' : Mem → Prop} {M : Mem} (hQ : ∀ z0 z1, K8 M z1 → Q z0 z1 → Q' z0 z1) (hX : ∀ z0, K8 M z0 → X z0 → X' z0) : w_Works_shrink this a1 a2 Q X M → w_Works_shrink this a1 a2 Q' X' M := by
  unfold w_Works_shrink
  exact (mf_w_Works_isTrial (fun r2 M1 f1 => (mf_ite (hQ _ _ (K8.trans (K8.rf M) (K8.fr f1 rfl))) (mf_w_Works_isIn (fun r5 M4 f2 => (mf_ite (hQ _ _ (K8.trans (K8.trans (K8.rf M) (K8.fr f1 rfl)) (K8.fr f2 rfl))) (m8_w_Works_work2 (fun M7 f3 => (m8_w_Works_work2 (fun M8 f4 => (mf_and fun _ => (Exists.imp fun i10 => (mf_and fun _ => (mf_and fun _ => (Exists.imp fun n49 => (m8_w_Works_shrink_L78 hQ hX _ _ _ _ _ _ _ _ _ _ _ (K8.trans (K8.trans (K8.trans (K8.trans (K8.rf M) (K8.fr f1 rfl)) (K8.fr f2 rfl)) f3) f4)))))))) (fun z6 f5 => hX z6 (K8.trans (K8.trans (K8.trans (K8.trans (K8.rf M) (K8.fr f1 rfl)) (K8.fr f2 rfl)) f3) f5)))) (fun z8 f7 => hX z8 (K8.trans (K8.trans (K8.trans (K8.rf M) (K8.fr f1 rfl)) (K8.fr f2 rfl)) f7)))))))))
