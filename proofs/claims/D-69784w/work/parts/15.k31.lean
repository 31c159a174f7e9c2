/-! B: the works' tape stays as it was in change and shrink: printed by ck5.py -/
def R0 (M : Mem) : Prop := mL M 701 0 = 40 ∧ ∀ q, q < 40 → mR M 701 0 q ≠ some (400, 0)
def K0 (M M' : Mem) : Prop := R0 M → R0 M' ∧ ∀ k, mI M' 400 0 k = mI M 400 0 k
section
variable {M M1 M2 : Mem} {f i k g j : Nat} {v : Int32}
theorem K0.rf (M : Mem) : K0 M M := fun h => ⟨h, fun _ => rfl⟩
theorem K0.trans (h : K0 M M1) (h1 : K0 M1 M2) : K0 M M2 := fun z => ⟨(h1 (h z).1).1, fun k => ((h1 (h z).1).2 k).trans ((h z).2 k)⟩
theorem K0.of (e : M2 = M1) (h : K0 M M1) : K0 M M2 := e ▸ h
theorem K0.fr {S : Nat} (h : Fr S M M1) (e : okF S [400, 701, 5701] = true) : K0 M M1 := fun z => ⟨⟨(h.L (f := 701) (okF_in e (by simp)) 0).trans z.1, fun q hq y => z.2 q hq (by rw [h.Ra (f := 701) rfl (okF_in e (by simp))] at y; exact y)⟩, fun k => h.Ia (f := 400) rfl (okF_in e (by simp)) 0 k⟩
theorem K0.ne {x : Int32} (p : vp_in x (mL M1 701 0)) (e : mR M1 701 0 x.toNatClampNeg = some (400, i)) (h : K0 M M1) : R0 M → i ≠ 0 := fun z y => (h z).1.2 x.toNatClampNeg (Nat.lt_of_not_le (fun u => p (Or.inr (by rw [(h z).1.1]; exact u)))) (by rw [e, y])
theorem K0.wI0 (e : Nat.beq f 400 = false) (h : K0 M M1) : K0 M (sI M1 f i k v) := fun z => ⟨(h z).1, fun k' => (if_neg (fun y => by rw [← y.1] at e; cases e)).trans ((h z).2 k')⟩
theorem K0.wI0a (e : Nat.beq f 400 = false) (h : K0 M M1) : K0 M (sI M1 f i k v) := h.wI0 e
theorem K0.wI1 (e : R0 M → i ≠ 0) (h : K0 M M1) : K0 M (sI M1 f i k v) := fun z => ⟨(h z).1, fun k' => (if_neg (fun y => e z y.2.1.symm)).trans ((h z).2 k')⟩
theorem K0.wc1 {sp dp n : Nat} (e : R0 M → j ≠ 0) (h : K0 M M1) : K0 M (cpI M1 f i sp g j dp n) := fun z => ⟨(h z).1, fun k' => (if_neg (fun y => e z y.2.symm)).trans ((h z).2 k')⟩
end
set_option maxRecDepth 20000 in
theorem m0_w_Works_copyLine {this : Nat} {a1 : Nat} {a2 : Int32} {Q Q' : Mem → Prop} {M : Mem} (hQ : ∀ z0, K0 M z0 → Q z0 → Q' z0) : w_Works_copyLine this a1 a2 Q M → w_Works_copyLine this a1 a2 Q' M := by
  unfold w_Works_copyLine
  exact (mf_w_Works_lineFrom (fun r2 M1 f1 => (mf_w_Works_lineFrom (fun r4 M3 f2 => (mf_and fun _ => (mf_and fun _ => (mf_and fun _ => (mf_and fun _ => (mf_and fun _ => (Exists.imp fun M5 => (mf_and fun e3 => (hQ _ (K0.wI0 rfl (K0.of e3 (K0.wc1 (fun _ => show (41 : Nat) ≠ 0 from by decide) (K0.trans (K0.trans (K0.rf M) (K0.fr f1 rfl)) (K0.fr f2 rfl)))))))))))))))))
set_option maxRecDepth 20000 in
theorem m0_w_Works_change_j276 {this : Nat} {Q Q' : Int32 → Mem → Prop} {k182 k182' : Int32 → Int32 → Int32 → Int32 → Nat → Int32 → Mem → Prop} {v2 : Int32} {v3 : Int32} {v4 : Int32} {v5 : Int32} {v7 : Nat} {v9 : Int32} {M : Mem} {M0 : Mem} (hQ : ∀ z0 z1, K0 M0 z1 → Q z0 z1 → Q' z0 z1) (hk182 : ∀ z0 z1 z2 z3 z4 z5 z6, K0 M0 z6 → k182 z0 z1 z2 z3 z4 z5 z6 → k182' z0 z1 z2 z3 z4 z5 z6) : K0 M0 M → w_Works_change_j276 this Q k182 v2 v3 v4 v5 v7 v9 M → w_Works_change_j276 this Q' k182' v2 v3 v4 v5 v7 v9 M := by
  intro hf
  unfold w_Works_change_j276
  exact (hk182 _ _ _ _ _ _ _ hf)
set_option maxRecDepth 20000 in
theorem m0_w_Works_change_j247 {this : Nat} {Q Q' : Int32 → Mem → Prop} {k182 k182' : Int32 → Int32 → Int32 → Int32 → Nat → Int32 → Mem → Prop} {v2 : Int32} {v3 : Int32} {v4 : Int32} {v5 : Int32} {v7 : Nat} {v9 : Int32} {s0 : Int32} {M : Mem} {M0 : Mem} (hQ : ∀ z0 z1, K0 M0 z1 → Q z0 z1 → Q' z0 z1) (hk182 : ∀ z0 z1 z2 z3 z4 z5 z6, K0 M0 z6 → k182 z0 z1 z2 z3 z4 z5 z6 → k182' z0 z1 z2 z3 z4 z5 z6) : K0 M0 M → w_Works_change_j247 this Q k182 v2 v3 v4 v5 v7 v9 s0 M → w_Works_change_j247 this Q' k182' v2 v3 v4 v5 v7 v9 s0 M := by
  intro hf
  unfold w_Works_change_j247
  exact (m0_w_Works_copyLine (fun M39 f1 => (mf_ite (mf_ite (m0_w_Works_copyLine (fun M42 f2 => (m0_w_Works_change_j276 hQ hk182 (K0.trans (K0.trans hf f1) f2)))) (m0_w_Works_change_j276 hQ hk182 (K0.trans hf f1))) (m0_w_Works_change_j276 hQ hk182 (K0.trans hf f1)))))
set_option maxRecDepth 20000 in
theorem m0_w_Works_change_j224 {this : Nat} {Q Q' : Int32 → Mem → Prop} {k182 k182' : Int32 → Int32 → Int32 → Int32 → Nat → Int32 → Mem → Prop} {v2 : Int32} {v3 : Int32} {v4 : Int32} {v5 : Int32} {v7 : Nat} {v9 : Int32} {M : Mem} {M0 : Mem} (hQ : ∀ z0 z1, K0 M0 z1 → Q z0 z1 → Q' z0 z1) (hk182 : ∀ z0 z1 z2 z3 z4 z5 z6, K0 M0 z6 → k182 z0 z1 z2 z3 z4 z5 z6 → k182' z0 z1 z2 z3 z4 z5 z6) : K0 M0 M → w_Works_change_j224 this Q k182 v2 v3 v4 v5 v7 v9 M → w_Works_change_j224 this Q' k182' v2 v3 v4 v5 v7 v9 M := by
  intro hf
  unfold w_Works_change_j224
  exact (m0_w_Works_change_j247 hQ hk182 hf)
set_option maxRecDepth 20000 in
theorem m0_w_Works_change_j245 {this : Nat} {Q Q' : Int32 → Mem → Prop} {k182 k182' : Int32 → Int32 → Int32 → Int32 → Nat → Int32 → Mem → Prop} {v2 : Int32} {v3 : Int32} {v4 : Int32} {v5 : Int32} {v7 : Nat} {v9 : Int32} {M : Mem} {M0 : Mem} (hQ : ∀ z0 z1, K0 M0 z1 → Q z0 z1 → Q' z0 z1) (hk182 : ∀ z0 z1 z2 z3 z4 z5 z6, K0 M0 z6 → k182 z0 z1 z2 z3 z4 z5 z6 → k182' z0 z1 z2 z3 z4 z5 z6) : K0 M0 M → w_Works_change_j245 this Q k182 v2 v3 v4 v5 v7 v9 M → w_Works_change_j245 this Q' k182' v2 v3 v4 v5 v7 v9 M := by
  intro hf
  unfold w_Works_change_j245
  exact (m0_w_Works_change_j247 hQ hk182 hf)
set_option maxRecDepth 20000 in
theorem m0_w_Works_change_j229 {this : Nat} {Q Q' : Int32 → Mem → Prop} {k182 k182' : Int32 → Int32 → Int32 → Int32 → Nat → Int32 → Mem → Prop} {v2 : Int32} {v3 : Int32} {v4 : Int32} {v5 : Int32} {v7 : Nat} {v9 : Int32} {M : Mem} {M0 : Mem} (hQ : ∀ z0 z1, K0 M0 z1 → Q z0 z1 → Q' z0 z1) (hk182 : ∀ z0 z1 z2 z3 z4 z5 z6, K0 M0 z6 → k182 z0 z1 z2 z3 z4 z5 z6 → k182' z0 z1 z2 z3 z4 z5 z6) : K0 M0 M → w_Works_change_j229 this Q k182 v2 v3 v4 v5 v7 v9 M → w_Works_change_j229 this Q' k182' v2 v3 v4 v5 v7 v9 M := by
  intro hf
  unfold w_Works_change_j229
  exact (mf_ite (mf_ite (m0_w_Works_change_j247 hQ hk182 hf) (m0_w_Works_change_j245 hQ hk182 hf)) (m0_w_Works_change_j245 hQ hk182 hf))
set_option maxRecDepth 20000 in
theorem m0_w_Works_change_j213 {this : Nat} {Q Q' : Int32 → Mem → Prop} {k182 k182' : Int32 → Int32 → Int32 → Int32 → Nat → Int32 → Mem → Prop} {v2 : Int32} {v3 : Int32} {v4 : Int32} {v5 : Int32} {v7 : Nat} {v9 : Int32} {M : Mem} {M0 : Mem} (hQ : ∀ z0 z1, K0 M0 z1 → Q z0 z1 → Q' z0 z1) (hk182 : ∀ z0 z1 z2 z3 z4 z5 z6, K0 M0 z6 → k182 z0 z1 z2 z3 z4 z5 z6 → k182' z0 z1 z2 z3 z4 z5 z6) : K0 M0 M → w_Works_change_j213 this Q k182 v2 v3 v4 v5 v7 v9 M → w_Works_change_j213 this Q' k182' v2 v3 v4 v5 v7 v9 M := by
  intro hf
  unfold w_Works_change_j213
  exact (mf_ite (mf_ite (m0_w_Works_change_j224 hQ hk182 hf) (m0_w_Works_change_j229 hQ hk182 hf)) (m0_w_Works_change_j229 hQ hk182 hf))
set_option maxRecDepth 20000 in
theorem m0_w_Works_change_j202 {this : Nat} {Q Q' : Int32 → Mem → Prop} {k182 k182' : Int32 → Int32 → Int32 → Int32 → Nat → Int32 → Mem → Prop} {v2 : Int32} {v3 : Int32} {v4 : Int32} {v5 : Int32} {v7 : Nat} {v9 : Int32} {M : Mem} {M0 : Mem} (hQ : ∀ z0 z1, K0 M0 z1 → Q z0 z1 → Q' z0 z1) (hk182 : ∀ z0 z1 z2 z3 z4 z5 z6, K0 M0 z6 → k182 z0 z1 z2 z3 z4 z5 z6 → k182' z0 z1 z2 z3 z4 z5 z6) : K0 M0 M → w_Works_change_j202 this Q k182 v2 v3 v4 v5 v7 v9 M → w_Works_change_j202 this Q' k182' v2 v3 v4 v5 v7 v9 M := by
  intro hf
  unfold w_Works_change_j202
  exact (mf_ite (mf_ite (m0_w_Works_change_j224 hQ hk182 hf) (m0_w_Works_change_j213 hQ hk182 hf)) (m0_w_Works_change_j213 hQ hk182 hf))
set_option maxRecDepth 20000 in
theorem m0_w_Works_change_L182 {this : Nat} {Q Q' : Int32 → Mem → Prop} {M0 : Mem} (hQ : ∀ z0 z1, K0 M0 z1 → Q z0 z1 → Q' z0 z1) : ∀ (n : Nat) (v2 : Int32) (v3 : Int32) (v4 : Int32) (v5 : Int32) (v7 : Nat) (v9 : Int32) (M : Mem), K0 M0 M → w_Works_change_L182 this Q n v2 v3 v4 v5 v7 v9 M → w_Works_change_L182 this Q' n v2 v3 v4 v5 v7 v9 M
  | 0, _, _, _, _, _, _, _ => fun _ h => h
  | n + 1, v2, v3, v4, v5, v7, v9, M => fun hf => by
    unfold w_Works_change_L182
    exact (mf_ite (mf_and fun p1 => (Exists.imp fun i26 => (mf_and fun e2 => (mf_and fun _ => (mf_and fun _ => (mf_and fun _ => (mf_and fun _ => (mf_and fun _ => (Exists.imp fun M27 => (mf_and fun e3 => (mf_and fun _ => (mf_w_Works_forget (fun M34 f4 => (hQ _ _ (K0.wI0 rfl (K0.trans (K0.wI0a rfl (K0.of e3 (K0.wc1 (K0.ne p1 e2 hf) hf))) (K0.fr f4 rfl))))))))))))))))) (mf_ite (mf_ite (m0_w_Works_change_j276 hQ (m0_w_Works_change_L182 hQ n) hf) (m0_w_Works_change_j202 hQ (m0_w_Works_change_L182 hQ n) hf)) (m0_w_Works_change_j202 hQ (m0_w_Works_change_L182 hQ n) hf)))
set_option maxRecDepth 20000 in
theorem m0_w_Works_change_j174 {this : Nat} {Q Q' : Int32 → Mem → Prop} {v2 : Int32} {v3 : Int32} {v4 : Int32} {v5 : Int32} {v7 : Nat} {M : Mem} {M0 : Mem} (hQ : ∀ z0 z1, K0 M0 z1 → Q z0 z1 → Q' z0 z1) : K0 M0 M → w_Works_change_j174 this Q v2 v3 v4 v5 v7 M → w_Works_change_j174 this Q' v2 v3 v4 v5 v7 M := by
  intro hf
  unfold w_Works_change_j174
  exact (Exists.imp fun n47 => (m0_w_Works_change_L182 hQ _ _ _ _ _ _ _ _ (K0.wI0 rfl hf)))
set_option maxRecDepth 20000 in
theorem m0_w_Works_change_j133 {this : Nat} {Q Q' : Int32 → Mem → Prop} {v1 : Int32} {v2 : Int32} {v3 : Int32} {v4 : Int32} {v5 : Int32} {v7 : Nat} {s0 : Int32} {M : Mem} {M0 : Mem} (hQ : ∀ z0 z1, K0 M0 z1 → Q z0 z1 → Q' z0 z1) : K0 M0 M → w_Works_change_j133 this Q v1 v2 v3 v4 v5 v7 s0 M → w_Works_change_j133 this Q' v1 v2 v3 v4 v5 v7 s0 M := by
  intro hf
  unfold w_Works_change_j133
  exact (mf_ite (hQ _ _ hf) (mf_and fun _ => (mf_ite (hQ _ _ hf) (mf_ite (mf_ite (hQ _ _ hf) (m0_w_Works_change_j174 hQ hf)) (m0_w_Works_change_j174 hQ hf)))))
set_option maxRecDepth 20000 in
theorem m0_w_Works_change_j70 {this : Nat} {Q Q' : Int32 → Mem → Prop} {v1 : Int32} {v2 : Int32} {v3 : Int32} {v4 : Int32} {v5 : Int32} {M : Mem} {M0 : Mem} (hQ : ∀ z0 z1, K0 M0 z1 → Q z0 z1 → Q' z0 z1) : K0 M0 M → w_Works_change_j70 this Q v1 v2 v3 v4 v5 M → w_Works_change_j70 this Q' v1 v2 v3 v4 v5 M := by
  intro hf
  unfold w_Works_change_j70
  exact (mf_and fun p1 => (Exists.imp fun i15 => (mf_and fun e2 => (mf_ite (mf_w_Works_lengthOf (fun r18 M17 f3 => (m0_w_Works_change_j133 hQ (K0.trans hf (K0.fr f3 rfl))))) (mf_ite (mf_w_Works_lengthOf (fun r50 M49 f4 => (m0_w_Works_change_j133 hQ (K0.trans hf (K0.fr f4 rfl))))) (mf_ite (mf_w_Works_lengthOf (fun r53 M52 f5 => (mf_w_Works_lengthOf (fun r55 M54 f6 => (m0_w_Works_change_j133 hQ (K0.trans (K0.trans hf (K0.fr f5 rfl)) (K0.fr f6 rfl))))))) (m0_w_Works_change_j133 hQ hf)))))))
set_option maxRecDepth 20000 in
theorem m0_w_Works_change_j36 {this : Nat} {Q Q' : Int32 → Mem → Prop} {v1 : Int32} {v2 : Int32} {v3 : Int32} {v4 : Int32} {v5 : Int32} {s0 : Int32} {M : Mem} {M0 : Mem} (hQ : ∀ z0 z1, K0 M0 z1 → Q z0 z1 → Q' z0 z1) : K0 M0 M → w_Works_change_j36 this Q v1 v2 v3 v4 v5 s0 M → w_Works_change_j36 this Q' v1 v2 v3 v4 v5 s0 M := by
  intro hf
  unfold w_Works_change_j36
  exact (mf_w_Works_isIn (fun r11 M10 f1 => (mf_ite (hQ _ _ (K0.trans hf (K0.fr f1 rfl))) (mf_ite (m0_w_Works_change_j70 hQ (K0.trans hf (K0.fr f1 rfl))) (mf_w_Works_isIn (fun r57 M56 f2 => (mf_ite (hQ _ _ (K0.trans (K0.trans hf (K0.fr f1 rfl)) (K0.fr f2 rfl))) (m0_w_Works_change_j70 hQ (K0.trans (K0.trans hf (K0.fr f1 rfl)) (K0.fr f2 rfl))))))))))
set_option maxRecDepth 20000 in
theorem m0_w_Works_change {this : Nat} {a1 : Int32} {a2 : Int32} {a3 : Int32} {a4 : Int32} {Q Q' : Int32 → Mem → Prop} {M : Mem} (hQ : ∀ z0 z1, K0 M z1 → Q z0 z1 → Q' z0 z1) : w_Works_change this a1 a2 a3 a4 Q M → w_Works_change this a1 a2 a3 a4 Q' M := by
  unfold w_Works_change
  exact (mf_w_Works_isTrial (fun r2 M1 f1 => (mf_ite (hQ _ _ (K0.trans (K0.rf M) (K0.fr f1 rfl))) (mf_w_Works_isIn (fun r5 M4 f2 => (mf_ite (hQ _ _ (K0.trans (K0.trans (K0.rf M) (K0.fr f1 rfl)) (K0.fr f2 rfl))) (mf_w_Works_lines (fun r8 M7 f3 => (mf_ite (m0_w_Works_change_j36 hQ (K0.trans (K0.trans (K0.trans (K0.rf M) (K0.fr f1 rfl)) (K0.fr f2 rfl)) (K0.fr f3 rfl))) (m0_w_Works_change_j36 hQ (K0.trans (K0.trans (K0.trans (K0.rf M) (K0.fr f1 rfl)) (K0.fr f2 rfl)) (K0.fr f3 rfl))))))))))))
set_option maxRecDepth 20000 in
theorem m0_w_Works_shrink_j283 {this : Nat} {Q Q' : Int32 → Mem → Prop} {X X' : Mem → Prop} {k104 k104' : Int32 → Int32 → Int32 → Int32 → Int32 → Int32 → Nat → Int32 → Int32 → Int32 → Mem → Prop} {v1 : Int32} {v2 : Int32} {v3 : Int32} {v4 : Int32} {v5 : Int32} {v6 : Int32} {v7 : Nat} {v8 : Int32} {v10 : Int32} {v11 : Int32} {M : Mem} {M0 : Mem} (hQ : ∀ z0 z1, K0 M0 z1 → Q z0 z1 → Q' z0 z1) (hX : ∀ z0, K0 M0 z0 → X z0 → X' z0) (hk104 : ∀ z0 z1 z2 z3 z4 z5 z6 z7 z8 z9 z10, (R0 M0 → z6 ≠ 0) → K0 M0 z10 → k104 z0 z1 z2 z3 z4 z5 z6 z7 z8 z9 z10 → k104' z0 z1 z2 z3 z4 z5 z6 z7 z8 z9 z10) : (R0 M0 → v7 ≠ 0) → K0 M0 M → w_Works_shrink_j283 this Q X k104 v1 v2 v3 v4 v5 v6 v7 v8 v10 v11 M → w_Works_shrink_j283 this Q' X' k104' v1 v2 v3 v4 v5 v6 v7 v8 v10 v11 M := by
  intro n7 hf
  unfold w_Works_shrink_j283
  exact (hk104 _ _ _ _ _ _ _ _ _ _ _ n7 hf)
set_option maxRecDepth 20000 in
theorem m0_w_Works_shrink_j255 {this : Nat} {Q Q' : Int32 → Mem → Prop} {X X' : Mem → Prop} {k104 k104' : Int32 → Int32 → Int32 → Int32 → Int32 → Int32 → Nat → Int32 → Int32 → Int32 → Mem → Prop} {v1 : Int32} {v2 : Int32} {v3 : Int32} {v4 : Int32} {v5 : Int32} {v6 : Int32} {v7 : Nat} {v8 : Int32} {v10 : Int32} {v11 : Int32} {v12 : Int32} {v13 : Int32} {M : Mem} {M0 : Mem} (hQ : ∀ z0 z1, K0 M0 z1 → Q z0 z1 → Q' z0 z1) (hX : ∀ z0, K0 M0 z0 → X z0 → X' z0) (hk104 : ∀ z0 z1 z2 z3 z4 z5 z6 z7 z8 z9 z10, (R0 M0 → z6 ≠ 0) → K0 M0 z10 → k104 z0 z1 z2 z3 z4 z5 z6 z7 z8 z9 z10 → k104' z0 z1 z2 z3 z4 z5 z6 z7 z8 z9 z10) : (R0 M0 → v7 ≠ 0) → K0 M0 M → w_Works_shrink_j255 this Q X k104 v1 v2 v3 v4 v5 v6 v7 v8 v10 v11 v12 v13 M → w_Works_shrink_j255 this Q' X' k104' v1 v2 v3 v4 v5 v6 v7 v8 v10 v11 v12 v13 M := by
  intro n7 hf
  unfold w_Works_shrink_j255
  exact (mf_ite (m0_w_Works_shrink_j283 hQ hX hk104 n7 hf) (mf_and fun _ => (mf_and fun _ => (mf_and fun _ => (mf_and fun _ => (mf_and fun _ => (Exists.imp fun M34 => (mf_and fun e1 => (m0_w_Works_shrink_j283 hQ hX hk104 n7 (K0.of e1 (K0.wc1 n7 hf)))))))))))
set_option maxRecDepth 20000 in
theorem m0_w_Works_shrink_j253 {this : Nat} {Q Q' : Int32 → Mem → Prop} {X X' : Mem → Prop} {k104 k104' : Int32 → Int32 → Int32 → Int32 → Int32 → Int32 → Nat → Int32 → Int32 → Int32 → Mem → Prop} {v1 : Int32} {v2 : Int32} {v3 : Int32} {v4 : Int32} {v5 : Int32} {v6 : Int32} {v7 : Nat} {v8 : Int32} {v10 : Int32} {v11 : Int32} {v12 : Int32} {s0 : Int32} {M : Mem} {M0 : Mem} (hQ : ∀ z0 z1, K0 M0 z1 → Q z0 z1 → Q' z0 z1) (hX : ∀ z0, K0 M0 z0 → X z0 → X' z0) (hk104 : ∀ z0 z1 z2 z3 z4 z5 z6 z7 z8 z9 z10, (R0 M0 → z6 ≠ 0) → K0 M0 z10 → k104 z0 z1 z2 z3 z4 z5 z6 z7 z8 z9 z10 → k104' z0 z1 z2 z3 z4 z5 z6 z7 z8 z9 z10) : (R0 M0 → v7 ≠ 0) → K0 M0 M → w_Works_shrink_j253 this Q X k104 v1 v2 v3 v4 v5 v6 v7 v8 v10 v11 v12 s0 M → w_Works_shrink_j253 this Q' X' k104' v1 v2 v3 v4 v5 v6 v7 v8 v10 v11 v12 s0 M := by
  intro n7 hf
  unfold w_Works_shrink_j253
  exact (m0_w_Works_shrink_j255 hQ hX hk104 n7 hf)
set_option maxRecDepth 20000 in
theorem m0_w_Works_shrink_j252 {this : Nat} {Q Q' : Int32 → Mem → Prop} {X X' : Mem → Prop} {k104 k104' : Int32 → Int32 → Int32 → Int32 → Int32 → Int32 → Nat → Int32 → Int32 → Int32 → Mem → Prop} {v1 : Int32} {v2 : Int32} {v3 : Int32} {v4 : Int32} {v5 : Int32} {v6 : Int32} {v7 : Nat} {v8 : Int32} {v10 : Int32} {v11 : Int32} {v12 : Int32} {M : Mem} {M0 : Mem} (hQ : ∀ z0 z1, K0 M0 z1 → Q z0 z1 → Q' z0 z1) (hX : ∀ z0, K0 M0 z0 → X z0 → X' z0) (hk104 : ∀ z0 z1 z2 z3 z4 z5 z6 z7 z8 z9 z10, (R0 M0 → z6 ≠ 0) → K0 M0 z10 → k104 z0 z1 z2 z3 z4 z5 z6 z7 z8 z9 z10 → k104' z0 z1 z2 z3 z4 z5 z6 z7 z8 z9 z10) : (R0 M0 → v7 ≠ 0) → K0 M0 M → w_Works_shrink_j252 this Q X k104 v1 v2 v3 v4 v5 v6 v7 v8 v10 v11 v12 M → w_Works_shrink_j252 this Q' X' k104' v1 v2 v3 v4 v5 v6 v7 v8 v10 v11 v12 M := by
  intro n7 hf
  unfold w_Works_shrink_j252
  exact (m0_w_Works_shrink_j253 hQ hX hk104 n7 hf)
set_option maxRecDepth 20000 in
theorem m0_w_Works_shrink_j212 {this : Nat} {Q Q' : Int32 → Mem → Prop} {X X' : Mem → Prop} {k104 k104' : Int32 → Int32 → Int32 → Int32 → Int32 → Int32 → Nat → Int32 → Int32 → Int32 → Mem → Prop} {v1 : Int32} {v2 : Int32} {v3 : Int32} {v4 : Int32} {v5 : Int32} {v6 : Int32} {v7 : Nat} {v8 : Int32} {v10 : Int32} {v11 : Int32} {v12 : Int32} {s0 : Int32} {M : Mem} {M0 : Mem} (hQ : ∀ z0 z1, K0 M0 z1 → Q z0 z1 → Q' z0 z1) (hX : ∀ z0, K0 M0 z0 → X z0 → X' z0) (hk104 : ∀ z0 z1 z2 z3 z4 z5 z6 z7 z8 z9 z10, (R0 M0 → z6 ≠ 0) → K0 M0 z10 → k104 z0 z1 z2 z3 z4 z5 z6 z7 z8 z9 z10 → k104' z0 z1 z2 z3 z4 z5 z6 z7 z8 z9 z10) : (R0 M0 → v7 ≠ 0) → K0 M0 M → w_Works_shrink_j212 this Q X k104 v1 v2 v3 v4 v5 v6 v7 v8 v10 v11 v12 s0 M → w_Works_shrink_j212 this Q' X' k104' v1 v2 v3 v4 v5 v6 v7 v8 v10 v11 v12 s0 M := by
  intro n7 hf
  unfold w_Works_shrink_j212
  exact (mf_ite (m0_w_Works_shrink_j255 hQ hX hk104 n7 hf) (mf_w_Works_work1 (fun M40 f1 => (mf_ite (mf_ite (m0_w_Works_shrink_j253 hQ hX hk104 n7 (K0.trans hf (K0.fr f1 rfl))) (m0_w_Works_shrink_j252 hQ hX hk104 n7 (K0.trans hf (K0.fr f1 rfl)))) (m0_w_Works_shrink_j252 hQ hX hk104 n7 (K0.trans hf (K0.fr f1 rfl))))) (fun z3 f2 => hX z3 (K0.trans hf (K0.fr f2 rfl)))))
set_option maxRecDepth 20000 in
theorem m0_w_Works_shrink_j211 {this : Nat} {Q Q' : Int32 → Mem → Prop} {X X' : Mem → Prop} {k104 k104' : Int32 → Int32 → Int32 → Int32 → Int32 → Int32 → Nat → Int32 → Int32 → Int32 → Mem → Prop} {v1 : Int32} {v2 : Int32} {v3 : Int32} {v4 : Int32} {v5 : Int32} {v6 : Int32} {v7 : Nat} {v8 : Int32} {v10 : Int32} {v11 : Int32} {v12 : Int32} {M : Mem} {M0 : Mem} (hQ : ∀ z0 z1, K0 M0 z1 → Q z0 z1 → Q' z0 z1) (hX : ∀ z0, K0 M0 z0 → X z0 → X' z0) (hk104 : ∀ z0 z1 z2 z3 z4 z5 z6 z7 z8 z9 z10, (R0 M0 → z6 ≠ 0) → K0 M0 z10 → k104 z0 z1 z2 z3 z4 z5 z6 z7 z8 z9 z10 → k104' z0 z1 z2 z3 z4 z5 z6 z7 z8 z9 z10) : (R0 M0 → v7 ≠ 0) → K0 M0 M → w_Works_shrink_j211 this Q X k104 v1 v2 v3 v4 v5 v6 v7 v8 v10 v11 v12 M → w_Works_shrink_j211 this Q' X' k104' v1 v2 v3 v4 v5 v6 v7 v8 v10 v11 v12 M := by
  intro n7 hf
  unfold w_Works_shrink_j211
  exact (m0_w_Works_shrink_j212 hQ hX hk104 n7 hf)
set_option maxRecDepth 20000 in
theorem m0_w_Works_shrink_j138 {this : Nat} {Q Q' : Int32 → Mem → Prop} {X X' : Mem → Prop} {k104 k104' : Int32 → Int32 → Int32 → Int32 → Int32 → Int32 → Nat → Int32 → Int32 → Int32 → Mem → Prop} {v1 : Int32} {v2 : Int32} {v3 : Int32} {v4 : Int32} {v5 : Int32} {v6 : Int32} {v7 : Nat} {v8 : Int32} {v9 : Int32} {v10 : Int32} {v11 : Int32} {M : Mem} {M0 : Mem} (hQ : ∀ z0 z1, K0 M0 z1 → Q z0 z1 → Q' z0 z1) (hX : ∀ z0, K0 M0 z0 → X z0 → X' z0) (hk104 : ∀ z0 z1 z2 z3 z4 z5 z6 z7 z8 z9 z10, (R0 M0 → z6 ≠ 0) → K0 M0 z10 → k104 z0 z1 z2 z3 z4 z5 z6 z7 z8 z9 z10 → k104' z0 z1 z2 z3 z4 z5 z6 z7 z8 z9 z10) : (R0 M0 → v7 ≠ 0) → K0 M0 M → w_Works_shrink_j138 this Q X k104 v1 v2 v3 v4 v5 v6 v7 v8 v9 v10 v11 M → w_Works_shrink_j138 this Q' X' k104' v1 v2 v3 v4 v5 v6 v7 v8 v9 v10 v11 M := by
  intro n7 hf
  unfold w_Works_shrink_j138
  exact (mf_and fun _ => (mf_and fun _ => (mf_and fun _ => (mf_and fun _ => (mf_and fun _ => (Exists.imp fun M17 => (mf_and fun e1 => (mf_and fun _ => (mf_and fun _ => (mf_and fun _ => (mf_and fun _ => (mf_and fun _ => (Exists.imp fun M23 => (mf_and fun e2 => (mf_w_Works_work1 (fun M29 f3 => (mf_ite (mf_ite (m0_w_Works_shrink_j212 hQ hX hk104 n7 (K0.trans (K0.of e2 (K0.wc1 (fun _ => show (41 : Nat) ≠ 0 from by decide) (K0.of e1 (K0.wc1 (fun _ => show (41 : Nat) ≠ 0 from by decide) hf)))) (K0.fr f3 rfl))) (m0_w_Works_shrink_j211 hQ hX hk104 n7 (K0.trans (K0.of e2 (K0.wc1 (fun _ => show (41 : Nat) ≠ 0 from by decide) (K0.of e1 (K0.wc1 (fun _ => show (41 : Nat) ≠ 0 from by decide) hf)))) (K0.fr f3 rfl)))) (m0_w_Works_shrink_j211 hQ hX hk104 n7 (K0.trans (K0.of e2 (K0.wc1 (fun _ => show (41 : Nat) ≠ 0 from by decide) (K0.of e1 (K0.wc1 (fun _ => show (41 : Nat) ≠ 0 from by decide) hf)))) (K0.fr f3 rfl))))) (fun z5 f4 => hX z5 (K0.trans (K0.of e2 (K0.wc1 (fun _ => show (41 : Nat) ≠ 0 from by decide) (K0.of e1 (K0.wc1 (fun _ => show (41 : Nat) ≠ 0 from by decide) hf)))) (K0.fr f4 rfl))))))))))))))))))
set_option maxRecDepth 20000 in
theorem m0_w_Works_shrink_L115 {this : Nat} {Q Q' : Int32 → Mem → Prop} {X X' : Mem → Prop} {k104 k104' : Int32 → Int32 → Int32 → Int32 → Int32 → Int32 → Nat → Int32 → Int32 → Int32 → Mem → Prop} {M0 : Mem} (hQ : ∀ z0 z1, K0 M0 z1 → Q z0 z1 → Q' z0 z1) (hX : ∀ z0, K0 M0 z0 → X z0 → X' z0) (hk104 : ∀ z0 z1 z2 z3 z4 z5 z6 z7 z8 z9 z10, (R0 M0 → z6 ≠ 0) → K0 M0 z10 → k104 z0 z1 z2 z3 z4 z5 z6 z7 z8 z9 z10 → k104' z0 z1 z2 z3 z4 z5 z6 z7 z8 z9 z10) : ∀ (n : Nat) (v1 : Int32) (v2 : Int32) (v3 : Int32) (v4 : Int32) (v5 : Int32) (v6 : Int32) (v7 : Nat) (v8 : Int32) (v9 : Int32) (v10 : Int32) (v11 : Int32) (M : Mem), (R0 M0 → v7 ≠ 0) → K0 M0 M → w_Works_shrink_L115 this Q X k104 n v1 v2 v3 v4 v5 v6 v7 v8 v9 v10 v11 M → w_Works_shrink_L115 this Q' X' k104' n v1 v2 v3 v4 v5 v6 v7 v8 v9 v10 v11 M
  | 0, _, _, _, _, _, _, _, _, _, _, _, _ => fun _ _ h => h
  | n + 1, v1, v2, v3, v4, v5, v6, v7, v8, v9, v10, v11, M => fun n7 hf => by
    unfold w_Works_shrink_L115
    exact (mf_ite (m0_w_Works_shrink_j138 hQ hX hk104 n7 hf) (mf_and fun _ => (mf_ite (m0_w_Works_shrink_j138 hQ hX hk104 n7 hf) (m0_w_Works_shrink_L115 hQ hX hk104 _ _ _ _ _ _ _ _ _ _ _ _ _ n7 hf))))
set_option maxRecDepth 20000 in
theorem m0_w_Works_shrink_L104 {this : Nat} {Q Q' : Int32 → Mem → Prop} {X X' : Mem → Prop} {M0 : Mem} (hQ : ∀ z0 z1, K0 M0 z1 → Q z0 z1 → Q' z0 z1) (hX : ∀ z0, K0 M0 z0 → X z0 → X' z0) : ∀ (n : Nat) (v1 : Int32) (v2 : Int32) (v3 : Int32) (v4 : Int32) (v5 : Int32) (v6 : Int32) (v7 : Nat) (v8 : Int32) (v9 : Int32) (v10 : Int32) (M : Mem), (R0 M0 → v7 ≠ 0) → K0 M0 M → w_Works_shrink_L104 this Q X n v1 v2 v3 v4 v5 v6 v7 v8 v9 v10 M → w_Works_shrink_L104 this Q' X' n v1 v2 v3 v4 v5 v6 v7 v8 v9 v10 M
  | 0, _, _, _, _, _, _, _, _, _, _, _ => fun _ _ h => h
  | n + 1, v1, v2, v3, v4, v5, v6, v7, v8, v9, v10, M => fun n7 hf => by
    unfold w_Works_shrink_L104
    exact (mf_ite (mf_and fun _ => (mf_w_Works_forget (fun M15 f1 => (hQ _ _ (K0.trans (K0.wI0a rfl hf) (K0.fr f1 rfl)))))) (Exists.imp fun n45 => (m0_w_Works_shrink_L115 hQ hX (m0_w_Works_shrink_L104 hQ hX n) _ _ _ _ _ _ _ _ _ _ _ _ _ n7 hf)))
set_option maxRecDepth 20000 in
theorem m0_w_Works_shrink_j101 {this : Nat} {Q Q' : Int32 → Mem → Prop} {X X' : Mem → Prop} {v1 : Int32} {v2 : Int32} {v3 : Int32} {v4 : Int32} {v5 : Int32} {v6 : Int32} {v7 : Nat} {v8 : Int32} {v9 : Int32} {M : Mem} {M0 : Mem} (hQ : ∀ z0 z1, K0 M0 z1 → Q z0 z1 → Q' z0 z1) (hX : ∀ z0, K0 M0 z0 → X z0 → X' z0) : (R0 M0 → v7 ≠ 0) → K0 M0 M → w_Works_shrink_j101 this Q X v1 v2 v3 v4 v5 v6 v7 v8 v9 M → w_Works_shrink_j101 this Q' X' v1 v2 v3 v4 v5 v6 v7 v8 v9 M := by
  intro n7 hf
  unfold w_Works_shrink_j101
  exact (Exists.imp fun n46 => (m0_w_Works_shrink_L104 hQ hX _ _ _ _ _ _ _ _ _ _ _ _ n7 hf))
set_option maxRecDepth 20000 in
theorem m0_w_Works_shrink_L78 {this : Nat} {Q Q' : Int32 → Mem → Prop} {X X' : Mem → Prop} {M0 : Mem} (hQ : ∀ z0 z1, K0 M0 z1 → Q z0 z1 → Q' z0 z1) (hX : ∀ z0, K0 M0 z0 → X z0 → X' z0) : ∀ (n : Nat) (v1 : Int32) (v2 : Int32) (v3 : Int32) (v4 : Int32) (v5 : Int32) (v6 : Int32) (v7 : Nat) (v8 : Int32) (v9 : Int32) (M : Mem), (R0 M0 → v7 ≠ 0) → K0 M0 M → w_Works_shrink_L78 this Q X n v1 v2 v3 v4 v5 v6 v7 v8 v9 M → w_Works_shrink_L78 this Q' X' n v1 v2 v3 v4 v5 v6 v7 v8 v9 M
  | 0, _, _, _, _, _, _, _, _, _, _ => fun _ _ h => h
  | n + 1, v1, v2, v3, v4, v5, v6, v7, v8, v9, M => fun n7 hf => by
    unfold w_Works_shrink_L78
    exact (mf_ite (m0_w_Works_shrink_j101 hQ hX n7 hf) (mf_and fun _ => (mf_ite (m0_w_Works_shrink_j101 hQ hX n7 hf) (m0_w_Works_shrink_L78 hQ hX _ _ _ _ _ _ _ _ _ _ _ n7 hf))))
set_option maxRecDepth 20000 in
theorem m0_w_Works_shrink {this : Nat} {a1 : Int32} {a2 : Int32} {Q Q' : Int32 → Mem → Prop} {X X' : Mem → Prop} {M : Mem} (hQ : ∀ z0 z1, K0 M z1 → Q z0 z1 → Q' z0 z1) (hX : ∀ z0, K0 M z0 → X z0 → X' z0) : w_Works_shrink this a1 a2 Q X M → w_Works_shrink this a1 a2 Q' X' M := by
  unfold w_Works_shrink
  exact (mf_w_Works_isTrial (fun r2 M1 f1 => (mf_ite (hQ _ _ (K0.trans (K0.rf M) (K0.fr f1 rfl))) (mf_w_Works_isIn (fun r5 M4 f2 => (mf_ite (hQ _ _ (K0.trans (K0.trans (K0.rf M) (K0.fr f1 rfl)) (K0.fr f2 rfl))) (mf_w_Works_work2 (fun M7 f3 => (mf_w_Works_work2 (fun M8 f4 => (mf_and fun p5 => (Exists.imp fun i10 => (mf_and fun e6 => (mf_and fun _ => (Exists.imp fun n49 => (m0_w_Works_shrink_L78 hQ hX _ _ _ _ _ _ _ _ _ _ _ (K0.ne p5 e6 (K0.trans (K0.trans (K0.trans (K0.trans (K0.rf M) (K0.fr f1 rfl)) (K0.fr f2 rfl)) (K0.fr f3 rfl)) (K0.fr f4 rfl))) (K0.trans (K0.trans (K0.trans (K0.trans (K0.rf M) (K0.fr f1 rfl)) (K0.fr f2 rfl)) (K0.fr f3 rfl)) (K0.fr f4 rfl))))))))) (fun z8 f7 => hX z8 (K0.trans (K0.trans (K0.trans (K0.trans (K0.rf M) (K0.fr f1 rfl)) (K0.fr f2 rfl)) (K0.fr f3 rfl)) (K0.fr f7 rfl))))) (fun z10 f9 => hX z10 (K0.trans (K0.trans (K0.trans (K0.rf M) (K0.fr f1 rfl)) (K0.fr f2 rfl)) (K0.fr f9 rfl))))))))))
