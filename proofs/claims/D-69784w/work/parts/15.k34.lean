/-! B: the pages of the twin stay as they were while trials are worked out: printed by ck6.py -/
def N6 (n r : Nat) (M : Mem) : Prop := (401, r) ∈ mN M ∧ mR M 11 n 0 ≠ some (401, r) ∧ mR M 11 n 1 ≠ some (401, r) ∧ ∀ w, mR M 12 w 30 ≠ some (401, r)
def K6 (n : Nat) (M M' : Mem) : Prop := ∀ r, N6 n r M → N6 n r M' ∧ ∀ k, mI M' 401 r k = mI M 401 r k
def r6 (f k : Nat) : Bool := (Nat.beq f 11 && (Nat.beq k 0 || Nat.beq k 1)) || (Nat.beq f 12 && Nat.beq k 30)
section
variable {n : Nat} {M M1 M2 : Mem} {f i k g j : Nat} {v : Int32}
theorem K6.rf (M : Mem) : K6 n M M := fun r h => ⟨h, fun _ => rfl⟩
theorem K6.trans (h : K6 n M M1) (h1 : K6 n M1 M2) : K6 n M M2 := fun r z => ⟨(h1 r (h r z).1).1, fun k => ((h1 r (h r z).1).2 k).trans ((h r z).2 k)⟩
theorem K6.of (e : M2 = M1) (h : K6 n M M1) : K6 n M M2 := e ▸ h
theorem K6.fr {S : Nat} (h : Fr S M M1) (e : okF S [401, cd 11 0, cd 11 1, cd 12 30] = true) : K6 n M M1 := fun r z => by
  have o := fun {b : Nat} (hb : b ∈ [401, cd 11 0, cd 11 1, cd 12 30]) => okF_in e hb
  refine ⟨⟨(h.2.2.2 _ z.1).1, ?_, ?_, fun w => ?_⟩, fun k => h.Ia (f := 401) rfl (o (by simp)) r k⟩
  · rw [(h.1 11 0 (o (by simp)) n).2.2]; exact z.2.1
  · rw [(h.1 11 1 (o (by simp)) n).2.2]; exact z.2.2.1
  · rw [(h.1 12 30 (o (by simp)) w).2.2]; exact z.2.2.2 w
theorem K6.ne0 (e : mR M1 11 n 0 = some (401, i)) (h : K6 n M M1) : ∀ r, N6 n r M → i ≠ r := fun r z y => (h r z).1.2.1 (by rw [e, y])
theorem K6.ne1 (e : mR M1 11 n 1 = some (401, i)) (h : K6 n M M1) : ∀ r, N6 n r M → i ≠ r := fun r z y => (h r z).1.2.2.1 (by rw [e, y])
theorem K6.ne2 (e : mR M1 12 j 30 = some (401, i)) (h : K6 n M M1) : ∀ r, N6 n r M → i ≠ r := fun r z y => (h r z).1.2.2.2 j (by rw [e, y])
theorem K6.nef (e : (401, i) ∉ mN M1) (h : K6 n M M1) : ∀ r, N6 n r M → i ≠ r := fun r z y => e (by rw [y]; exact (h r z).1.1)
theorem K6.bk (h : K6 n M M1) (e : ∀ r, N6 n r M1 → i ≠ r) : ∀ r, N6 n r M → i ≠ r := fun r z => e r (h r z).1
theorem K6.wJ {v : Int64} (h : K6 n M M1) : K6 n M (sJ M1 f i k v) := h
theorem K6.wI0 (e : Nat.beq f 401 = false) (h : K6 n M M1) : K6 n M (sI M1 f i k v) := fun r z => ⟨(h r z).1, fun k' => (if_neg (fun y => by rw [← y.1] at e; cases e)).trans ((h r z).2 k')⟩
theorem K6.wI1 (e : ∀ r, N6 n r M → i ≠ r) (h : K6 n M M1) : K6 n M (sI M1 f i k v) := fun r z => ⟨(h r z).1, fun k' => (if_neg (fun y => e r z y.2.1.symm)).trans ((h r z).2 k')⟩
theorem K6.wf0 (e : Nat.beq f 401 = false) (h : K6 n M M1) : K6 n M (flI M1 f i v) := fun r z => ⟨(h r z).1, fun k' => (if_neg (fun y => by rw [← y.1] at e; cases e)).trans ((h r z).2 k')⟩
theorem K6.wR0 {v : Option (Nat × Nat)} (e : r6 f k = false) (h : K6 n M M1) : K6 n M (sR M1 f i k v) := fun r z => by
  obtain ⟨⟨h1, h2, h3, h4⟩, h5⟩ := h r z
  refine ⟨⟨h1, ?_, ?_, fun w => ?_⟩, h5⟩
  · rw [mR_sR, if_neg (fun y => by rw [← y.1, ← y.2.2] at e; cases e)]; exact h2
  · rw [mR_sR, if_neg (fun y => by rw [← y.1, ← y.2.2] at e; cases e)]; exact h3
  · rw [mR_sR, if_neg (fun y => by rw [← y.1, ← y.2.2] at e; cases e)]; exact h4 w
theorem K6.wR1 {x : Nat} (e : ∀ r, N6 n r M → x ≠ r) (h : K6 n M M1) : K6 n M (sR M1 f i k (some (401, x))) := fun r z => by
  obtain ⟨⟨h1, h2, h3, h4⟩, h5⟩ := h r z
  have key : ∀ f' i' k', mR M1 f' i' k' ≠ some (401, r) → mR (sR M1 f i k (some (401, x))) f' i' k' ≠ some (401, r) := fun f' i' k' hn => by
    rw [mR_sR]
    split
    · intro y; injection y with y; injection y with _ y; exact e r z y
    · exact hn
  exact ⟨⟨h1, key _ _ _ h2, key _ _ _ h3, fun w => key _ _ _ (h4 w)⟩, h5⟩
theorem N6.wmk {l r : Nat} (h : N6 n r M) : N6 n r (mk M f i l) := by
  have key : ∀ f' i' k', mR M f' i' k' ≠ some (401, r) → mR (mk M f i l) f' i' k' ≠ some (401, r) := fun f' i' k' hn => by
    show (if f' = f ∧ i' = i then none else mR M f' i' k') ≠ _
    split
    · intro z; cases z
    · exact hn
  exact ⟨List.mem_append_left _ h.1, key _ _ _ h.2.1, key _ _ _ h.2.2.1, fun w => key _ _ _ (h.2.2.2 w)⟩
theorem K6.wmk0 {l : Nat} (e : Nat.beq f 401 = false) (h : K6 n M M1) : K6 n M (mk M1 f i l) := fun r z => ⟨(h r z).1.wmk, fun k' => (if_neg (fun y => by rw [← y.1] at e; cases e)).trans ((h r z).2 k')⟩
theorem K6.wmk1 {l : Nat} (e : ∀ r, N6 n r M → i ≠ r) (h : K6 n M M1) : K6 n M (mk M1 f i l) := fun r z => ⟨(h r z).1.wmk, fun k' => (if_neg (fun y => e r z y.2.symm)).trans ((h r z).2 k')⟩
theorem K6.wc0 {sp dp l : Nat} (e : Nat.beq g 401 = false) (h : K6 n M M1) : K6 n M (cpI M1 f i sp g j dp l) := fun r z => ⟨(h r z).1, fun k' => (if_neg (fun y => by rw [← y.1] at e; cases e)).trans ((h r z).2 k')⟩
theorem K6.wc1 {sp dp l : Nat} (e : ∀ r, N6 n r M → j ≠ r) (h : K6 n M M1) : K6 n M (cpI M1 f i sp g j dp l) := fun r z => ⟨(h r z).1, fun k' => (if_neg (fun y => e r z y.2.symm)).trans ((h r z).2 k')⟩
end
set_option maxRecDepth 20000 in
theorem m6_w_Model_roomy {n : Nat} {a1 : Nat} {a2 : Int32} {Q Q' : Nat → Mem → Prop} {M : Mem} (ha1 : ∀ r, N6 n r M → a1 ≠ r) (hQ : ∀ z0 z1, (∀ r, N6 n r M → z0 ≠ r) → K6 n M z1 → Q z0 z1 → Q' z0 z1) : w_Model_roomy a1 a2 Q M → w_Model_roomy a1 a2 Q' M := by
  unfold w_Model_roomy
  exact (mf_ite (mf_w_JMath_max (fun r3 M2 f1 => (mf_and fun _ => (mf_and fun _ => (Exists.imp fun i5 => (mf_and fun e2 => (Exists.imp fun M4 => (mf_and fun e3 => (mf_and fun _ => (mf_and fun _ => (mf_and fun _ => (mf_and fun _ => (mf_and fun _ => (Exists.imp fun M9 => (mf_and fun e4 => (hQ _ _ (K6.nef e2 (K6.trans (K6.rf M) (K6.fr f1 rfl))) (K6.of e4 (K6.wc1 (K6.nef e2 (K6.trans (K6.rf M) (K6.fr f1 rfl))) (K6.of e3 (K6.wmk1 (K6.nef e2 (K6.trans (K6.rf M) (K6.fr f1 rfl))) (K6.trans (K6.rf M) (K6.fr f1 rfl)))))))))))))))))))))) (hQ _ _ ha1 (K6.rf M)))
set_option maxRecDepth 20000 in
theorem m6_w_Model_nameIn_L150 {this : Nat} {Q Q' : Int32 → Mem → Prop} {M0 : Mem} (hQ : ∀ z0 z1, K6 this M0 z1 → Q z0 z1 → Q' z0 z1) : ∀ (n : Nat) (v1 : Nat) (v2 : Int32) (v3 : Int32) (v5 : Int32) (v6 : Int32) (M : Mem), K6 this M0 M → w_Model_nameIn_L150 this Q n v1 v2 v3 v5 v6 M → w_Model_nameIn_L150 this Q' n v1 v2 v3 v5 v6 M
  | 0, _, _, _, _, _, _ => fun _ h => h
  | n + 1, v1, v2, v3, v5, v6, M => fun hf => by
    unfold w_Model_nameIn_L150
    exact (mf_ite (Exists.imp fun i15 => (mf_and fun e1 => (mf_and fun _ => (Exists.imp fun M17 => (mf_and fun e2 => (Exists.imp fun i18 => (mf_and fun _ => (mf_and fun _ => (mf_and fun _ => (Exists.imp fun M21 => (mf_and fun e3 => (mf_and fun _ => (Exists.imp fun M23 => (mf_and fun e4 => (hQ _ _ (K6.of e4 (K6.wI0 rfl (K6.wI0 rfl (K6.of e3 (K6.wI0 rfl (K6.of e2 (K6.wI1 (K6.ne1 e1 hf) hf)))))))))))))))))))))) (Exists.imp fun i24 => (mf_and fun e5 => (mf_and fun _ => (mf_and fun _ => (Exists.imp fun M27 => (mf_and fun e6 => (m6_w_Model_nameIn_L150 hQ _ _ _ _ _ _ _ (K6.of e6 (K6.wI1 (K6.ne0 e5 hf) hf))))))))))
set_option maxRecDepth 20000 in
theorem m6_w_Model_nameIn_L55 {this : Nat} {Q Q' : Int32 → Mem → Prop} {M0 : Mem} (hQ : ∀ z0 z1, K6 this M0 z1 → Q z0 z1 → Q' z0 z1) : ∀ (n : Nat) (v1 : Nat) (v2 : Int32) (v3 : Int32) (v5 : Int32) (v6 : Int32) (M : Mem), K6 this M0 M → w_Model_nameIn_L55 this Q n v1 v2 v3 v5 v6 M → w_Model_nameIn_L55 this Q' n v1 v2 v3 v5 v6 M
  | 0, _, _, _, _, _, _ => fun _ h => h
  | n + 1, v1, v2, v3, v5, v6, M => fun hf => by
    unfold w_Model_nameIn_L55
    exact (mf_ite (Exists.imp fun i5 => (mf_and fun e1 => (m6_w_Model_roomy (K6.ne0 e1 (K6.rf _)) (fun i7 M6 w3 f2 => (Exists.imp fun i8 => (mf_and fun e4 => (m6_w_Model_roomy (K6.ne1 e4 (K6.rf _)) (fun i10 M9 w6 f5 => (Exists.imp fun i11 => (mf_and fun _ => (mf_w_Model_room (fun i13 M12 f7 => (Exists.imp fun n28 => (m6_w_Model_nameIn_L150 hQ _ _ _ _ _ _ _ (K6.wR0 rfl (K6.trans (K6.wR1 (K6.bk (K6.wR1 (K6.bk hf w3) (K6.trans hf f2)) w6) (K6.trans (K6.wR1 (K6.bk hf w3) (K6.trans hf f2)) f5)) (K6.fr f7 rfl))))))))))))))))) (mf_w_Model_isName (fun r30 M29 f8 => (mf_ite (Exists.imp fun i32 => (mf_and fun _ => (mf_and fun _ => (m6_w_Model_nameIn_L55 hQ _ _ _ _ _ _ _ (K6.trans hf (K6.fr f8 rfl)))))) (hQ _ _ (K6.trans hf (K6.fr f8 rfl)))))))
set_option maxRecDepth 20000 in
theorem m6_w_Model_nameIn_L6 {this : Nat} {Q Q' : Int32 → Mem → Prop} {M0 : Mem} (hQ : ∀ z0 z1, K6 this M0 z1 → Q z0 z1 → Q' z0 z1) : ∀ (n : Nat) (v1 : Nat) (v2 : Int32) (v3 : Int32) (v4 : Int32) (v5 : Int32) (M : Mem), K6 this M0 M → w_Model_nameIn_L6 this Q n v1 v2 v3 v4 v5 M → w_Model_nameIn_L6 this Q' n v1 v2 v3 v4 v5 M
  | 0, _, _, _, _, _, _ => fun _ h => h
  | n + 1, v1, v2, v3, v4, v5, M => fun hf => by
    unfold w_Model_nameIn_L6
    exact (mf_ite (Exists.imp fun x2 => (mf_and fun _ => (mf_and fun _ => (Exists.imp fun n34 => (m6_w_Model_nameIn_L55 hQ _ _ _ _ _ _ _ hf))))) (mf_and fun _ => (Exists.imp fun x36 => (mf_and fun _ => (m6_w_Model_nameIn_L6 hQ _ _ _ _ _ _ _ hf)))))
set_option maxRecDepth 20000 in
theorem m6_w_Model_nameIn {this : Nat} {a1 : Nat} {a2 : Int32} {a3 : Int32} {Q Q' : Int32 → Mem → Prop} {M : Mem} (hQ : ∀ z0 z1, K6 this M z1 → Q z0 z1 → Q' z0 z1) : w_Model_nameIn this a1 a2 a3 Q M → w_Model_nameIn this a1 a2 a3 Q' M := by
  unfold w_Model_nameIn
  exact (Exists.imp fun n37 => (m6_w_Model_nameIn_L6 hQ _ _ _ _ _ _ _ (K6.rf M)))
set_option maxRecDepth 20000 in
theorem m6_w_Model_cutLine_j395 {this : Nat} {Q Q' : Int32 → Mem → Prop} {v3 : Int32} {s0 : Int32} {M : Mem} {M0 : Mem} (hQ : ∀ z0 z1, K6 this M0 z1 → Q z0 z1 → Q' z0 z1) : K6 this M0 M → w_Model_cutLine_j395 this Q v3 s0 M → w_Model_cutLine_j395 this Q' v3 s0 M := by
  intro hf
  unfold w_Model_cutLine_j395
  exact (mf_w_Model_addWord (fun M3 f1 => (mf_and fun _ => (hQ _ _ (K6.trans hf (K6.fr f1 rfl))))))
set_option maxRecDepth 20000 in
theorem m6_w_Model_cutLine_j383 {this : Nat} {Q Q' : Int32 → Mem → Prop} {v3 : Int32} {M : Mem} {M0 : Mem} (hQ : ∀ z0 z1, K6 this M0 z1 → Q z0 z1 → Q' z0 z1) : K6 this M0 M → w_Model_cutLine_j383 this Q v3 M → w_Model_cutLine_j383 this Q' v3 M := by
  intro hf
  unfold w_Model_cutLine_j383
  exact (mf_ite (m6_w_Model_cutLine_j395 hQ hf) (m6_w_Model_cutLine_j395 hQ hf))
set_option maxRecDepth 20000 in
theorem m6_w_Model_cutLine_j376 {this : Nat} {Q Q' : Int32 → Mem → Prop} {k16 k16' : Nat → Int32 → Int32 → Int32 → Mem → Prop} {v1 : Nat} {v3 : Int32} {v5 : Int32} {v7 : Int32} {M : Mem} {M0 : Mem} (hQ : ∀ z0 z1, K6 this M0 z1 → Q z0 z1 → Q' z0 z1) (hk16 : ∀ z0 z1 z2 z3 z4, K6 this M0 z4 → k16 z0 z1 z2 z3 z4 → k16' z0 z1 z2 z3 z4) : K6 this M0 M → w_Model_cutLine_j376 this Q k16 v1 v3 v5 v7 M → w_Model_cutLine_j376 this Q' k16' v1 v3 v5 v7 M := by
  intro hf
  unfold w_Model_cutLine_j376
  exact (hk16 _ _ _ _ _ hf)
set_option maxRecDepth 20000 in
theorem m6_w_Model_cutLine_j260 {this : Nat} {Q Q' : Int32 → Mem → Prop} {k16 k16' : Nat → Int32 → Int32 → Int32 → Mem → Prop} {v1 : Nat} {v3 : Int32} {v4 : Int32} {v5 : Int32} {v6 : Int32} {v7 : Int32} {M : Mem} {M0 : Mem} (hQ : ∀ z0 z1, K6 this M0 z1 → Q z0 z1 → Q' z0 z1) (hk16 : ∀ z0 z1 z2 z3 z4, K6 this M0 z4 → k16 z0 z1 z2 z3 z4 → k16' z0 z1 z2 z3 z4) : K6 this M0 M → w_Model_cutLine_j260 this Q k16 v1 v3 v4 v5 v6 v7 M → w_Model_cutLine_j260 this Q' k16' v1 v3 v4 v5 v6 v7 M := by
  intro hf
  unfold w_Model_cutLine_j260
  exact (mf_w_Model_addWord (fun M17 f1 => (m6_w_Model_cutLine_j376 hQ hk16 (K6.trans hf (K6.fr f1 rfl)))))
set_option maxRecDepth 20000 in
theorem m6_w_Model_cutLine_j358 {this : Nat} {Q Q' : Int32 → Mem → Prop} {k16 k16' : Nat → Int32 → Int32 → Int32 → Mem → Prop} {v1 : Nat} {v3 : Int32} {v4 : Int32} {v5 : Int32} {v6 : Int32} {v7 : Int32} {M : Mem} {M0 : Mem} (hQ : ∀ z0 z1, K6 this M0 z1 → Q z0 z1 → Q' z0 z1) (hk16 : ∀ z0 z1 z2 z3 z4, K6 this M0 z4 → k16 z0 z1 z2 z3 z4 → k16' z0 z1 z2 z3 z4) : K6 this M0 M → w_Model_cutLine_j358 this Q k16 v1 v3 v4 v5 v6 v7 M → w_Model_cutLine_j358 this Q' k16' v1 v3 v4 v5 v6 v7 M := by
  intro hf
  unfold w_Model_cutLine_j358
  exact (mf_ite (m6_w_Model_cutLine_j376 hQ hk16 hf) (mf_w_Model_addWord (fun M33 f1 => (m6_w_Model_cutLine_j376 hQ hk16 (K6.trans hf (K6.fr f1 rfl))))))
set_option maxRecDepth 20000 in
theorem m6_w_Model_cutLine_j315 {this : Nat} {Q Q' : Int32 → Mem → Prop} {k16 k16' : Nat → Int32 → Int32 → Int32 → Mem → Prop} {v1 : Nat} {v3 : Int32} {v4 : Int32} {v5 : Int32} {v6 : Int32} {v7 : Int32} {M : Mem} {M0 : Mem} (hQ : ∀ z0 z1, K6 this M0 z1 → Q z0 z1 → Q' z0 z1) (hk16 : ∀ z0 z1 z2 z3 z4, K6 this M0 z4 → k16 z0 z1 z2 z3 z4 → k16' z0 z1 z2 z3 z4) : K6 this M0 M → w_Model_cutLine_j315 this Q k16 v1 v3 v4 v5 v6 v7 M → w_Model_cutLine_j315 this Q' k16' v1 v3 v4 v5 v6 v7 M := by
  intro hf
  unfold w_Model_cutLine_j315
  exact (mf_ite (mf_w_Model_isTag (fun r30 M29 f1 => (mf_ite (m6_w_Model_cutLine_j358 hQ hk16 (K6.trans hf (K6.fr f1 rfl))) (mf_w_Model_addWord (fun M34 f2 => (m6_w_Model_cutLine_j376 hQ hk16 (K6.trans (K6.trans hf (K6.fr f1 rfl)) (K6.fr f2 rfl)))))))) (m6_w_Model_cutLine_j358 hQ hk16 hf))
set_option maxRecDepth 20000 in
theorem m6_w_Model_cutLine_j211 {this : Nat} {Q Q' : Int32 → Mem → Prop} {k16 k16' : Nat → Int32 → Int32 → Int32 → Mem → Prop} {v1 : Nat} {v3 : Int32} {v4 : Int32} {v5 : Int32} {v6 : Int32} {v7 : Int32} {M : Mem} {M0 : Mem} (hQ : ∀ z0 z1, K6 this M0 z1 → Q z0 z1 → Q' z0 z1) (hk16 : ∀ z0 z1 z2 z3 z4, K6 this M0 z4 → k16 z0 z1 z2 z3 z4 → k16' z0 z1 z2 z3 z4) : K6 this M0 M → w_Model_cutLine_j211 this Q k16 v1 v3 v4 v5 v6 v7 M → w_Model_cutLine_j211 this Q' k16' v1 v3 v4 v5 v6 v7 M := by
  intro hf
  unfold w_Model_cutLine_j211
  exact (mf_ite (m6_w_Model_cutLine_j260 hQ hk16 hf) (mf_ite (m6_w_Model_cutLine_j260 hQ hk16 hf) (mf_ite (m6_w_Model_cutLine_j260 hQ hk16 hf) (mf_ite (m6_w_Model_cutLine_j260 hQ hk16 hf) (mf_ite (m6_w_Model_cutLine_j260 hQ hk16 hf) (mf_ite (m6_w_Model_cutLine_j260 hQ hk16 hf) (mf_ite (m6_w_Model_cutLine_j260 hQ hk16 hf) (mf_ite (mf_w_Model_isTag (fun r26 M25 f1 => (mf_ite (m6_w_Model_cutLine_j315 hQ hk16 (K6.trans hf (K6.fr f1 rfl))) (mf_w_Model_addWord (fun M35 f2 => (m6_w_Model_cutLine_j376 hQ hk16 (K6.trans (K6.trans hf (K6.fr f1 rfl)) (K6.fr f2 rfl)))))))) (m6_w_Model_cutLine_j315 hQ hk16 hf)))))))))
set_option maxRecDepth 20000 in
theorem m6_w_Model_cutLine_j206 {this : Nat} {Q Q' : Int32 → Mem → Prop} {k16 k16' : Nat → Int32 → Int32 → Int32 → Mem → Prop} {v1 : Nat} {v3 : Int32} {v7 : Int32} {s0 : Int32} {M : Mem} {M0 : Mem} (hQ : ∀ z0 z1, K6 this M0 z1 → Q z0 z1 → Q' z0 z1) (hk16 : ∀ z0 z1 z2 z3 z4, K6 this M0 z4 → k16 z0 z1 z2 z3 z4 → k16' z0 z1 z2 z3 z4) : K6 this M0 M → w_Model_cutLine_j206 this Q k16 v1 v3 v7 s0 M → w_Model_cutLine_j206 this Q' k16' v1 v3 v7 s0 M := by
  intro hf
  unfold w_Model_cutLine_j206
  exact (m6_w_Model_cutLine_j376 hQ hk16 hf)
set_option maxRecDepth 20000 in
theorem m6_w_Model_cutLine_j176 {this : Nat} {Q Q' : Int32 → Mem → Prop} {k16 k16' : Nat → Int32 → Int32 → Int32 → Mem → Prop} {v1 : Nat} {v3 : Int32} {v4 : Int32} {M : Mem} {M0 : Mem} (hQ : ∀ z0 z1, K6 this M0 z1 → Q z0 z1 → Q' z0 z1) (hk16 : ∀ z0 z1 z2 z3 z4, K6 this M0 z4 → k16 z0 z1 z2 z3 z4 → k16' z0 z1 z2 z3 z4) : K6 this M0 M → w_Model_cutLine_j176 this Q k16 v1 v3 v4 M → w_Model_cutLine_j176 this Q' k16' v1 v3 v4 M := by
  intro hf
  unfold w_Model_cutLine_j176
  exact (mf_w_Model_number (fun r41 M40 f1 => (mf_and fun _ => (mf_ite (m6_w_Model_cutLine_j206 hQ hk16 (K6.trans hf (K6.fr f1 rfl))) (m6_w_Model_cutLine_j206 hQ hk16 (K6.trans hf (K6.fr f1 rfl)))))))
set_option maxRecDepth 20000 in
theorem m6_w_Model_cutLine_j137 {this : Nat} {Q Q' : Int32 → Mem → Prop} {k16 k16' : Nat → Int32 → Int32 → Int32 → Mem → Prop} {v1 : Nat} {v3 : Int32} {v4 : Int32} {v5 : Int32} {v7 : Int32} {s0 : Int32} {s1 : Int32} {M : Mem} {M0 : Mem} (hQ : ∀ z0 z1, K6 this M0 z1 → Q z0 z1 → Q' z0 z1) (hk16 : ∀ z0 z1 z2 z3 z4, K6 this M0 z4 → k16 z0 z1 z2 z3 z4 → k16' z0 z1 z2 z3 z4) : K6 this M0 M → w_Model_cutLine_j137 this Q k16 v1 v3 v4 v5 v7 s0 s1 M → w_Model_cutLine_j137 this Q' k16' v1 v3 v4 v5 v7 s0 s1 M := by
  intro hf
  unfold w_Model_cutLine_j137
  exact (mf_w_Model_addWord (fun M48 f1 => (m6_w_Model_cutLine_j376 hQ hk16 (K6.trans hf (K6.fr f1 rfl)))))
set_option maxRecDepth 20000 in
theorem m6_w_Model_cutLine_j116 {this : Nat} {Q Q' : Int32 → Mem → Prop} {k16 k16' : Nat → Int32 → Int32 → Int32 → Mem → Prop} {v1 : Nat} {v3 : Int32} {v4 : Int32} {v5 : Int32} {v7 : Int32} {s0 : Int32} {M : Mem} {M0 : Mem} (hQ : ∀ z0 z1, K6 this M0 z1 → Q z0 z1 → Q' z0 z1) (hk16 : ∀ z0 z1 z2 z3 z4, K6 this M0 z4 → k16 z0 z1 z2 z3 z4 → k16' z0 z1 z2 z3 z4) : K6 this M0 M → w_Model_cutLine_j116 this Q k16 v1 v3 v4 v5 v7 s0 M → w_Model_cutLine_j116 this Q' k16' v1 v3 v4 v5 v7 s0 M := by
  intro hf
  unfold w_Model_cutLine_j116
  exact (mf_ite (m6_w_Model_cutLine_j137 hQ hk16 hf) (m6_w_Model_nameIn (fun r50 M49 f1 => (m6_w_Model_cutLine_j137 hQ hk16 (K6.trans hf f1)))))
set_option maxRecDepth 20000 in
theorem m6_w_Model_cutLine_j103 {this : Nat} {Q Q' : Int32 → Mem → Prop} {k16 k16' : Nat → Int32 → Int32 → Int32 → Mem → Prop} {v1 : Nat} {v3 : Int32} {v4 : Int32} {v7 : Int32} {s0 : Int32} {M : Mem} {M0 : Mem} (hQ : ∀ z0 z1, K6 this M0 z1 → Q z0 z1 → Q' z0 z1) (hk16 : ∀ z0 z1 z2 z3 z4, K6 this M0 z4 → k16 z0 z1 z2 z3 z4 → k16' z0 z1 z2 z3 z4) : K6 this M0 M → w_Model_cutLine_j103 this Q k16 v1 v3 v4 v7 s0 M → w_Model_cutLine_j103 this Q' k16' v1 v3 v4 v7 s0 M := by
  intro hf
  unfold w_Model_cutLine_j103
  exact (mf_ite (m6_w_Model_cutLine_j116 hQ hk16 hf) (m6_w_Model_cutLine_j116 hQ hk16 hf))
set_option maxRecDepth 20000 in
theorem m6_w_Model_cutLine_j88 {this : Nat} {Q Q' : Int32 → Mem → Prop} {k16 k16' : Nat → Int32 → Int32 → Int32 → Mem → Prop} {v1 : Nat} {v3 : Int32} {v4 : Int32} {v7 : Int32} {M : Mem} {M0 : Mem} (hQ : ∀ z0 z1, K6 this M0 z1 → Q z0 z1 → Q' z0 z1) (hk16 : ∀ z0 z1 z2 z3 z4, K6 this M0 z4 → k16 z0 z1 z2 z3 z4 → k16' z0 z1 z2 z3 z4) : K6 this M0 M → w_Model_cutLine_j88 this Q k16 v1 v3 v4 v7 M → w_Model_cutLine_j88 this Q' k16' v1 v3 v4 v7 M := by
  intro hf
  unfold w_Model_cutLine_j88
  exact (mf_ite (m6_w_Model_cutLine_j103 hQ hk16 hf) (m6_w_Model_cutLine_j103 hQ hk16 hf))
set_option maxRecDepth 20000 in
theorem m6_w_Model_cutLine_j82 {this : Nat} {Q Q' : Int32 → Mem → Prop} {k16 k16' : Nat → Int32 → Int32 → Int32 → Mem → Prop} {k56 k56' : Nat → Int32 → Int32 → Int32 → Mem → Prop} {v1 : Nat} {v3 : Int32} {v4 : Int32} {v7 : Int32} {M : Mem} {M0 : Mem} (hQ : ∀ z0 z1, K6 this M0 z1 → Q z0 z1 → Q' z0 z1) (hk16 : ∀ z0 z1 z2 z3 z4, K6 this M0 z4 → k16 z0 z1 z2 z3 z4 → k16' z0 z1 z2 z3 z4) (hk56 : ∀ z0 z1 z2 z3 z4, K6 this M0 z4 → k56 z0 z1 z2 z3 z4 → k56' z0 z1 z2 z3 z4) : K6 this M0 M → w_Model_cutLine_j82 this Q k16 k56 v1 v3 v4 v7 M → w_Model_cutLine_j82 this Q' k16' k56' v1 v3 v4 v7 M := by
  intro hf
  unfold w_Model_cutLine_j82
  exact (hk56 _ _ _ _ _ hf)
set_option maxRecDepth 20000 in
theorem m6_w_Model_cutLine_L56 {this : Nat} {Q Q' : Int32 → Mem → Prop} {k16 k16' : Nat → Int32 → Int32 → Int32 → Mem → Prop} {M0 : Mem} (hQ : ∀ z0 z1, K6 this M0 z1 → Q z0 z1 → Q' z0 z1) (hk16 : ∀ z0 z1 z2 z3 z4, K6 this M0 z4 → k16 z0 z1 z2 z3 z4 → k16' z0 z1 z2 z3 z4) : ∀ (n : Nat) (v1 : Nat) (v3 : Int32) (v4 : Int32) (v7 : Int32) (M : Mem), K6 this M0 M → w_Model_cutLine_L56 this Q k16 n v1 v3 v4 v7 M → w_Model_cutLine_L56 this Q' k16' n v1 v3 v4 v7 M
  | 0, _, _, _, _, _ => fun _ h => h
  | n + 1, v1, v3, v4, v7, M => fun hf => by
    unfold w_Model_cutLine_L56
    exact (mf_ite (m6_w_Model_cutLine_j88 hQ hk16 hf) (mf_and fun _ => (mf_w_Model_isLetter (fun r53 M52 f1 => (mf_ite (mf_and fun _ => (mf_w_Model_isDigit (fun r57 M56 f2 => (mf_ite (m6_w_Model_cutLine_j88 hQ hk16 (K6.trans (K6.trans hf (K6.fr f1 rfl)) (K6.fr f2 rfl))) (m6_w_Model_cutLine_j82 hQ hk16 (m6_w_Model_cutLine_L56 hQ hk16 n) (K6.trans (K6.trans hf (K6.fr f1 rfl)) (K6.fr f2 rfl))))))) (m6_w_Model_cutLine_j82 hQ hk16 (m6_w_Model_cutLine_L56 hQ hk16 n) (K6.trans hf (K6.fr f1 rfl))))))))
set_option maxRecDepth 20000 in
theorem m6_w_Model_cutLine_L16 {this : Nat} {Q Q' : Int32 → Mem → Prop} {M0 : Mem} (hQ : ∀ z0 z1, K6 this M0 z1 → Q z0 z1 → Q' z0 z1) : ∀ (n : Nat) (v1 : Nat) (v3 : Int32) (v4 : Int32) (v5 : Int32) (M : Mem), K6 this M0 M → w_Model_cutLine_L16 this Q n v1 v3 v4 v5 M → w_Model_cutLine_L16 this Q' n v1 v3 v4 v5 M
  | 0, _, _, _, _, _ => fun _ h => h
  | n + 1, v1, v3, v4, v5, M => fun hf => by
    unfold w_Model_cutLine_L16
    exact (mf_ite (m6_w_Model_cutLine_j383 hQ hf) (mf_ite (m6_w_Model_cutLine_j383 hQ hf) (mf_and fun _ => (mf_ite (m6_w_Model_cutLine_j383 hQ hf) (mf_and fun _ => (mf_w_Model_isLetter (fun r9 M8 f1 => (mf_ite (mf_w_Model_isDigit (fun r12 M11 f2 => (mf_ite (mf_ite (mf_ite (m6_w_Model_cutLine_j211 hQ (m6_w_Model_cutLine_L16 hQ n) (K6.trans (K6.trans hf (K6.fr f1 rfl)) (K6.fr f2 rfl))) (mf_and fun _ => (mf_w_Model_isDigit (fun r38 M37 f3 => (mf_ite (m6_w_Model_cutLine_j211 hQ (m6_w_Model_cutLine_L16 hQ n) (K6.trans (K6.trans (K6.trans hf (K6.fr f1 rfl)) (K6.fr f2 rfl)) (K6.fr f3 rfl))) (m6_w_Model_cutLine_j176 hQ (m6_w_Model_cutLine_L16 hQ n) (K6.trans (K6.trans (K6.trans hf (K6.fr f1 rfl)) (K6.fr f2 rfl)) (K6.fr f3 rfl)))))))) (m6_w_Model_cutLine_j211 hQ (m6_w_Model_cutLine_L16 hQ n) (K6.trans (K6.trans hf (K6.fr f1 rfl)) (K6.fr f2 rfl)))) (m6_w_Model_cutLine_j176 hQ (m6_w_Model_cutLine_L16 hQ n) (K6.trans (K6.trans hf (K6.fr f1 rfl)) (K6.fr f2 rfl)))))) (Exists.imp fun n59 => (m6_w_Model_cutLine_L56 hQ (m6_w_Model_cutLine_L16 hQ n) _ _ _ _ _ _ (K6.trans hf (K6.fr f1 rfl))))))))))))
set_option maxRecDepth 20000 in
theorem m6_w_Model_cutLine {this : Nat} {a1 : Nat} {a2 : Int32} {a3 : Int32} {Q Q' : Int32 → Mem → Prop} {M : Mem} (hQ : ∀ z0 z1, K6 this M z1 → Q z0 z1 → Q' z0 z1) : w_Model_cutLine this a1 a2 a3 Q M → w_Model_cutLine this a1 a2 a3 Q' M := by
  unfold w_Model_cutLine
  exact (Exists.imp fun n60 => (m6_w_Model_cutLine_L16 hQ _ _ _ _ _ _ (K6.wI0 rfl (K6.wI0 rfl (K6.rf M)))))
set_option maxRecDepth 20000 in
theorem m6_w_Model_codeLine_j120 {this : Nat} {Q Q' : Mem → Prop} {X X' : Mem → Prop} {k67 k67' : Int32 → Mem → Prop} {v1 : Int32} {M : Mem} {M0 : Mem} (hQ : ∀ z0, K6 this M0 z0 → Q z0 → Q' z0) (hX : ∀ z0, K6 this M0 z0 → X z0 → X' z0) (hk67 : ∀ z0 z1, K6 this M0 z1 → k67 z0 z1 → k67' z0 z1) : K6 this M0 M → w_Model_codeLine_j120 this Q X k67 v1 M → w_Model_codeLine_j120 this Q' X' k67' v1 M := by
  intro hf
  unfold w_Model_codeLine_j120
  exact (Exists.imp fun i15 => (mf_and fun _ => (mf_w_Model_room (fun i17 M16 f1 => (Exists.imp fun i18 => (mf_and fun _ => (mf_w_Model_room (fun i20 M19 f2 => (Exists.imp fun i21 => (mf_and fun _ => (mf_and fun _ => (mf_and fun _ => (Exists.imp fun M24 => (mf_and fun e3 => (Exists.imp fun i25 => (mf_and fun _ => (mf_and fun _ => (Exists.imp fun M27 => (mf_and fun e4 => (hk67 _ _ (K6.wI0 rfl (K6.of e4 (K6.wI0 rfl (K6.wI0 rfl (K6.of e3 (K6.wI0 rfl (K6.wR0 rfl (K6.trans (K6.wR0 rfl (K6.trans hf (K6.fr f1 rfl))) (K6.fr f2 rfl)))))))))))))))))))))))))))))
set_option maxRecDepth 20000 in
theorem m6_w_Model_codeLine_j808 {this : Nat} {Q Q' : Mem → Prop} {X X' : Mem → Prop} {v2 : Int32} {v3 : Int32} {v4 : Int32} {v5 : Int32} {s0 : Int32} {s1 : Int32} {M : Mem} {M0 : Mem} (hQ : ∀ z0, K6 this M0 z0 → Q z0 → Q' z0) (hX : ∀ z0, K6 this M0 z0 → X z0 → X' z0) : K6 this M0 M → w_Model_codeLine_j808 this Q X v2 v3 v4 v5 s0 s1 M → w_Model_codeLine_j808 this Q' X' v2 v3 v4 v5 s0 s1 M := by
  intro hf
  unfold w_Model_codeLine_j808
  exact (mf_w_Model_asks (fun M37 f1 => (Exists.imp fun i38 => (mf_and fun _ => (Exists.imp fun i39 => (mf_and fun _ => (Exists.imp fun i40 => (mf_and fun _ => (Exists.imp fun i41 => (mf_and fun e2 => (m6_w_Model_roomy (K6.ne2 e2 (K6.rf _)) (fun i43 M42 w4 f3 => (Exists.imp fun i44 => (mf_and fun _ => (Exists.imp fun i45 => (mf_and fun _ => (Exists.imp fun i46 => (mf_and fun _ => (mf_w_Model_room (fun i48 M47 f5 => (Exists.imp fun i49 => (mf_and fun _ => (Exists.imp fun i50 => (mf_and fun _ => (Exists.imp fun i51 => (mf_and fun _ => (mf_w_Model_room (fun i53 M52 f6 => (Exists.imp fun i54 => (mf_and fun _ => (Exists.imp fun i55 => (mf_and fun _ => (Exists.imp fun i56 => (mf_and fun _ => (mf_w_Model_room (fun i58 M57 f7 => (Exists.imp fun i59 => (mf_and fun _ => (Exists.imp fun i60 => (mf_and fun _ => (Exists.imp fun i61 => (mf_and fun _ => (mf_w_Model_room (fun i63 M62 f8 => (Exists.imp fun i64 => (mf_and fun _ => (Exists.imp fun i65 => (mf_and fun e9 => (mf_and fun _ => (Exists.imp fun M67 => (mf_and fun e10 => (Exists.imp fun i68 => (mf_and fun _ => (Exists.imp fun i69 => (mf_and fun _ => (mf_and fun _ => (Exists.imp fun i71 => (mf_and fun _ => (Exists.imp fun i72 => (mf_and fun _ => (mf_and fun _ => (Exists.imp fun M74 => (mf_and fun e11 => (Exists.imp fun i75 => (mf_and fun _ => (Exists.imp fun i76 => (mf_and fun _ => (mf_and fun _ => (Exists.imp fun i78 => (mf_and fun _ => (Exists.imp fun i79 => (mf_and fun _ => (mf_and fun _ => (Exists.imp fun M81 => (mf_and fun e12 => (Exists.imp fun i82 => (mf_and fun _ => (Exists.imp fun M83 => (mf_and fun e13 => (Exists.imp fun i84 => (mf_and fun _ => (mf_and fun _ => (mf_and fun _ => (Exists.imp fun M87 => (mf_and fun e14 => (hQ _ (K6.of e14 (K6.wI0 rfl (K6.of e13 (K6.wI0 rfl (K6.wI0 rfl (K6.of e12 (K6.wI0 rfl (K6.wI0 rfl (K6.of e11 (K6.wI0 rfl (K6.wI0 rfl (K6.of e10 (K6.wI1 (K6.ne2 e9 (K6.wR0 rfl (K6.trans (K6.wR0 rfl (K6.trans (K6.wR0 rfl (K6.trans (K6.wR0 rfl (K6.trans (K6.wR1 (K6.bk (K6.trans hf (K6.fr f1 rfl)) w4) (K6.trans (K6.trans hf (K6.fr f1 rfl)) f3)) (K6.fr f5 rfl))) (K6.fr f6 rfl))) (K6.fr f7 rfl))) (K6.fr f8 rfl)))) (K6.wR0 rfl (K6.trans (K6.wR0 rfl (K6.trans (K6.wR0 rfl (K6.trans (K6.wR0 rfl (K6.trans (K6.wR1 (K6.bk (K6.trans hf (K6.fr f1 rfl)) w4) (K6.trans (K6.trans hf (K6.fr f1 rfl)) f3)) (K6.fr f5 rfl))) (K6.fr f6 rfl))) (K6.fr f7 rfl))) (K6.fr f8 rfl))))))))))))))))))))))))))))))))))))))))))))))))))))))))))))))))))))))))))))))))))))))))))))))))))))))
set_option maxRecDepth 20000 in
theorem m6_w_Model_codeLine_j789 {this : Nat} {Q Q' : Mem → Prop} {X X' : Mem → Prop} {v1 : Int32} {v2 : Int32} {v3 : Int32} {v4 : Int32} {v5 : Int32} {M : Mem} {M0 : Mem} (hQ : ∀ z0, K6 this M0 z0 → Q z0 → Q' z0) (hX : ∀ z0, K6 this M0 z0 → X z0 → X' z0) : K6 this M0 M → w_Model_codeLine_j789 this Q X v1 v2 v3 v4 v5 M → w_Model_codeLine_j789 this Q' X' v1 v2 v3 v4 v5 M := by
  intro hf
  unfold w_Model_codeLine_j789
  exact (mf_w_Model_need (fun M35 f1 => (mf_ite (m6_w_Model_codeLine_j808 hQ hX (K6.trans hf (K6.fr f1 rfl))) (m6_w_Model_codeLine_j808 hQ hX (K6.trans hf (K6.fr f1 rfl))))) (fun z3 f2 => hX z3 (K6.trans hf (K6.fr f2 rfl))))
set_option maxRecDepth 20000 in
theorem m6_w_Model_codeLine_j783 {this : Nat} {Q Q' : Mem → Prop} {X X' : Mem → Prop} {v1 : Int32} {v2 : Int32} {v3 : Int32} {v4 : Int32} {v5 : Int32} {s0 : Int32} {s1 : Int32} {M : Mem} {M0 : Mem} (hQ : ∀ z0, K6 this M0 z0 → Q z0 → Q' z0) (hX : ∀ z0, K6 this M0 z0 → X z0 → X' z0) : K6 this M0 M → w_Model_codeLine_j783 this Q X v1 v2 v3 v4 v5 s0 s1 M → w_Model_codeLine_j783 this Q' X' v1 v2 v3 v4 v5 s0 s1 M := by
  intro hf
  unfold w_Model_codeLine_j783
  exact (mf_w_Model_asks (fun M160 f1 => (m6_w_Model_codeLine_j789 hQ hX (K6.trans hf (K6.fr f1 rfl)))))
set_option maxRecDepth 20000 in
theorem m6_w_Model_codeLine_j757 {this : Nat} {Q Q' : Mem → Prop} {X X' : Mem → Prop} {v1 : Int32} {v2 : Int32} {v3 : Int32} {v4 : Int32} {M : Mem} {M0 : Mem} (hQ : ∀ z0, K6 this M0 z0 → Q z0 → Q' z0) (hX : ∀ z0, K6 this M0 z0 → X z0 → X' z0) : K6 this M0 M → w_Model_codeLine_j757 this Q X v1 v2 v3 v4 M → w_Model_codeLine_j757 this Q' X' v1 v2 v3 v4 M := by
  intro hf
  unfold w_Model_codeLine_j757
  exact (mf_w_Model_wholeSignature (fun r156 M155 f1 => (Exists.imp fun i157 => (mf_and fun _ => (mf_and fun _ => (mf_ite (m6_w_Model_codeLine_j783 hQ hX (K6.trans hf (K6.fr f1 rfl))) (m6_w_Model_codeLine_j783 hQ hX (K6.trans hf (K6.fr f1 rfl)))))))) (fun z3 f2 => hX z3 (K6.trans hf (K6.fr f2 rfl))))
set_option maxRecDepth 20000 in
theorem m6_w_Model_codeLine_j751 {this : Nat} {Q Q' : Mem → Prop} {X X' : Mem → Prop} {v1 : Int32} {v2 : Int32} {v3 : Int32} {M : Mem} {M0 : Mem} (hQ : ∀ z0, K6 this M0 z0 → Q z0 → Q' z0) (hX : ∀ z0, K6 this M0 z0 → X z0 → X' z0) : K6 this M0 M → w_Model_codeLine_j751 this Q X v1 v2 v3 M → w_Model_codeLine_j751 this Q' X' v1 v2 v3 M := by
  intro hf
  unfold w_Model_codeLine_j751
  exact (mf_w_Model_plainName (fun r162 M161 f1 => (m6_w_Model_codeLine_j757 hQ hX (K6.trans hf (K6.fr f1 rfl)))) (fun z3 f2 => hX z3 (K6.trans hf (K6.fr f2 rfl))))
set_option maxRecDepth 20000 in
theorem m6_w_Model_codeLine_L608 {this : Nat} {Q Q' : Mem → Prop} {X X' : Mem → Prop} {M0 : Mem} (hQ : ∀ z0, K6 this M0 z0 → Q z0 → Q' z0) (hX : ∀ z0, K6 this M0 z0 → X z0 → X' z0) : ∀ (n : Nat) (v1 : Int32) (v2 : Int32) (v3 : Int32) (v4 : Int32) (M : Mem), K6 this M0 M → w_Model_codeLine_L608 this Q X n v1 v2 v3 v4 M → w_Model_codeLine_L608 this Q' X' n v1 v2 v3 v4 M
  | 0, _, _, _, _, _ => fun _ h => h
  | n + 1, v1, v2, v3, v4, M => fun hf => by
    unfold w_Model_codeLine_L608
    exact (mf_and fun _ => (mf_ite (mf_w_Model_usedLabel (fun r226 M225 f1 => (mf_w_Model_addList (fun M227 f2 => (m6_w_Model_codeLine_L608 hQ hX _ _ _ _ _ _ (K6.trans (K6.trans (K6.wI0 rfl hf) (K6.fr f1 rfl)) (K6.fr f2 rfl)))))) (fun z4 f3 => hX z4 (K6.trans (K6.wI0 rfl hf) (K6.fr f3 rfl)))) (Exists.imp fun i228 => (mf_and fun _ => (m6_w_Model_codeLine_j789 hQ hX hf)))))
set_option maxRecDepth 20000 in
theorem m6_w_Model_codeLine_j272 {this : Nat} {Q Q' : Mem → Prop} {X X' : Mem → Prop} {v1 : Int32} {v2 : Int32} {M : Mem} {M0 : Mem} (hQ : ∀ z0, K6 this M0 z0 → Q z0 → Q' z0) (hX : ∀ z0, K6 this M0 z0 → X z0 → X' z0) : K6 this M0 M → w_Model_codeLine_j272 this Q X v1 v2 M → w_Model_codeLine_j272 this Q' X' v1 v2 M := by
  intro hf
  unfold w_Model_codeLine_j272
  exact (mf_ite (mf_w_Model_numberIn (fun r277 M276 f1 => (m6_w_Model_codeLine_j789 hQ hX (K6.trans (K6.wI0 rfl hf) (K6.fr f1 rfl)))) (fun z3 f2 => hX z3 (K6.trans (K6.wI0 rfl hf) (K6.fr f2 rfl)))) (mf_ite (m6_w_Model_codeLine_j789 hQ hX (K6.wI0 rfl hf)) (mf_ite (mf_w_Model_numberIn (fun r275 M274 f4 => (m6_w_Model_codeLine_j789 hQ hX (K6.trans (K6.wI0 rfl hf) (K6.fr f4 rfl)))) (fun z6 f5 => hX z6 (K6.trans (K6.wI0 rfl hf) (K6.fr f5 rfl)))) (mf_ite (mf_w_Model_numberIn (fun r273 M272 f7 => (m6_w_Model_codeLine_j789 hQ hX (K6.trans (K6.wI0 rfl hf) (K6.fr f7 rfl)))) (fun z9 f8 => hX z9 (K6.trans (K6.wI0 rfl hf) (K6.fr f8 rfl)))) (mf_ite (mf_w_Model_numberIn (fun r271 M270 f10 => (m6_w_Model_codeLine_j789 hQ hX (K6.trans (K6.wI0 rfl hf) (K6.fr f10 rfl)))) (fun z12 f11 => hX z12 (K6.trans (K6.wI0 rfl hf) (K6.fr f11 rfl)))) (mf_ite (mf_w_Model_numberIn (fun r269 M268 f13 => (m6_w_Model_codeLine_j789 hQ hX (K6.trans (K6.wI0 rfl hf) (K6.fr f13 rfl)))) (fun z15 f14 => hX z15 (K6.trans (K6.wI0 rfl hf) (K6.fr f14 rfl)))) (mf_ite (mf_w_Model_numberIn (fun r265 M264 f16 => (mf_w_Model_numberIn (fun r267 M266 f17 => (m6_w_Model_codeLine_j789 hQ hX (K6.trans (K6.trans (K6.wI0 rfl hf) (K6.fr f16 rfl)) (K6.fr f17 rfl)))) (fun z19 f18 => hX z19 (K6.trans (K6.trans (K6.wI0 rfl hf) (K6.fr f16 rfl)) (K6.fr f18 rfl))))) (fun z21 f20 => hX z21 (K6.trans (K6.wI0 rfl hf) (K6.fr f20 rfl)))) (mf_ite (m6_w_Model_codeLine_j789 hQ hX (K6.wI0 rfl hf)) (mf_ite (m6_w_Model_codeLine_j789 hQ hX (K6.wI0 rfl hf)) (mf_ite (m6_w_Model_codeLine_j789 hQ hX (K6.wI0 rfl hf)) (mf_ite (m6_w_Model_codeLine_j789 hQ hX (K6.wI0 rfl hf)) (mf_ite (m6_w_Model_codeLine_j789 hQ hX (K6.wI0 rfl hf)) (mf_ite (m6_w_Model_codeLine_j789 hQ hX (K6.wI0 rfl hf)) (mf_ite (m6_w_Model_codeLine_j789 hQ hX (K6.wI0 rfl hf)) (mf_ite (m6_w_Model_codeLine_j789 hQ hX (K6.wI0 rfl hf)) (mf_ite (m6_w_Model_codeLine_j789 hQ hX (K6.wI0 rfl hf)) (mf_ite (m6_w_Model_codeLine_j789 hQ hX (K6.wI0 rfl hf)) (mf_ite (m6_w_Model_codeLine_j789 hQ hX (K6.wI0 rfl hf)) (mf_ite (m6_w_Model_codeLine_j789 hQ hX (K6.wI0 rfl hf)) (mf_ite (m6_w_Model_codeLine_j789 hQ hX (K6.wI0 rfl hf)) (mf_ite (m6_w_Model_codeLine_j789 hQ hX (K6.wI0 rfl hf)) (mf_ite (m6_w_Model_codeLine_j789 hQ hX (K6.wI0 rfl hf)) (mf_ite (mf_w_Model_usedLabel (fun r263 M262 f22 => (m6_w_Model_codeLine_j789 hQ hX (K6.trans (K6.wI0 rfl hf) (K6.fr f22 rfl)))) (fun z24 f23 => hX z24 (K6.trans (K6.wI0 rfl hf) (K6.fr f23 rfl)))) (mf_ite (mf_w_Model_usedLabel (fun r261 M260 f25 => (m6_w_Model_codeLine_j789 hQ hX (K6.trans (K6.wI0 rfl hf) (K6.fr f25 rfl)))) (fun z27 f26 => hX z27 (K6.trans (K6.wI0 rfl hf) (K6.fr f26 rfl)))) (mf_ite (mf_w_Model_usedLabel (fun r259 M258 f28 => (m6_w_Model_codeLine_j789 hQ hX (K6.trans (K6.wI0 rfl hf) (K6.fr f28 rfl)))) (fun z30 f29 => hX z30 (K6.trans (K6.wI0 rfl hf) (K6.fr f29 rfl)))) (mf_ite (mf_w_Model_usedLabel (fun r257 M256 f31 => (m6_w_Model_codeLine_j789 hQ hX (K6.trans (K6.wI0 rfl hf) (K6.fr f31 rfl)))) (fun z33 f32 => hX z33 (K6.trans (K6.wI0 rfl hf) (K6.fr f32 rfl)))) (mf_ite (mf_w_Model_usedLabel (fun r255 M254 f34 => (m6_w_Model_codeLine_j789 hQ hX (K6.trans (K6.wI0 rfl hf) (K6.fr f34 rfl)))) (fun z36 f35 => hX z36 (K6.trans (K6.wI0 rfl hf) (K6.fr f35 rfl)))) (mf_ite (mf_w_Model_usedLabel (fun r253 M252 f37 => (m6_w_Model_codeLine_j789 hQ hX (K6.trans (K6.wI0 rfl hf) (K6.fr f37 rfl)))) (fun z39 f38 => hX z39 (K6.trans (K6.wI0 rfl hf) (K6.fr f38 rfl)))) (mf_ite (mf_w_Model_usedLabel (fun r251 M250 f40 => (m6_w_Model_codeLine_j789 hQ hX (K6.trans (K6.wI0 rfl hf) (K6.fr f40 rfl)))) (fun z42 f41 => hX z42 (K6.trans (K6.wI0 rfl hf) (K6.fr f41 rfl)))) (mf_ite (mf_w_Model_usedLabel (fun r249 M248 f43 => (m6_w_Model_codeLine_j789 hQ hX (K6.trans (K6.wI0 rfl hf) (K6.fr f43 rfl)))) (fun z45 f44 => hX z45 (K6.trans (K6.wI0 rfl hf) (K6.fr f44 rfl)))) (mf_ite (mf_w_Model_usedLabel (fun r247 M246 f46 => (m6_w_Model_codeLine_j789 hQ hX (K6.trans (K6.wI0 rfl hf) (K6.fr f46 rfl)))) (fun z48 f47 => hX z48 (K6.trans (K6.wI0 rfl hf) (K6.fr f47 rfl)))) (mf_ite (mf_w_Model_usedLabel (fun r245 M244 f49 => (m6_w_Model_codeLine_j789 hQ hX (K6.trans (K6.wI0 rfl hf) (K6.fr f49 rfl)))) (fun z51 f50 => hX z51 (K6.trans (K6.wI0 rfl hf) (K6.fr f50 rfl)))) (mf_ite (mf_w_Model_usedLabel (fun r243 M242 f52 => (m6_w_Model_codeLine_j789 hQ hX (K6.trans (K6.wI0 rfl hf) (K6.fr f52 rfl)))) (fun z54 f53 => hX z54 (K6.trans (K6.wI0 rfl hf) (K6.fr f53 rfl)))) (mf_ite (mf_w_Model_usedLabel (fun r241 M240 f55 => (m6_w_Model_codeLine_j789 hQ hX (K6.trans (K6.wI0 rfl hf) (K6.fr f55 rfl)))) (fun z57 f56 => hX z57 (K6.trans (K6.wI0 rfl hf) (K6.fr f56 rfl)))) (mf_ite (mf_w_Model_usedLabel (fun r239 M238 f58 => (m6_w_Model_codeLine_j789 hQ hX (K6.trans (K6.wI0 rfl hf) (K6.fr f58 rfl)))) (fun z60 f59 => hX z60 (K6.trans (K6.wI0 rfl hf) (K6.fr f59 rfl)))) (mf_ite (mf_w_Model_usedLabel (fun r237 M236 f61 => (m6_w_Model_codeLine_j789 hQ hX (K6.trans (K6.wI0 rfl hf) (K6.fr f61 rfl)))) (fun z63 f62 => hX z63 (K6.trans (K6.wI0 rfl hf) (K6.fr f62 rfl)))) (mf_ite (mf_w_Model_usedLabel (fun r235 M234 f64 => (m6_w_Model_codeLine_j789 hQ hX (K6.trans (K6.wI0 rfl hf) (K6.fr f64 rfl)))) (fun z66 f65 => hX z66 (K6.trans (K6.wI0 rfl hf) (K6.fr f65 rfl)))) (mf_ite (mf_w_Model_usedLabel (fun r233 M232 f67 => (m6_w_Model_codeLine_j789 hQ hX (K6.trans (K6.wI0 rfl hf) (K6.fr f67 rfl)))) (fun z69 f68 => hX z69 (K6.trans (K6.wI0 rfl hf) (K6.fr f68 rfl)))) (mf_ite (mf_w_Model_usedLabel (fun r231 M230 f70 => (m6_w_Model_codeLine_j789 hQ hX (K6.trans (K6.wI0 rfl hf) (K6.fr f70 rfl)))) (fun z72 f71 => hX z72 (K6.trans (K6.wI0 rfl hf) (K6.fr f71 rfl)))) (mf_ite (mf_w_Model_numberIn (fun r218 M217 f73 => (Exists.imp fun i219 => (mf_and fun _ => (mf_w_Model_usedLabel (fun r221 M220 f74 => (mf_w_Model_addList (fun M222 f75 => (Exists.imp fun n229 => (m6_w_Model_codeLine_L608 hQ hX _ _ _ _ _ _ (K6.trans (K6.trans (K6.trans (K6.wI0 rfl hf) (K6.fr f73 rfl)) (K6.fr f74 rfl)) (K6.fr f75 rfl))))))) (fun z77 f76 => hX z77 (K6.trans (K6.trans (K6.wI0 rfl hf) (K6.fr f73 rfl)) (K6.fr f76 rfl))))))) (fun z79 f78 => hX z79 (K6.trans (K6.wI0 rfl hf) (K6.fr f78 rfl)))) (mf_ite (mf_w_Model_className (fun r216 M215 f80 => (m6_w_Model_codeLine_j789 hQ hX (K6.trans (K6.wI0 rfl hf) (K6.fr f80 rfl)))) (fun z82 f81 => hX z82 (K6.trans (K6.wI0 rfl hf) (K6.fr f81 rfl)))) (mf_ite (m6_w_Model_codeLine_j789 hQ hX (K6.wI0 rfl hf)) (mf_ite (m6_w_Model_codeLine_j789 hQ hX (K6.wI0 rfl hf)) (mf_ite (m6_w_Model_codeLine_j789 hQ hX (K6.wI0 rfl hf)) (mf_ite (m6_w_Model_codeLine_j789 hQ hX (K6.wI0 rfl hf)) (mf_ite (mf_w_Model_className (fun r209 M208 f83 => (mf_w_Model_need (fun M210 f84 => (mf_w_Model_plainName (fun r212 M211 f85 => (mf_w_Model_type (fun r214 M213 f86 => (m6_w_Model_codeLine_j789 hQ hX (K6.trans (K6.trans (K6.trans (K6.trans (K6.wI0 rfl hf) (K6.fr f83 rfl)) (K6.fr f84 rfl)) (K6.fr f85 rfl)) (K6.fr f86 rfl)))) (fun z88 f87 => hX z88 (K6.trans (K6.trans (K6.trans (K6.trans (K6.wI0 rfl hf) (K6.fr f83 rfl)) (K6.fr f84 rfl)) (K6.fr f85 rfl)) (K6.fr f87 rfl))))) (fun z90 f89 => hX z90 (K6.trans (K6.trans (K6.trans (K6.wI0 rfl hf) (K6.fr f83 rfl)) (K6.fr f84 rfl)) (K6.fr f89 rfl))))) (fun z92 f91 => hX z92 (K6.trans (K6.trans (K6.wI0 rfl hf) (K6.fr f83 rfl)) (K6.fr f91 rfl))))) (fun z94 f93 => hX z94 (K6.trans (K6.wI0 rfl hf) (K6.fr f93 rfl)))) (mf_ite (mf_w_Model_className (fun r202 M201 f95 => (mf_w_Model_need (fun M203 f96 => (mf_w_Model_plainName (fun r205 M204 f97 => (mf_w_Model_type (fun r207 M206 f98 => (m6_w_Model_codeLine_j789 hQ hX (K6.trans (K6.trans (K6.trans (K6.trans (K6.wI0 rfl hf) (K6.fr f95 rfl)) (K6.fr f96 rfl)) (K6.fr f97 rfl)) (K6.fr f98 rfl)))) (fun z100 f99 => hX z100 (K6.trans (K6.trans (K6.trans (K6.trans (K6.wI0 rfl hf) (K6.fr f95 rfl)) (K6.fr f96 rfl)) (K6.fr f97 rfl)) (K6.fr f99 rfl))))) (fun z102 f101 => hX z102 (K6.trans (K6.trans (K6.trans (K6.wI0 rfl hf) (K6.fr f95 rfl)) (K6.fr f96 rfl)) (K6.fr f101 rfl))))) (fun z104 f103 => hX z104 (K6.trans (K6.trans (K6.wI0 rfl hf) (K6.fr f95 rfl)) (K6.fr f103 rfl))))) (fun z106 f105 => hX z106 (K6.trans (K6.wI0 rfl hf) (K6.fr f105 rfl)))) (mf_ite (mf_w_Model_className (fun r195 M194 f107 => (mf_w_Model_need (fun M196 f108 => (mf_w_Model_plainName (fun r198 M197 f109 => (mf_w_Model_type (fun r200 M199 f110 => (m6_w_Model_codeLine_j789 hQ hX (K6.trans (K6.trans (K6.trans (K6.trans (K6.wI0 rfl hf) (K6.fr f107 rfl)) (K6.fr f108 rfl)) (K6.fr f109 rfl)) (K6.fr f110 rfl)))) (fun z112 f111 => hX z112 (K6.trans (K6.trans (K6.trans (K6.trans (K6.wI0 rfl hf) (K6.fr f107 rfl)) (K6.fr f108 rfl)) (K6.fr f109 rfl)) (K6.fr f111 rfl))))) (fun z114 f113 => hX z114 (K6.trans (K6.trans (K6.trans (K6.wI0 rfl hf) (K6.fr f107 rfl)) (K6.fr f108 rfl)) (K6.fr f113 rfl))))) (fun z116 f115 => hX z116 (K6.trans (K6.trans (K6.wI0 rfl hf) (K6.fr f107 rfl)) (K6.fr f115 rfl))))) (fun z118 f117 => hX z118 (K6.trans (K6.wI0 rfl hf) (K6.fr f117 rfl)))) (mf_ite (mf_w_Model_className (fun r188 M187 f119 => (mf_w_Model_need (fun M189 f120 => (mf_w_Model_plainName (fun r191 M190 f121 => (mf_w_Model_type (fun r193 M192 f122 => (m6_w_Model_codeLine_j789 hQ hX (K6.trans (K6.trans (K6.trans (K6.trans (K6.wI0 rfl hf) (K6.fr f119 rfl)) (K6.fr f120 rfl)) (K6.fr f121 rfl)) (K6.fr f122 rfl)))) (fun z124 f123 => hX z124 (K6.trans (K6.trans (K6.trans (K6.trans (K6.wI0 rfl hf) (K6.fr f119 rfl)) (K6.fr f120 rfl)) (K6.fr f121 rfl)) (K6.fr f123 rfl))))) (fun z126 f125 => hX z126 (K6.trans (K6.trans (K6.trans (K6.wI0 rfl hf) (K6.fr f119 rfl)) (K6.fr f120 rfl)) (K6.fr f125 rfl))))) (fun z128 f127 => hX z128 (K6.trans (K6.trans (K6.wI0 rfl hf) (K6.fr f119 rfl)) (K6.fr f127 rfl))))) (fun z130 f129 => hX z130 (K6.trans (K6.wI0 rfl hf) (K6.fr f129 rfl)))) (mf_ite (mf_w_Model_className (fun r180 M179 f131 => (mf_w_Model_need (fun M181 f132 => (mf_and fun _ => (mf_ite (mf_and fun _ => (mf_ite (Exists.imp fun x186 => (mf_and fun _ => (m6_w_Model_codeLine_j757 hQ hX (K6.wI0 rfl (K6.trans (K6.trans (K6.wI0 rfl hf) (K6.fr f131 rfl)) (K6.fr f132 rfl)))))) (m6_w_Model_codeLine_j751 hQ hX (K6.trans (K6.trans (K6.wI0 rfl hf) (K6.fr f131 rfl)) (K6.fr f132 rfl))))) (m6_w_Model_codeLine_j751 hQ hX (K6.trans (K6.trans (K6.wI0 rfl hf) (K6.fr f131 rfl)) (K6.fr f132 rfl)))))) (fun z134 f133 => hX z134 (K6.trans (K6.trans (K6.wI0 rfl hf) (K6.fr f131 rfl)) (K6.fr f133 rfl))))) (fun z136 f135 => hX z136 (K6.trans (K6.wI0 rfl hf) (K6.fr f135 rfl)))) (mf_ite (mf_w_Model_className (fun r172 M171 f137 => (mf_w_Model_need (fun M173 f138 => (mf_and fun _ => (mf_ite (mf_and fun _ => (mf_ite (Exists.imp fun x178 => (mf_and fun _ => (m6_w_Model_codeLine_j757 hQ hX (K6.wI0 rfl (K6.trans (K6.trans (K6.wI0 rfl hf) (K6.fr f137 rfl)) (K6.fr f138 rfl)))))) (m6_w_Model_codeLine_j751 hQ hX (K6.trans (K6.trans (K6.wI0 rfl hf) (K6.fr f137 rfl)) (K6.fr f138 rfl))))) (m6_w_Model_codeLine_j751 hQ hX (K6.trans (K6.trans (K6.wI0 rfl hf) (K6.fr f137 rfl)) (K6.fr f138 rfl)))))) (fun z140 f139 => hX z140 (K6.trans (K6.trans (K6.wI0 rfl hf) (K6.fr f137 rfl)) (K6.fr f139 rfl))))) (fun z142 f141 => hX z142 (K6.trans (K6.wI0 rfl hf) (K6.fr f141 rfl)))) (mf_ite (mf_w_Model_className (fun r164 M163 f143 => (mf_w_Model_need (fun M165 f144 => (mf_and fun _ => (mf_ite (mf_and fun _ => (mf_ite (Exists.imp fun x170 => (mf_and fun _ => (m6_w_Model_codeLine_j757 hQ hX (K6.wI0 rfl (K6.trans (K6.trans (K6.wI0 rfl hf) (K6.fr f143 rfl)) (K6.fr f144 rfl)))))) (m6_w_Model_codeLine_j751 hQ hX (K6.trans (K6.trans (K6.wI0 rfl hf) (K6.fr f143 rfl)) (K6.fr f144 rfl))))) (m6_w_Model_codeLine_j751 hQ hX (K6.trans (K6.trans (K6.wI0 rfl hf) (K6.fr f143 rfl)) (K6.fr f144 rfl)))))) (fun z146 f145 => hX z146 (K6.trans (K6.trans (K6.wI0 rfl hf) (K6.fr f143 rfl)) (K6.fr f145 rfl))))) (fun z148 f147 => hX z148 (K6.trans (K6.wI0 rfl hf) (K6.fr f147 rfl)))) (mf_ite (mf_w_Model_className (fun r148 M147 f149 => (mf_w_Model_need (fun M149 f150 => (mf_and fun _ => (mf_ite (mf_and fun _ => (mf_ite (Exists.imp fun x154 => (mf_and fun _ => (m6_w_Model_codeLine_j757 hQ hX (K6.wI0 rfl (K6.trans (K6.trans (K6.wI0 rfl hf) (K6.fr f149 rfl)) (K6.fr f150 rfl)))))) (m6_w_Model_codeLine_j751 hQ hX (K6.trans (K6.trans (K6.wI0 rfl hf) (K6.fr f149 rfl)) (K6.fr f150 rfl))))) (m6_w_Model_codeLine_j751 hQ hX (K6.trans (K6.trans (K6.wI0 rfl hf) (K6.fr f149 rfl)) (K6.fr f150 rfl)))))) (fun z152 f151 => hX z152 (K6.trans (K6.trans (K6.wI0 rfl hf) (K6.fr f149 rfl)) (K6.fr f151 rfl))))) (fun z154 f153 => hX z154 (K6.trans (K6.wI0 rfl hf) (K6.fr f153 rfl)))) (mf_ite (mf_w_Model_className (fun r146 M145 f155 => (m6_w_Model_codeLine_j789 hQ hX (K6.trans (K6.wI0 rfl hf) (K6.fr f155 rfl)))) (fun z157 f156 => hX z157 (K6.trans (K6.wI0 rfl hf) (K6.fr f156 rfl)))) (mf_ite (mf_w_Model_className (fun r144 M143 f158 => (m6_w_Model_codeLine_j789 hQ hX (K6.trans (K6.wI0 rfl hf) (K6.fr f158 rfl)))) (fun z160 f159 => hX z160 (K6.trans (K6.wI0 rfl hf) (K6.fr f159 rfl)))) (m6_w_Model_codeLine_j789 hQ hX (K6.wI0 rfl hf)))))))))))))))))))))))))))))))))))))))))))))))))))))))))
set_option maxRecDepth 20000 in
theorem m6_w_Model_codeLine_j268 {this : Nat} {Q Q' : Mem → Prop} {X X' : Mem → Prop} {v1 : Int32} {v2 : Int32} {M : Mem} {M0 : Mem} (hQ : ∀ z0, K6 this M0 z0 → Q z0 → Q' z0) (hX : ∀ z0, K6 this M0 z0 → X z0 → X' z0) : K6 this M0 M → w_Model_codeLine_j268 this Q X v1 v2 M → w_Model_codeLine_j268 this Q' X' v1 v2 M := by
  intro hf
  unfold w_Model_codeLine_j268
  exact (mf_w_Model_wrong (fun M34 f1 => (m6_w_Model_codeLine_j272 hQ hX (K6.trans hf (K6.fr f1 rfl)))) (fun z3 f2 => hX z3 (K6.trans hf (K6.fr f2 rfl))))
set_option maxRecDepth 20000 in
theorem m6_w_Model_codeLine_j257 {this : Nat} {Q Q' : Mem → Prop} {X X' : Mem → Prop} {v1 : Int32} {s0 : Int32} {M : Mem} {M0 : Mem} (hQ : ∀ z0, K6 this M0 z0 → Q z0 → Q' z0) (hX : ∀ z0, K6 this M0 z0 → X z0 → X' z0) : K6 this M0 M → w_Model_codeLine_j257 this Q X v1 s0 M → w_Model_codeLine_j257 this Q' X' v1 s0 M := by
  intro hf
  unfold w_Model_codeLine_j257
  exact (mf_ite (m6_w_Model_codeLine_j268 hQ hX hf) (mf_ite (m6_w_Model_codeLine_j272 hQ hX hf) (m6_w_Model_codeLine_j268 hQ hX hf)))
set_option maxRecDepth 20000 in
theorem m6_w_Model_codeLine_j225 {this : Nat} {Q Q' : Mem → Prop} {X X' : Mem → Prop} {v1 : Int32} {M : Mem} {M0 : Mem} (hQ : ∀ z0, K6 this M0 z0 → Q z0 → Q' z0) (hX : ∀ z0, K6 this M0 z0 → X z0 → X' z0) : K6 this M0 M → w_Model_codeLine_j225 this Q X v1 M → w_Model_codeLine_j225 this Q' X' v1 M := by
  intro hf
  unfold w_Model_codeLine_j225
  exact (mf_and fun _ => (mf_ite (mf_and fun _ => (m6_w_Model_codeLine_j257 hQ hX hf)) (m6_w_Model_codeLine_j257 hQ hX hf)))
set_option maxRecDepth 20000 in
theorem m6_w_Model_codeLine_j205 {this : Nat} {Q Q' : Mem → Prop} {X X' : Mem → Prop} {v1 : Int32} {M : Mem} {M0 : Mem} (hQ : ∀ z0, K6 this M0 z0 → Q z0 → Q' z0) (hX : ∀ z0, K6 this M0 z0 → X z0 → X' z0) : K6 this M0 M → w_Model_codeLine_j205 this Q X v1 M → w_Model_codeLine_j205 this Q' X' v1 M := by
  intro hf
  unfold w_Model_codeLine_j205
  exact (mf_ite (m6_w_Model_codeLine_j225 hQ hX hf) (mf_and fun _ => (mf_ite (hQ _ hf) (m6_w_Model_codeLine_j225 hQ hX hf))))
set_option maxRecDepth 20000 in
theorem m6_w_Model_codeLine_L67 {this : Nat} {Q Q' : Mem → Prop} {X X' : Mem → Prop} {M0 : Mem} (hQ : ∀ z0, K6 this M0 z0 → Q z0 → Q' z0) (hX : ∀ z0, K6 this M0 z0 → X z0 → X' z0) : ∀ (n : Nat) (v1 : Int32) (M : Mem), K6 this M0 M → w_Model_codeLine_L67 this Q X n v1 M → w_Model_codeLine_L67 this Q' X' n v1 M
  | 0, _, _ => fun _ h => h
  | n + 1, v1, M => fun hf => by
    unfold w_Model_codeLine_L67
    exact (mf_and fun _ => (mf_ite (mf_and fun _ => (mf_ite (mf_and fun _ => (mf_w_Model_labelOf (fun r13 M12 f1 => (mf_ite (m6_w_Model_codeLine_j120 hQ hX (m6_w_Model_codeLine_L67 hQ hX n) (K6.trans hf (K6.fr f1 rfl))) (mf_w_Model_addNine (fun M28 f2 => (m6_w_Model_codeLine_j120 hQ hX (m6_w_Model_codeLine_L67 hQ hX n) (K6.trans (K6.trans hf (K6.fr f1 rfl)) (K6.fr f2 rfl))))))))) (m6_w_Model_codeLine_j205 hQ hX hf))) (m6_w_Model_codeLine_j205 hQ hX hf)))
set_option maxRecDepth 20000 in
theorem m6_w_Model_codeLine_j54 {this : Nat} {Q Q' : Mem → Prop} {X X' : Mem → Prop} {M : Mem} {M0 : Mem} (hQ : ∀ z0, K6 this M0 z0 → Q z0 → Q' z0) (hX : ∀ z0, K6 this M0 z0 → X z0 → X' z0) : K6 this M0 M → w_Model_codeLine_j54 this Q X M → w_Model_codeLine_j54 this Q' X' M := by
  intro hf
  unfold w_Model_codeLine_j54
  exact (Exists.imp fun i5 => (mf_and fun _ => (mf_and fun _ => (Exists.imp fun n281 => (m6_w_Model_codeLine_L67 hQ hX _ _ _ hf)))))
set_option maxRecDepth 20000 in
theorem m6_w_Model_codeLine_j27 {this : Nat} {Q Q' : Mem → Prop} {X X' : Mem → Prop} {M : Mem} {M0 : Mem} (hQ : ∀ z0, K6 this M0 z0 → Q z0 → Q' z0) (hX : ∀ z0, K6 this M0 z0 → X z0 → X' z0) : K6 this M0 M → w_Model_codeLine_j27 this Q X M → w_Model_codeLine_j27 this Q' X' M := by
  intro hf
  unfold w_Model_codeLine_j27
  exact (mf_and fun _ => (mf_ite (m6_w_Model_codeLine_j54 hQ hX hf) (mf_w_Model_takes (fun r283 M282 f1 => (mf_ite (m6_w_Model_codeLine_j54 hQ hX (K6.trans hf (K6.fr f1 rfl))) (mf_w_Model_handlerLine (fun M285 f2 => (hQ _ (K6.trans (K6.trans hf (K6.fr f1 rfl)) (K6.fr f2 rfl)))) (fun z4 f3 => hX z4 (K6.trans (K6.trans hf (K6.fr f1 rfl)) (K6.fr f3 rfl)))))))))
set_option maxRecDepth 20000 in
theorem m6_w_Model_codeLine {this : Nat} {Q Q' : Mem → Prop} {X X' : Mem → Prop} {M : Mem} (hQ : ∀ z0, K6 this M z0 → Q z0 → Q' z0) (hX : ∀ z0, K6 this M z0 → X z0 → X' z0) : w_Model_codeLine this Q X M → w_Model_codeLine this Q' X' M := by
  unfold w_Model_codeLine
  exact (mf_and fun _ => (mf_ite (m6_w_Model_codeLine_j27 hQ hX (K6.rf M)) (mf_w_Model_takes (fun r287 M286 f1 => (mf_ite (m6_w_Model_codeLine_j27 hQ hX (K6.trans (K6.rf M) (K6.fr f1 rfl))) (mf_w_Model_frameLine (fun M289 f2 => (hQ _ (K6.trans (K6.trans (K6.rf M) (K6.fr f1 rfl)) (K6.fr f2 rfl)))) (fun z4 f3 => hX z4 (K6.trans (K6.trans (K6.rf M) (K6.fr f1 rfl)) (K6.fr f3 rfl)))))))))
set_option maxRecDepth 20000 in
theorem m6_w_Model_takeLine_j171 {this : Nat} {Q Q' : Mem → Prop} {X X' : Mem → Prop} {M : Mem} {M0 : Mem} (hQ : ∀ z0, K6 this M0 z0 → Q z0 → Q' z0) (hX : ∀ z0, K6 this M0 z0 → X z0 → X' z0) : K6 this M0 M → w_Model_takeLine_j171 this Q X M → w_Model_takeLine_j171 this Q' X' M := by
  intro hf
  unfold w_Model_takeLine_j171
  exact (mf_ite (hQ _ hf) (mf_and fun _ => (mf_w_Model_refuse (fun M14 f1 => (hQ _ (K6.trans hf (K6.fr f1 rfl)))) (fun z3 f2 => hX z3 (K6.trans hf (K6.fr f2 rfl))))))
set_option maxRecDepth 20000 in
theorem m6_w_Model_takeLine_j67 {this : Nat} {Q Q' : Mem → Prop} {X X' : Mem → Prop} {M : Mem} {M0 : Mem} (hQ : ∀ z0, K6 this M0 z0 → Q z0 → Q' z0) (hX : ∀ z0, K6 this M0 z0 → X z0 → X' z0) : K6 this M0 M → w_Model_takeLine_j67 this Q X M → w_Model_takeLine_j67 this Q' X' M := by
  intro hf
  unfold w_Model_takeLine_j67
  exact (mf_ite (mf_w_Model_classLine (fun M29 f1 => (m6_w_Model_takeLine_j171 hQ hX (K6.trans hf (K6.fr f1 rfl)))) (fun z3 f2 => hX z3 (K6.trans hf (K6.fr f2 rfl)))) (mf_ite (mf_w_Model_takes (fun r20 M19 f4 => (mf_ite (mf_w_Model_takes (fun r23 M22 f5 => (mf_ite (mf_w_Model_needWord (fun M25 f6 => (mf_w_Model_need (fun M26 f7 => (m6_w_Model_takeLine_j171 hQ hX (K6.wI0 rfl (K6.trans (K6.trans (K6.trans (K6.trans hf (K6.fr f4 rfl)) (K6.fr f5 rfl)) (K6.fr f6 rfl)) (K6.fr f7 rfl))))) (fun z9 f8 => hX z9 (K6.trans (K6.trans (K6.trans (K6.trans hf (K6.fr f4 rfl)) (K6.fr f5 rfl)) (K6.fr f6 rfl)) (K6.fr f8 rfl))))) (fun z11 f10 => hX z11 (K6.trans (K6.trans (K6.trans hf (K6.fr f4 rfl)) (K6.fr f5 rfl)) (K6.fr f10 rfl)))) (mf_w_Model_methodLine (fun M27 f12 => (m6_w_Model_takeLine_j171 hQ hX (K6.trans (K6.trans (K6.trans hf (K6.fr f4 rfl)) (K6.fr f5 rfl)) (K6.fr f12 rfl)))) (fun z14 f13 => hX z14 (K6.trans (K6.trans (K6.trans hf (K6.fr f4 rfl)) (K6.fr f5 rfl)) (K6.fr f13 rfl))))))) (mf_w_Model_fieldLine (fun M28 f15 => (m6_w_Model_takeLine_j171 hQ hX (K6.trans (K6.trans hf (K6.fr f4 rfl)) (K6.fr f15 rfl)))) (fun z17 f16 => hX z17 (K6.trans (K6.trans hf (K6.fr f4 rfl)) (K6.fr f16 rfl))))))) (mf_ite (mf_w_Model_roomLine (fun M18 f18 => (m6_w_Model_takeLine_j171 hQ hX (K6.trans hf (K6.fr f18 rfl)))) (fun z20 f19 => hX z20 (K6.trans hf (K6.fr f19 rfl)))) (m6_w_Model_codeLine (fun M11 f21 => (m6_w_Model_takeLine_j171 hQ hX (K6.trans hf f21))) (fun z23 f22 => hX z23 (K6.trans hf f22))))))
set_option maxRecDepth 20000 in
theorem m6_w_Model_takeLine_j47 {this : Nat} {Q Q' : Mem → Prop} {X X' : Mem → Prop} {M : Mem} {M0 : Mem} (hQ : ∀ z0, K6 this M0 z0 → Q z0 → Q' z0) (hX : ∀ z0, K6 this M0 z0 → X z0 → X' z0) : K6 this M0 M → w_Model_takeLine_j47 this Q X M → w_Model_takeLine_j47 this Q' X' M := by
  intro hf
  unfold w_Model_takeLine_j47
  exact (mf_and fun _ => (mf_ite (m6_w_Model_takeLine_j67 hQ hX hf) (mf_w_Model_endMethod (fun M32 f1 => (m6_w_Model_takeLine_j67 hQ hX (K6.wI0 rfl (K6.trans hf (K6.fr f1 rfl))))) (fun z3 f2 => hX z3 (K6.trans hf (K6.fr f2 rfl))))))
set_option maxRecDepth 20000 in
theorem m6_w_Model_takeLine {this : Nat} {Q Q' : Mem → Prop} {X X' : Mem → Prop} {M : Mem} (hQ : ∀ z0, K6 this M z0 → Q z0 → Q' z0) (hX : ∀ z0, K6 this M z0 → X z0 → X' z0) : w_Model_takeLine this Q X M → w_Model_takeLine this Q' X' M := by
  unfold w_Model_takeLine
  exact (mf_ite (mf_w_Model_isWord (fun r3 M2 f1 => (mf_ite (mf_w_Model_isWord (fun r6 M5 f2 => (mf_ite (mf_w_Model_isWord (fun r9 M8 f3 => (mf_ite (m6_w_Model_takeLine_j67 hQ hX (K6.trans (K6.trans (K6.trans (K6.wI0 rfl (K6.rf M)) (K6.fr f1 rfl)) (K6.fr f2 rfl)) (K6.fr f3 rfl))) (m6_w_Model_takeLine_j47 hQ hX (K6.trans (K6.trans (K6.trans (K6.wI0 rfl (K6.rf M)) (K6.fr f1 rfl)) (K6.fr f2 rfl)) (K6.fr f3 rfl)))))) (m6_w_Model_takeLine_j47 hQ hX (K6.trans (K6.trans (K6.wI0 rfl (K6.rf M)) (K6.fr f1 rfl)) (K6.fr f2 rfl)))))) (m6_w_Model_takeLine_j47 hQ hX (K6.trans (K6.wI0 rfl (K6.rf M)) (K6.fr f1 rfl)))))) (m6_w_Model_takeLine_j67 hQ hX (K6.wI0 rfl (K6.rf M))))
set_option maxRecDepth 20000 in
theorem m6_w_Model_take_j135 {this : Nat} {Q Q' : Int32 → Mem → Prop} {v3 : Int32} {v4 : Int32} {v5 : Int32} {v6 : Int32} {v7 : Int32} {s0 : Nat} {M : Mem} {M0 : Mem} (hQ : ∀ z0 z1, K6 this M0 z1 → Q z0 z1 → Q' z0 z1) : K6 this M0 M → w_Model_take_j135 this Q v3 v4 v5 v6 v7 s0 M → w_Model_take_j135 this Q' v3 v4 v5 v6 v7 s0 M := by
  intro hf
  unfold w_Model_take_j135
  exact (Exists.imp fun i13 => (mf_and fun _ => (Exists.imp fun i14 => (mf_and fun _ => (Exists.imp fun i15 => (mf_and fun _ => (Exists.imp fun i16 => (mf_and fun _ => (Exists.imp fun M17 => (mf_and fun e1 => (Exists.imp fun i18 => (mf_and fun _ => (hQ _ _ (K6.wI0 rfl (K6.of e1 (K6.wI0 rfl (K6.wI0 rfl (K6.wI0 rfl (K6.wI0 rfl hf)))))))))))))))))))
set_option maxRecDepth 20000 in
theorem m6_w_Model_take_j110 {this : Nat} {Q Q' : Int32 → Mem → Prop} {k63 k63' : Nat → Int32 → Int32 → Int32 → Int32 → Int32 → Int32 → Int32 → Mem → Prop} {v1 : Nat} {v2 : Int32} {v3 : Int32} {v4 : Int32} {v5 : Int32} {v6 : Int32} {v7 : Int32} {v9 : Int32} {M : Mem} {M0 : Mem} (hQ : ∀ z0 z1, K6 this M0 z1 → Q z0 z1 → Q' z0 z1) (hk63 : ∀ z0 z1 z2 z3 z4 z5 z6 z7 z8, K6 this M0 z8 → k63 z0 z1 z2 z3 z4 z5 z6 z7 z8 → k63' z0 z1 z2 z3 z4 z5 z6 z7 z8) : K6 this M0 M → w_Model_take_j110 this Q k63 v1 v2 v3 v4 v5 v6 v7 v9 M → w_Model_take_j110 this Q' k63' v1 v2 v3 v4 v5 v6 v7 v9 M := by
  intro hf
  unfold w_Model_take_j110
  exact (hk63 _ _ _ _ _ _ _ _ _ hf)
set_option maxRecDepth 20000 in
theorem m6_w_Model_take_j94 {this : Nat} {Q Q' : Int32 → Mem → Prop} {k63 k63' : Nat → Int32 → Int32 → Int32 → Int32 → Int32 → Int32 → Int32 → Mem → Prop} {v1 : Nat} {v2 : Int32} {v3 : Int32} {v4 : Int32} {v5 : Int32} {v6 : Int32} {v7 : Int32} {v8 : Int32} {v9 : Int32} {M : Mem} {M0 : Mem} (hQ : ∀ z0 z1, K6 this M0 z1 → Q z0 z1 → Q' z0 z1) (hk63 : ∀ z0 z1 z2 z3 z4 z5 z6 z7 z8, K6 this M0 z8 → k63 z0 z1 z2 z3 z4 z5 z6 z7 z8 → k63' z0 z1 z2 z3 z4 z5 z6 z7 z8) : K6 this M0 M → w_Model_take_j94 this Q k63 v1 v2 v3 v4 v5 v6 v7 v8 v9 M → w_Model_take_j94 this Q' k63' v1 v2 v3 v4 v5 v6 v7 v8 v9 M := by
  intro hf
  unfold w_Model_take_j94
  exact (m6_w_Model_cutLine (fun r21 M20 f1 => (mf_ite (m6_w_Model_take_j110 hQ hk63 (K6.trans hf f1)) (m6_w_Model_takeLine (fun M23 f2 => (m6_w_Model_take_j110 hQ hk63 (K6.trans (K6.trans hf f1) f2))) (fun M24 f3 => (m6_w_Model_take_j135 hQ (K6.trans (K6.trans hf f1) f3)))))))
set_option maxRecDepth 20000 in
theorem m6_w_Model_take_L73 {this : Nat} {Q Q' : Int32 → Mem → Prop} {k63 k63' : Nat → Int32 → Int32 → Int32 → Int32 → Int32 → Int32 → Int32 → Mem → Prop} {M0 : Mem} (hQ : ∀ z0 z1, K6 this M0 z1 → Q z0 z1 → Q' z0 z1) (hk63 : ∀ z0 z1 z2 z3 z4 z5 z6 z7 z8, K6 this M0 z8 → k63 z0 z1 z2 z3 z4 z5 z6 z7 z8 → k63' z0 z1 z2 z3 z4 z5 z6 z7 z8) : ∀ (n : Nat) (v1 : Nat) (v2 : Int32) (v3 : Int32) (v4 : Int32) (v5 : Int32) (v6 : Int32) (v7 : Int32) (v8 : Int32) (v9 : Int32) (M : Mem), K6 this M0 M → w_Model_take_L73 this Q k63 n v1 v2 v3 v4 v5 v6 v7 v8 v9 M → w_Model_take_L73 this Q' k63' n v1 v2 v3 v4 v5 v6 v7 v8 v9 M
  | 0, _, _, _, _, _, _, _, _, _, _ => fun _ h => h
  | n + 1, v1, v2, v3, v4, v5, v6, v7, v8, v9, M => fun hf => by
    unfold w_Model_take_L73
    exact (mf_ite (m6_w_Model_take_j94 hQ hk63 hf) (mf_and fun _ => (mf_ite (m6_w_Model_take_j94 hQ hk63 hf) (m6_w_Model_take_L73 hQ hk63 _ _ _ _ _ _ _ _ _ _ _ hf))))
set_option maxRecDepth 20000 in
theorem m6_w_Model_take_L63 {this : Nat} {Q Q' : Int32 → Mem → Prop} {M0 : Mem} (hQ : ∀ z0 z1, K6 this M0 z1 → Q z0 z1 → Q' z0 z1) : ∀ (n : Nat) (v1 : Nat) (v2 : Int32) (v3 : Int32) (v4 : Int32) (v5 : Int32) (v6 : Int32) (v7 : Int32) (v8 : Int32) (M : Mem), K6 this M0 M → w_Model_take_L63 this Q n v1 v2 v3 v4 v5 v6 v7 v8 M → w_Model_take_L63 this Q' n v1 v2 v3 v4 v5 v6 v7 v8 M
  | 0, _, _, _, _, _, _, _, _, _ => fun _ h => h
  | n + 1, v1, v2, v3, v4, v5, v6, v7, v8, M => fun hf => by
    unfold w_Model_take_L63
    exact (mf_ite (mf_ite (Exists.imp fun i9 => (mf_and fun _ => (hQ _ _ hf))) (mf_w_Model_refuse (fun M10 f1 => (Exists.imp fun i11 => (mf_and fun _ => (hQ _ _ (K6.trans hf (K6.fr f1 rfl)))))) (fun M12 f2 => (m6_w_Model_take_j135 hQ (K6.trans hf (K6.fr f2 rfl)))))) (Exists.imp fun n27 => (m6_w_Model_take_L73 hQ (m6_w_Model_take_L63 hQ n) _ _ _ _ _ _ _ _ _ _ _ hf)))
set_option maxRecDepth 20000 in
theorem m6_w_Model_take {this : Nat} {a1 : Nat} {a2 : Int32} {Q Q' : Int32 → Mem → Prop} {M : Mem} (hQ : ∀ z0 z1, K6 this M z1 → Q z0 z1 → Q' z0 z1) : w_Model_take this a1 a2 Q M → w_Model_take this a1 a2 Q' M := by
  unfold w_Model_take
  exact (Exists.imp fun i1 => (mf_and fun _ => (Exists.imp fun i2 => (mf_and fun _ => (Exists.imp fun i3 => (mf_and fun _ => (Exists.imp fun i4 => (mf_and fun _ => (Exists.imp fun i5 => (mf_and fun _ => (Exists.imp fun M6 => (mf_and fun e1 => (Exists.imp fun n28 => (m6_w_Model_take_L63 hQ _ _ _ _ _ _ _ _ _ _ (K6.of e1 (K6.wI0 rfl (K6.wI0 rfl (K6.wI0 rfl (K6.rf M)))))))))))))))))))
set_option maxRecDepth 20000 in
theorem m6_w_Model_define {this : Nat} {a1 : Int32} {Q Q' : Int32 → Mem → Prop} {M : Mem} (hQ : ∀ z0 z1, K6 this M z1 → Q z0 z1 → Q' z0 z1) : w_Model_define this a1 Q M → w_Model_define this a1 Q' M := by
  unfold w_Model_define
  exact (mf_w_Model_isWorld (fun r2 M1 f1 => (mf_ite (hQ _ _ (K6.trans (K6.rf M) (K6.fr f1 rfl))) (mf_and fun _ => (Exists.imp fun i5 => (mf_and fun _ => (m6_w_Model_take (fun r7 M6 f2 => (Exists.imp fun M8 => (mf_and fun e3 => (hQ _ _ (K6.of e3 (K6.wI0 rfl (K6.wI0 rfl (K6.trans (K6.wR0 rfl (K6.trans (K6.rf M) (K6.fr f1 rfl))) f2)))))))))))))))
set_option maxRecDepth 20000 in
theorem m6_w_Model_takesLine_j117 {this : Nat} {Q Q' : Int32 → Mem → Prop} {s0 : Nat} {M : Mem} {M0 : Mem} (hQ : ∀ z0 z1, K6 this M0 z1 → Q z0 z1 → Q' z0 z1) : K6 this M0 M → w_Model_takesLine_j117 this Q s0 M → w_Model_takesLine_j117 this Q' s0 M := by
  intro hf
  unfold w_Model_takesLine_j117
  exact (hQ _ _ (K6.wI0 rfl hf))
set_option maxRecDepth 20000 in
theorem m6_w_Model_takesLine_j95 {this : Nat} {Q Q' : Int32 → Mem → Prop} {k21 k21' : Int32 → Int32 → Int32 → Int32 → Mem → Prop} {v1 : Int32} {v2 : Int32} {v3 : Int32} {v5 : Int32} {M : Mem} {M0 : Mem} (hQ : ∀ z0 z1, K6 this M0 z1 → Q z0 z1 → Q' z0 z1) (hk21 : ∀ z0 z1 z2 z3 z4, K6 this M0 z4 → k21 z0 z1 z2 z3 z4 → k21' z0 z1 z2 z3 z4) : K6 this M0 M → w_Model_takesLine_j95 this Q k21 v1 v2 v3 v5 M → w_Model_takesLine_j95 this Q' k21' v1 v2 v3 v5 M := by
  intro hf
  unfold w_Model_takesLine_j95
  exact (hk21 _ _ _ _ _ hf)
set_option maxRecDepth 20000 in
theorem m6_w_Model_takesLine_j78 {this : Nat} {Q Q' : Int32 → Mem → Prop} {k21 k21' : Int32 → Int32 → Int32 → Int32 → Mem → Prop} {v1 : Int32} {v2 : Int32} {v5 : Int32} {M : Mem} {M0 : Mem} (hQ : ∀ z0 z1, K6 this M0 z1 → Q z0 z1 → Q' z0 z1) (hk21 : ∀ z0 z1 z2 z3 z4, K6 this M0 z4 → k21 z0 z1 z2 z3 z4 → k21' z0 z1 z2 z3 z4) : K6 this M0 M → w_Model_takesLine_j78 this Q k21 v1 v2 v5 M → w_Model_takesLine_j78 this Q' k21' v1 v2 v5 M := by
  intro hf
  unfold w_Model_takesLine_j78
  exact (mf_ite (mf_w_Model_callWords (fun M11 f1 => (m6_w_Model_takesLine_j95 hQ hk21 (K6.trans hf (K6.fr f1 rfl)))) (fun M12 f2 => (m6_w_Model_takesLine_j117 hQ (K6.trans hf (K6.fr f2 rfl))))) (mf_w_Model_methodWords (fun M13 f3 => (m6_w_Model_takesLine_j95 hQ hk21 (K6.trans hf (K6.fr f3 rfl)))) (fun M14 f4 => (m6_w_Model_takesLine_j117 hQ (K6.trans hf (K6.fr f4 rfl))))))
set_option maxRecDepth 20000 in
theorem m6_w_Model_takesLine_j55 {this : Nat} {Q Q' : Int32 → Mem → Prop} {k21 k21' : Int32 → Int32 → Int32 → Int32 → Mem → Prop} {v1 : Int32} {v2 : Int32} {v3 : Int32} {v4 : Int32} {v5 : Int32} {M : Mem} {M0 : Mem} (hQ : ∀ z0 z1, K6 this M0 z1 → Q z0 z1 → Q' z0 z1) (hk21 : ∀ z0 z1 z2 z3 z4, K6 this M0 z4 → k21 z0 z1 z2 z3 z4 → k21' z0 z1 z2 z3 z4) : K6 this M0 M → w_Model_takesLine_j55 this Q k21 v1 v2 v3 v4 v5 M → w_Model_takesLine_j55 this Q' k21' v1 v2 v3 v4 v5 M := by
  intro hf
  unfold w_Model_takesLine_j55
  exact (m6_w_Model_cutLine (fun r7 M6 f1 => (mf_ite (m6_w_Model_takesLine_j95 hQ hk21 (K6.trans hf f1)) (mf_ite (m6_w_Model_takesLine_j78 hQ hk21 (K6.trans hf f1)) (mf_w_Model_wrong (fun M15 f2 => (m6_w_Model_takesLine_j78 hQ hk21 (K6.trans (K6.trans hf f1) (K6.fr f2 rfl)))) (fun M16 f3 => (m6_w_Model_takesLine_j117 hQ (K6.trans (K6.trans hf f1) (K6.fr f3 rfl)))))))))
set_option maxRecDepth 20000 in
theorem m6_w_Model_takesLine_L31 {this : Nat} {Q Q' : Int32 → Mem → Prop} {k21 k21' : Int32 → Int32 → Int32 → Int32 → Mem → Prop} {M0 : Mem} (hQ : ∀ z0 z1, K6 this M0 z1 → Q z0 z1 → Q' z0 z1) (hk21 : ∀ z0 z1 z2 z3 z4, K6 this M0 z4 → k21 z0 z1 z2 z3 z4 → k21' z0 z1 z2 z3 z4) : ∀ (n : Nat) (v1 : Int32) (v2 : Int32) (v3 : Int32) (v4 : Int32) (v5 : Int32) (M : Mem), K6 this M0 M → w_Model_takesLine_L31 this Q k21 n v1 v2 v3 v4 v5 M → w_Model_takesLine_L31 this Q' k21' n v1 v2 v3 v4 v5 M
  | 0, _, _, _, _, _, _ => fun _ h => h
  | n + 1, v1, v2, v3, v4, v5, M => fun hf => by
    unfold w_Model_takesLine_L31
    exact (mf_ite (m6_w_Model_takesLine_j55 hQ hk21 hf) (mf_and fun _ => (mf_ite (m6_w_Model_takesLine_j55 hQ hk21 hf) (m6_w_Model_takesLine_L31 hQ hk21 _ _ _ _ _ _ _ hf))))
set_option maxRecDepth 20000 in
theorem m6_w_Model_takesLine_L21 {this : Nat} {Q Q' : Int32 → Mem → Prop} {M0 : Mem} (hQ : ∀ z0 z1, K6 this M0 z1 → Q z0 z1 → Q' z0 z1) : ∀ (n : Nat) (v1 : Int32) (v2 : Int32) (v3 : Int32) (v4 : Int32) (M : Mem), K6 this M0 M → w_Model_takesLine_L21 this Q n v1 v2 v3 v4 M → w_Model_takesLine_L21 this Q' n v1 v2 v3 v4 M
  | 0, _, _, _, _, _ => fun _ h => h
  | n + 1, v1, v2, v3, v4, M => fun hf => by
    unfold w_Model_takesLine_L21
    exact (mf_ite (mf_ite (mf_w_Model_refuse (fun M3 f1 => (hQ _ _ (K6.trans hf (K6.fr f1 rfl)))) (fun M4 f2 => (m6_w_Model_takesLine_j117 hQ (K6.trans hf (K6.fr f2 rfl))))) (hQ _ _ hf)) (Exists.imp fun n19 => (m6_w_Model_takesLine_L31 hQ (m6_w_Model_takesLine_L21 hQ n) _ _ _ _ _ _ _ hf)))
set_option maxRecDepth 20000 in
theorem m6_w_Model_takesLine {this : Nat} {a1 : Int32} {Q Q' : Int32 → Mem → Prop} {M : Mem} (hQ : ∀ z0 z1, K6 this M z1 → Q z0 z1 → Q' z0 z1) : w_Model_takesLine this a1 Q M → w_Model_takesLine this a1 Q' M := by
  unfold w_Model_takesLine
  exact (Exists.imp fun n20 => (m6_w_Model_takesLine_L21 hQ _ _ _ _ _ _ (K6.wI0 rfl (K6.wI0 rfl (K6.rf M)))))
set_option maxRecDepth 20000 in
theorem m6_w_Model_call {this : Nat} {a1 : Int32} {a2 : Int32} {Q Q' : Int32 → Mem → Prop} {M : Mem} (hQ : ∀ z0 z1, K6 this M z1 → Q z0 z1 → Q' z0 z1) : w_Model_call this a1 a2 Q M → w_Model_call this a1 a2 Q' M := by
  unfold w_Model_call
  exact (mf_w_Model_isWorld (fun r2 M1 f1 => (mf_ite (hQ _ _ (K6.trans (K6.rf M) (K6.fr f1 rfl))) (mf_w_Model_isThread (fun r5 M4 f2 => (mf_ite (hQ _ _ (K6.trans (K6.trans (K6.rf M) (K6.fr f1 rfl)) (K6.fr f2 rfl))) (mf_and fun _ => (Exists.imp fun i8 => (mf_and fun _ => (mf_and fun _ => (Exists.imp fun i10 => (mf_and fun _ => (mf_ite (hQ _ _ (K6.trans (K6.trans (K6.rf M) (K6.fr f1 rfl)) (K6.fr f2 rfl))) (m6_w_Model_takesLine (fun r13 M12 f3 => (mf_ite (mf_and fun _ => (Exists.imp fun i16 => (mf_and fun _ => (mf_and fun _ => (Exists.imp fun i18 => (mf_and fun _ => (hQ _ _ (K6.wI0 rfl (K6.trans (K6.trans (K6.trans (K6.rf M) (K6.fr f1 rfl)) (K6.fr f2 rfl)) f3))))))))) (mf_and fun _ => (Exists.imp fun i20 => (mf_and fun _ => (mf_and fun _ => (Exists.imp fun i22 => (mf_and fun _ => (mf_w_Model_beginRun (fun M23 f4 => (hQ _ _ (K6.trans (K6.trans (K6.trans (K6.trans (K6.rf M) (K6.fr f1 rfl)) (K6.fr f2 rfl)) f3) (K6.fr f4 rfl)))))))))))))))))))))))))))
set_option maxRecDepth 20000 in
theorem m6_w_Model_asked_j126 {this : Nat} {Q Q' : Int32 → Mem → Prop} {v3 : Int32} {M : Mem} {M0 : Mem} (hQ : ∀ z0 z1, K6 this M0 z1 → Q z0 z1 → Q' z0 z1) : K6 this M0 M → w_Model_asked_j126 this Q v3 M → w_Model_asked_j126 this Q' v3 M := by
  intro hf
  unfold w_Model_asked_j126
  exact (mf_ite (mf_and fun _ => (mf_and fun _ => (hQ _ _ hf))) (hQ _ _ hf))
set_option maxRecDepth 20000 in
theorem m6_w_Model_asked_j94 {this : Nat} {Q Q' : Int32 → Mem → Prop} {v2 : Int32} {v3 : Int32} {M : Mem} {M0 : Mem} (hQ : ∀ z0 z1, K6 this M0 z1 → Q z0 z1 → Q' z0 z1) : K6 this M0 M → w_Model_asked_j94 this Q v2 v3 M → w_Model_asked_j94 this Q' v2 v3 M := by
  intro hf
  unfold w_Model_asked_j94
  exact (mf_ite (m6_w_Model_asked_j126 hQ hf) (Exists.imp fun i16 => (mf_and fun _ => (mf_and fun _ => (mf_ite (mf_w_Model_dispatch (fun r20 M19 f1 => (m6_w_Model_asked_j126 hQ (K6.trans hf (K6.fr f1 rfl))))) (m6_w_Model_asked_j126 hQ hf))))))
set_option maxRecDepth 20000 in
theorem m6_w_Model_asked {this : Nat} {a1 : Int32} {a2 : Int32} {Q Q' : Int32 → Mem → Prop} {M : Mem} (hQ : ∀ z0 z1, K6 this M z1 → Q z0 z1 → Q' z0 z1) : w_Model_asked this a1 a2 Q M → w_Model_asked this a1 a2 Q' M := by
  unfold w_Model_asked
  exact (mf_w_Model_isClass (fun r2 M1 f1 => (mf_ite (hQ _ _ (K6.trans (K6.rf M) (K6.fr f1 rfl))) (m6_w_Model_takesLine (fun r5 M4 f2 => (mf_ite (hQ _ _ (K6.trans (K6.trans (K6.rf M) (K6.fr f1 rfl)) f2)) (mf_and fun _ => (Exists.imp fun i8 => (mf_and fun _ => (mf_w_Model_findMethod (fun r10 M9 f3 => (mf_ite (m6_w_Model_asked_j94 hQ (K6.trans (K6.wR0 rfl (K6.trans (K6.trans (K6.rf M) (K6.fr f1 rfl)) f2)) (K6.fr f3 rfl))) (mf_w_Model_isLinked (fun r22 M21 f4 => (mf_ite (Exists.imp fun i24 => (mf_and fun _ => (mf_and fun _ => (mf_and fun _ => (Exists.imp fun i27 => (mf_and fun _ => (mf_and fun _ => (mf_and fun _ => (mf_w_Model_fails (fun r31 M30 f5 => (m6_w_Model_asked_j94 hQ (K6.trans (K6.trans (K6.trans (K6.wR0 rfl (K6.trans (K6.trans (K6.rf M) (K6.fr f1 rfl)) f2)) (K6.fr f3 rfl)) (K6.fr f4 rfl)) (K6.fr f5 rfl))))))))))))) (m6_w_Model_asked_j94 hQ (K6.trans (K6.trans (K6.wR0 rfl (K6.trans (K6.trans (K6.rf M) (K6.fr f1 rfl)) f2)) (K6.fr f3 rfl)) (K6.fr f4 rfl))))))))))))))))))
set_option maxRecDepth 20000 in
theorem m6_w_Model_trial_j229 {this : Nat} {Q Q' : Int32 → Mem → Prop} {s0 : Nat} {M : Mem} {M0 : Mem} (hQ : ∀ z0 z1, K6 this M0 z1 → Q z0 z1 → Q' z0 z1) : K6 this M0 M → w_Model_trial_j229 this Q s0 M → w_Model_trial_j229 this Q' s0 M := by
  intro hf
  unfold w_Model_trial_j229
  exact (hQ _ _ (K6.wI0 rfl hf))
set_option maxRecDepth 20000 in
theorem m6_w_Model_trial_j203 {this : Nat} {Q Q' : Int32 → Mem → Prop} {v2 : Int32} {v3 : Int32} {M : Mem} {M0 : Mem} (hQ : ∀ z0 z1, K6 this M0 z1 → Q z0 z1 → Q' z0 z1) : K6 this M0 M → w_Model_trial_j203 this Q v2 v3 M → w_Model_trial_j203 this Q' v2 v3 M := by
  intro hf
  unfold w_Model_trial_j203
  exact (m6_w_Model_cutLine (fun r8 M7 f1 => (mf_w_Model_needWord (fun M9 f2 => (mf_w_Model_callWords (fun M10 f3 => (mf_w_Model_keepDraft (fun r12 M11 f4 => (hQ _ _ (K6.trans (K6.trans (K6.trans (K6.trans hf f1) (K6.fr f2 rfl)) (K6.fr f3 rfl)) (K6.fr f4 rfl)))))) (fun M13 f5 => (m6_w_Model_trial_j229 hQ (K6.trans (K6.trans (K6.trans hf f1) (K6.fr f2 rfl)) (K6.fr f5 rfl)))))) (fun M14 f6 => (m6_w_Model_trial_j229 hQ (K6.trans (K6.trans hf f1) (K6.fr f6 rfl)))))))
set_option maxRecDepth 20000 in
theorem m6_w_Model_trial_j157 {this : Nat} {Q Q' : Int32 → Mem → Prop} {k36 k36' : Int32 → Int32 → Int32 → Int32 → Mem → Prop} {v1 : Int32} {v2 : Int32} {v3 : Int32} {v5 : Int32} {M : Mem} {M0 : Mem} (hQ : ∀ z0 z1, K6 this M0 z1 → Q z0 z1 → Q' z0 z1) (hk36 : ∀ z0 z1 z2 z3 z4, K6 this M0 z4 → k36 z0 z1 z2 z3 z4 → k36' z0 z1 z2 z3 z4) : K6 this M0 M → w_Model_trial_j157 this Q k36 v1 v2 v3 v5 M → w_Model_trial_j157 this Q' k36' v1 v2 v3 v5 M := by
  intro hf
  unfold w_Model_trial_j157
  exact (hk36 _ _ _ _ _ hf)
set_option maxRecDepth 20000 in
theorem m6_w_Model_trial_j76 {this : Nat} {Q Q' : Int32 → Mem → Prop} {k36 k36' : Int32 → Int32 → Int32 → Int32 → Mem → Prop} {v1 : Int32} {v2 : Int32} {v3 : Int32} {v4 : Int32} {v5 : Int32} {M : Mem} {M0 : Mem} (hQ : ∀ z0 z1, K6 this M0 z1 → Q z0 z1 → Q' z0 z1) (hk36 : ∀ z0 z1 z2 z3 z4, K6 this M0 z4 → k36 z0 z1 z2 z3 z4 → k36' z0 z1 z2 z3 z4) : K6 this M0 M → w_Model_trial_j76 this Q k36 v1 v2 v3 v4 v5 M → w_Model_trial_j76 this Q' k36' v1 v2 v3 v4 v5 M := by
  intro hf
  unfold w_Model_trial_j76
  exact (m6_w_Model_cutLine (fun r18 M17 f1 => (mf_ite (m6_w_Model_trial_j157 hQ hk36 (K6.trans hf f1)) (mf_and fun _ => (mf_and fun _ => (mf_and fun _ => (mf_and fun _ => (mf_and fun _ => (Exists.imp fun M20 => (mf_and fun e2 => (mf_and fun _ => (Exists.imp fun M27 => (mf_and fun e3 => (m6_w_Model_trial_j157 hQ hk36 (K6.wI0 rfl (K6.of e3 (K6.wI0 rfl (K6.wI0 rfl (K6.of e2 (K6.wc0 rfl (K6.trans hf f1)))))))))))))))))))))
set_option maxRecDepth 20000 in
theorem m6_w_Model_trial_L49 {this : Nat} {Q Q' : Int32 → Mem → Prop} {k36 k36' : Int32 → Int32 → Int32 → Int32 → Mem → Prop} {M0 : Mem} (hQ : ∀ z0 z1, K6 this M0 z1 → Q z0 z1 → Q' z0 z1) (hk36 : ∀ z0 z1 z2 z3 z4, K6 this M0 z4 → k36 z0 z1 z2 z3 z4 → k36' z0 z1 z2 z3 z4) : ∀ (n : Nat) (v1 : Int32) (v2 : Int32) (v3 : Int32) (v4 : Int32) (v5 : Int32) (M : Mem), K6 this M0 M → w_Model_trial_L49 this Q k36 n v1 v2 v3 v4 v5 M → w_Model_trial_L49 this Q' k36' n v1 v2 v3 v4 v5 M
  | 0, _, _, _, _, _, _ => fun _ h => h
  | n + 1, v1, v2, v3, v4, v5, M => fun hf => by
    unfold w_Model_trial_L49
    exact (mf_ite (m6_w_Model_trial_j76 hQ hk36 hf) (mf_and fun _ => (mf_ite (m6_w_Model_trial_j76 hQ hk36 hf) (m6_w_Model_trial_L49 hQ hk36 _ _ _ _ _ _ _ hf))))
set_option maxRecDepth 20000 in
theorem m6_w_Model_trial_L36 {this : Nat} {Q Q' : Int32 → Mem → Prop} {M0 : Mem} (hQ : ∀ z0 z1, K6 this M0 z1 → Q z0 z1 → Q' z0 z1) : ∀ (n : Nat) (v1 : Int32) (v2 : Int32) (v3 : Int32) (v4 : Int32) (M : Mem), K6 this M0 M → w_Model_trial_L36 this Q n v1 v2 v3 v4 M → w_Model_trial_L36 this Q' n v1 v2 v3 v4 M
  | 0, _, _, _, _, _ => fun _ h => h
  | n + 1, v1, v2, v3, v4, M => fun hf => by
    unfold w_Model_trial_L36
    exact (mf_ite (mf_ite (mf_ite (mf_w_Model_refuse (fun M6 f1 => (m6_w_Model_trial_j203 hQ (K6.trans (K6.wI0 rfl (K6.wI0 rfl hf)) (K6.fr f1 rfl)))) (fun M15 f2 => (m6_w_Model_trial_j229 hQ (K6.trans (K6.wI0 rfl (K6.wI0 rfl hf)) (K6.fr f2 rfl))))) (m6_w_Model_trial_j203 hQ (K6.wI0 rfl (K6.wI0 rfl hf)))) (hQ _ _ hf)) (Exists.imp fun n30 => (m6_w_Model_trial_L49 hQ (m6_w_Model_trial_L36 hQ n) _ _ _ _ _ _ _ hf)))
set_option maxRecDepth 20000 in
theorem m6_w_Model_trial {this : Nat} {Q Q' : Int32 → Mem → Prop} {M : Mem} (hQ : ∀ z0 z1, K6 this M z1 → Q z0 z1 → Q' z0 z1) : w_Model_trial this Q M → w_Model_trial this Q' M := by
  unfold w_Model_trial
  exact (mf_ite (hQ _ _ (K6.rf M)) (mf_ite (Exists.imp fun n31 => (m6_w_Model_trial_L36 hQ _ _ _ _ _ _ (K6.wI0 rfl (K6.rf M)))) (hQ _ _ (K6.rf M))))
set_option maxRecDepth 20000 in
theorem m6_w_Model_tryDraft_j196 {this : Nat} {Q Q' : Mem → Prop} {X X' : Mem → Prop} {s0 : Int32} {M : Mem} {M0 : Mem} (hQ : ∀ z0, K6 this M0 z0 → Q z0 → Q' z0) (hX : ∀ z0, K6 this M0 z0 → X z0 → X' z0) : K6 this M0 M → w_Model_tryDraft_j196 this Q X s0 M → w_Model_tryDraft_j196 this Q' X' s0 M := by
  intro hf
  unfold w_Model_tryDraft_j196
  exact (hQ _ (K6.wI0 rfl hf))
set_option maxRecDepth 20000 in
theorem m6_w_Model_tryDraft_j152 {this : Nat} {Q Q' : Mem → Prop} {X X' : Mem → Prop} {v3 : Nat} {s0 : Int32} {M : Mem} {M0 : Mem} (hQ : ∀ z0, K6 this M0 z0 → Q z0 → Q' z0) (hX : ∀ z0, K6 this M0 z0 → X z0 → X' z0) : K6 this M0 M → w_Model_tryDraft_j152 this Q X v3 s0 M → w_Model_tryDraft_j152 this Q' X' v3 s0 M := by
  intro hf
  unfold w_Model_tryDraft_j152
  exact (mf_ite (m6_w_Model_tryDraft_j196 hQ hX (K6.wI0 rfl hf)) (mf_ite (m6_w_Model_tryDraft_j196 hQ hX (K6.wI0 rfl hf)) (mf_ite (m6_w_Model_tryDraft_j196 hQ hX (K6.wI0 rfl hf)) (m6_w_Model_tryDraft_j196 hQ hX (K6.wI0 rfl hf)))))
set_option maxRecDepth 20000 in
theorem m6_w_Model_tryDraft_j241 {this : Nat} {Q Q' : Mem → Prop} {X X' : Mem → Prop} {s0 : Int32} {s1 : Int32} {M : Mem} {M0 : Mem} (hQ : ∀ z0, K6 this M0 z0 → Q z0 → Q' z0) (hX : ∀ z0, K6 this M0 z0 → X z0 → X' z0) : K6 this M0 M → w_Model_tryDraft_j241 this Q X s0 s1 M → w_Model_tryDraft_j241 this Q' X' s0 s1 M := by
  intro hf
  unfold w_Model_tryDraft_j241
  exact (hQ _ (K6.wI0 rfl hf))
set_option maxRecDepth 20000 in
theorem m6_w_Model_tryDraft_j30 {this : Nat} {Q Q' : Mem → Prop} {X X' : Mem → Prop} {v1 : Int32} {v2 : Int32} {M : Mem} {M0 : Mem} (hQ : ∀ z0, K6 this M0 z0 → Q z0 → Q' z0) (hX : ∀ z0, K6 this M0 z0 → X z0 → X' z0) : K6 this M0 M → w_Model_tryDraft_j30 this Q X v1 v2 M → w_Model_tryDraft_j30 this Q' X' v1 v2 M := by
  intro hf
  unfold w_Model_tryDraft_j30
  exact (mf_and fun _ => (Exists.imp fun i3 => (mf_and fun _ => (Exists.imp fun i4 => (mf_and fun _ => (mf_w_Model_beginWorld (fun M5 f1 => (m6_w_Model_take (fun r7 M6 f2 => (mf_ite (m6_w_Model_cutLine (fun r10 M9 f3 => (mf_w_Model_needWord (fun M11 f4 => (mf_w_Model_callWords (fun M12 f5 => (Exists.imp fun i13 => (mf_and fun _ => (mf_and fun _ => (Exists.imp fun i15 => (mf_and fun _ => (mf_w_Model_beginRun (fun M16 f6 => (mf_w_Model_goOn (fun r18 M17 f7 => (mf_ite (mf_ite (m6_w_Model_tryDraft_j152 hQ hX (K6.wI0 rfl (K6.trans (K6.trans (K6.trans (K6.trans (K6.trans (K6.trans (K6.trans (K6.wR0 rfl hf) (K6.fr f1 rfl)) f2) f3) (K6.fr f4 rfl)) (K6.fr f5 rfl)) (K6.fr f6 rfl)) (K6.fr f7 rfl)))) (m6_w_Model_tryDraft_j152 hQ hX (K6.wI0 rfl (K6.trans (K6.trans (K6.trans (K6.trans (K6.trans (K6.trans (K6.trans (K6.wR0 rfl hf) (K6.fr f1 rfl)) f2) f3) (K6.fr f4 rfl)) (K6.fr f5 rfl)) (K6.fr f6 rfl)) (K6.fr f7 rfl))))) (mf_ite (mf_ite (m6_w_Model_tryDraft_j241 hQ hX (K6.wI0 rfl (K6.wI0 rfl (K6.trans (K6.trans (K6.trans (K6.trans (K6.trans (K6.trans (K6.trans (K6.wR0 rfl hf) (K6.fr f1 rfl)) f2) f3) (K6.fr f4 rfl)) (K6.fr f5 rfl)) (K6.fr f6 rfl)) (K6.fr f7 rfl))))) (m6_w_Model_tryDraft_j241 hQ hX (K6.wI0 rfl (K6.wI0 rfl (K6.trans (K6.trans (K6.trans (K6.trans (K6.trans (K6.trans (K6.trans (K6.wR0 rfl hf) (K6.fr f1 rfl)) f2) f3) (K6.fr f4 rfl)) (K6.fr f5 rfl)) (K6.fr f6 rfl)) (K6.fr f7 rfl)))))) (hQ _ (K6.wI0 rfl (K6.wI0 rfl (K6.trans (K6.trans (K6.trans (K6.trans (K6.trans (K6.trans (K6.trans (K6.wR0 rfl hf) (K6.fr f1 rfl)) f2) f3) (K6.fr f4 rfl)) (K6.fr f5 rfl)) (K6.fr f6 rfl)) (K6.fr f7 rfl))))))))))))))))) (fun z9 f8 => hX z9 (K6.trans (K6.trans (K6.trans (K6.trans (K6.trans (K6.wR0 rfl hf) (K6.fr f1 rfl)) f2) f3) (K6.fr f4 rfl)) (K6.fr f8 rfl))))) (fun z11 f10 => hX z11 (K6.trans (K6.trans (K6.trans (K6.trans (K6.wR0 rfl hf) (K6.fr f1 rfl)) f2) f3) (K6.fr f10 rfl)))))) (Exists.imp fun M26 => (mf_and fun e12 => (hQ _ (K6.of e12 (K6.wI0 rfl (K6.wI0 rfl (K6.trans (K6.trans (K6.wR0 rfl hf) (K6.fr f1 rfl)) f2)))))))))))))))))
set_option maxRecDepth 20000 in
theorem m6_w_Model_tryDraft_L7 {this : Nat} {Q Q' : Mem → Prop} {X X' : Mem → Prop} {M0 : Mem} (hQ : ∀ z0, K6 this M0 z0 → Q z0 → Q' z0) (hX : ∀ z0, K6 this M0 z0 → X z0 → X' z0) : ∀ (n : Nat) (v1 : Int32) (v2 : Int32) (M : Mem), K6 this M0 M → w_Model_tryDraft_L7 this Q X n v1 v2 M → w_Model_tryDraft_L7 this Q' X' n v1 v2 M
  | 0, _, _, _ => fun _ h => h
  | n + 1, v1, v2, M => fun hf => by
    unfold w_Model_tryDraft_L7
    exact (mf_ite (m6_w_Model_tryDraft_j30 hQ hX hf) (mf_and fun _ => (mf_ite (m6_w_Model_tryDraft_j30 hQ hX hf) (m6_w_Model_tryDraft_L7 hQ hX _ _ _ _ hf))))
set_option maxRecDepth 20000 in
theorem m6_w_Model_tryDraft {this : Nat} {a1 : Int32} {Q Q' : Mem → Prop} {X X' : Mem → Prop} {M : Mem} (hQ : ∀ z0, K6 this M z0 → Q z0 → Q' z0) (hX : ∀ z0, K6 this M z0 → X z0 → X' z0) : w_Model_tryDraft this a1 Q X M → w_Model_tryDraft this a1 Q' X' M := by
  unfold w_Model_tryDraft
  exact (Exists.imp fun n29 => (m6_w_Model_tryDraft_L7 hQ hX _ _ _ _ (K6.rf M)))
set_option maxRecDepth 20000 in
theorem m6_w_Model_outcome {this : Nat} {a1 : Int32} {a2 : Int32} {a3 : Int32} {Q Q' : Int32 → Mem → Prop} {X X' : Mem → Prop} {M : Mem} (hQ : ∀ z0 z1, K6 this M z1 → Q z0 z1 → Q' z0 z1) (hX : ∀ z0, K6 this M z0 → X z0 → X' z0) : w_Model_outcome this a1 a2 a3 Q X M → w_Model_outcome this a1 a2 a3 Q' X' M := by
  unfold w_Model_outcome
  exact (mf_w_Model_isTrial (fun r2 M1 f1 => (mf_ite (hQ _ _ (K6.trans (K6.rf M) (K6.fr f1 rfl))) (mf_ite (hQ _ _ (K6.trans (K6.rf M) (K6.fr f1 rfl))) (mf_ite (hQ _ _ (K6.trans (K6.rf M) (K6.fr f1 rfl))) (mf_ite (hQ _ _ (K6.trans (K6.rf M) (K6.fr f1 rfl))) (mf_ite (mf_w_Model_draftTrial (fun M8 f2 => (m6_w_Model_tryDraft (fun M9 f3 => (mf_ite (hQ _ _ (K6.trans (K6.trans (K6.trans (K6.rf M) (K6.fr f1 rfl)) (K6.fr f2 rfl)) f3)) (hQ _ _ (K6.trans (K6.trans (K6.trans (K6.rf M) (K6.fr f1 rfl)) (K6.fr f2 rfl)) f3)))) (fun z5 f4 => hX z5 (K6.trans (K6.trans (K6.trans (K6.rf M) (K6.fr f1 rfl)) (K6.fr f2 rfl)) f4))))) (hQ _ _ (K6.trans (K6.rf M) (K6.fr f1 rfl))))))))))
set_option maxRecDepth 20000 in
theorem m6_w_Model_look_j114 {this : Nat} {Q Q' : Mem → Prop} {X X' : Mem → Prop} {k68 k68' : Int32 → Int32 → Int32 → Int32 → Mem → Prop} {v1 : Int32} {v2 : Int32} {v3 : Int32} {v4 : Int32} {s0 : Int32} {s1 : Int32} {s2 : Int32} {M : Mem} {M0 : Mem} (hQ : ∀ z0, K6 this M0 z0 → Q z0 → Q' z0) (hX : ∀ z0, K6 this M0 z0 → X z0 → X' z0) (hk68 : ∀ z0 z1 z2 z3 z4, K6 this M0 z4 → k68 z0 z1 z2 z3 z4 → k68' z0 z1 z2 z3 z4) : K6 this M0 M → w_Model_look_j114 this Q X k68 v1 v2 v3 v4 s0 s1 s2 M → w_Model_look_j114 this Q' X' k68' v1 v2 v3 v4 s0 s1 s2 M := by
  intro hf
  unfold w_Model_look_j114
  exact (mf_and fun _ => (hk68 _ _ _ _ _ (K6.wI0 rfl hf)))
set_option maxRecDepth 20000 in
theorem m6_w_Model_look_j106 {this : Nat} {Q Q' : Mem → Prop} {X X' : Mem → Prop} {k68 k68' : Int32 → Int32 → Int32 → Int32 → Mem → Prop} {v1 : Int32} {v2 : Int32} {v3 : Int32} {v4 : Int32} {s0 : Int32} {s1 : Int32} {M : Mem} {M0 : Mem} (hQ : ∀ z0, K6 this M0 z0 → Q z0 → Q' z0) (hX : ∀ z0, K6 this M0 z0 → X z0 → X' z0) (hk68 : ∀ z0 z1 z2 z3 z4, K6 this M0 z4 → k68 z0 z1 z2 z3 z4 → k68' z0 z1 z2 z3 z4) : K6 this M0 M → w_Model_look_j106 this Q X k68 v1 v2 v3 v4 s0 s1 M → w_Model_look_j106 this Q' X' k68' v1 v2 v3 v4 s0 s1 M := by
  intro hf
  unfold w_Model_look_j106
  exact (m6_w_Model_look_j114 hQ hX hk68 hf)
set_option maxRecDepth 20000 in
theorem m6_w_Model_look_L68 {this : Nat} {Q Q' : Mem → Prop} {X X' : Mem → Prop} {M0 : Mem} (hQ : ∀ z0, K6 this M0 z0 → Q z0 → Q' z0) (hX : ∀ z0, K6 this M0 z0 → X z0 → X' z0) : ∀ (n : Nat) (v1 : Int32) (v2 : Int32) (v3 : Int32) (v4 : Int32) (M : Mem), K6 this M0 M → w_Model_look_L68 this Q X n v1 v2 v3 v4 M → w_Model_look_L68 this Q' X' n v1 v2 v3 v4 M
  | 0, _, _, _, _, _ => fun _ h => h
  | n + 1, v1, v2, v3, v4, M => fun hf => by
    unfold w_Model_look_L68
    exact (mf_ite (mf_and fun _ => (hQ _ (K6.wI0 rfl hf))) (m6_w_Model_tryDraft (fun M11 f1 => (mf_and fun _ => (mf_ite (mf_ite (m6_w_Model_look_j114 hQ hX (m6_w_Model_look_L68 hQ hX n) (K6.trans hf f1)) (m6_w_Model_look_j106 hQ hX (m6_w_Model_look_L68 hQ hX n) (K6.trans hf f1))) (m6_w_Model_look_j106 hQ hX (m6_w_Model_look_L68 hQ hX n) (K6.trans hf f1))))) (fun z3 f2 => hX z3 (K6.trans hf f2))))
set_option maxRecDepth 20000 in
theorem m6_w_Model_look_j57 {this : Nat} {Q Q' : Mem → Prop} {X X' : Mem → Prop} {v1 : Int32} {v2 : Int32} {v3 : Int32} {s0 : Int32} {s1 : Int32} {M : Mem} {M0 : Mem} (hQ : ∀ z0, K6 this M0 z0 → Q z0 → Q' z0) (hX : ∀ z0, K6 this M0 z0 → X z0 → X' z0) : K6 this M0 M → w_Model_look_j57 this Q X v1 v2 v3 s0 s1 M → w_Model_look_j57 this Q' X' v1 v2 v3 s0 s1 M := by
  intro hf
  unfold w_Model_look_j57
  exact (mf_and fun _ => (mf_and fun _ => (Exists.imp fun M8 => (mf_and fun e1 => (Exists.imp fun n16 => (m6_w_Model_look_L68 hQ hX _ _ _ _ _ _ (K6.of e1 (K6.wI0 rfl (K6.wI0 rfl hf)))))))))
set_option maxRecDepth 20000 in
theorem m6_w_Model_look {this : Nat} {a1 : Int32} {Q Q' : Mem → Prop} {X X' : Mem → Prop} {M : Mem} (hQ : ∀ z0, K6 this M z0 → Q z0 → Q' z0) (hX : ∀ z0, K6 this M z0 → X z0 → X' z0) : w_Model_look this a1 Q X M → w_Model_look this a1 Q' X' M := by
  unfold w_Model_look
  exact (mf_and fun _ => (mf_ite (mf_w_Model_draftTrial (fun M3 f1 => (m6_w_Model_tryDraft (fun M4 f2 => (mf_ite (m6_w_Model_look_j57 hQ hX (K6.trans (K6.trans (K6.rf M) (K6.fr f1 rfl)) f2)) (mf_ite (mf_and fun _ => (m6_w_Model_look_j57 hQ hX (K6.trans (K6.trans (K6.rf M) (K6.fr f1 rfl)) f2))) (m6_w_Model_look_j57 hQ hX (K6.trans (K6.trans (K6.rf M) (K6.fr f1 rfl)) f2))))) (fun z4 f3 => hX z4 (K6.trans (K6.trans (K6.rf M) (K6.fr f1 rfl)) f3))))) (hQ _ (K6.rf M))))
set_option maxRecDepth 20000 in
theorem m6_w_Model_meets {this : Nat} {a1 : Int32} {Q Q' : Int32 → Mem → Prop} {X X' : Mem → Prop} {M : Mem} (hQ : ∀ z0 z1, K6 this M z1 → Q z0 z1 → Q' z0 z1) (hX : ∀ z0, K6 this M z0 → X z0 → X' z0) : w_Model_meets this a1 Q X M → w_Model_meets this a1 Q' X' M := by
  unfold w_Model_meets
  exact (mf_w_Model_isTrial (fun r2 M1 f1 => (mf_ite (hQ _ _ (K6.trans (K6.rf M) (K6.fr f1 rfl))) (m6_w_Model_look (fun M4 f2 => (mf_and fun _ => (hQ _ _ (K6.trans (K6.trans (K6.rf M) (K6.fr f1 rfl)) f2)))) (fun z4 f3 => hX z4 (K6.trans (K6.trans (K6.rf M) (K6.fr f1 rfl)) f3))))))
set_option maxRecDepth 20000 in
theorem m6_w_Model_finds {this : Nat} {a1 : Int32} {a2 : Int32} {Q Q' : Int32 → Mem → Prop} {X X' : Mem → Prop} {M : Mem} (hQ : ∀ z0 z1, K6 this M z1 → Q z0 z1 → Q' z0 z1) (hX : ∀ z0, K6 this M z0 → X z0 → X' z0) : w_Model_finds this a1 a2 Q X M → w_Model_finds this a1 a2 Q' X' M := by
  unfold w_Model_finds
  exact (mf_w_Model_isTrial (fun r2 M1 f1 => (mf_ite (hQ _ _ (K6.trans (K6.rf M) (K6.fr f1 rfl))) (mf_ite (hQ _ _ (K6.trans (K6.rf M) (K6.fr f1 rfl))) (mf_ite (mf_w_Model_draftTrial (fun M6 f2 => (m6_w_Model_tryDraft (fun M7 f3 => (m6_w_Model_tryDraft (fun M8 f4 => (mf_ite (mf_ite (hQ _ _ (K6.trans (K6.trans (K6.trans (K6.trans (K6.rf M) (K6.fr f1 rfl)) (K6.fr f2 rfl)) f3) f4)) (hQ _ _ (K6.trans (K6.trans (K6.trans (K6.trans (K6.rf M) (K6.fr f1 rfl)) (K6.fr f2 rfl)) f3) f4))) (hQ _ _ (K6.trans (K6.trans (K6.trans (K6.trans (K6.rf M) (K6.fr f1 rfl)) (K6.fr f2 rfl)) f3) f4)))) (fun z6 f5 => hX z6 (K6.trans (K6.trans (K6.trans (K6.trans (K6.rf M) (K6.fr f1 rfl)) (K6.fr f2 rfl)) f3) f5)))) (fun z8 f7 => hX z8 (K6.trans (K6.trans (K6.trans (K6.rf M) (K6.fr f1 rfl)) (K6.fr f2 rfl)) f7))))) (hQ _ _ (K6.trans (K6.rf M) (K6.fr f1 rfl))))))))
set_option maxRecDepth 20000 in
theorem m6_w_Model_hole_j87 {this : Nat} {Q Q' : Int32 → Mem → Prop} {X X' : Mem → Prop} {k50 k50' : Int64 → Int32 → Int32 → Mem → Prop} {v2 : Int64} {v4 : Int32} {v5 : Int32} {M : Mem} {M0 : Mem} (hQ : ∀ z0 z1, K6 this M0 z1 → Q z0 z1 → Q' z0 z1) (hX : ∀ z0, K6 this M0 z0 → X z0 → X' z0) (hk50 : ∀ z0 z1 z2 z3, K6 this M0 z3 → k50 z0 z1 z2 z3 → k50' z0 z1 z2 z3) : K6 this M0 M → w_Model_hole_j87 this Q X k50 v2 v4 v5 M → w_Model_hole_j87 this Q' X' k50' v2 v4 v5 M := by
  intro hf
  unfold w_Model_hole_j87
  exact (hk50 _ _ _ _ hf)
set_option maxRecDepth 20000 in
theorem m6_w_Model_hole_L50 {this : Nat} {Q Q' : Int32 → Mem → Prop} {X X' : Mem → Prop} {M0 : Mem} (hQ : ∀ z0 z1, K6 this M0 z1 → Q z0 z1 → Q' z0 z1) (hX : ∀ z0, K6 this M0 z0 → X z0 → X' z0) : ∀ (n : Nat) (v2 : Int64) (v4 : Int32) (v5 : Int32) (M : Mem), K6 this M0 M → w_Model_hole_L50 this Q X n v2 v4 v5 M → w_Model_hole_L50 this Q' X' n v2 v4 v5 M
  | 0, _, _, _, _ => fun _ h => h
  | n + 1, v2, v4, v5, M => fun hf => by
    unfold w_Model_hole_L50
    exact (mf_ite (hQ _ _ hf) (mf_w_Model_isRule (fun r5 M4 f1 => (mf_ite (m6_w_Model_hole_j87 hQ hX (m6_w_Model_hole_L50 hQ hX n) (K6.trans hf (K6.fr f1 rfl))) (mf_ite (mf_ite (hQ _ _ (K6.trans hf (K6.fr f1 rfl))) (m6_w_Model_hole_j87 hQ hX (m6_w_Model_hole_L50 hQ hX n) (K6.trans hf (K6.fr f1 rfl)))) (m6_w_Model_hole_j87 hQ hX (m6_w_Model_hole_L50 hQ hX n) (K6.trans hf (K6.fr f1 rfl))))))))
set_option maxRecDepth 20000 in
theorem m6_w_Model_hole_L11 {this : Nat} {Q Q' : Int32 → Mem → Prop} {X X' : Mem → Prop} {M0 : Mem} (hQ : ∀ z0 z1, K6 this M0 z1 → Q z0 z1 → Q' z0 z1) (hX : ∀ z0, K6 this M0 z0 → X z0 → X' z0) : ∀ (n : Nat) (v1 : Int32) (v2 : Int64) (v4 : Int32) (M : Mem), K6 this M0 M → w_Model_hole_L11 this Q X n v1 v2 v4 M → w_Model_hole_L11 this Q' X' n v1 v2 v4 M
  | 0, _, _, _, _ => fun _ h => h
  | n + 1, v1, v2, v4, M => fun hf => by
    unfold w_Model_hole_L11
    exact (mf_ite (Exists.imp fun n9 => (m6_w_Model_hole_L50 hQ hX _ _ _ _ _ hf)) (m6_w_Model_look (fun M10 f1 => (mf_and fun _ => (Exists.imp fun x12 => (mf_and fun _ => (m6_w_Model_hole_L11 hQ hX _ _ _ _ _ (K6.trans hf f1)))))) (fun z3 f2 => hX z3 (K6.trans hf f2))))
set_option maxRecDepth 20000 in
theorem m6_w_Model_hole {this : Nat} {a1 : Int32} {Q Q' : Int32 → Mem → Prop} {X X' : Mem → Prop} {M : Mem} (hQ : ∀ z0 z1, K6 this M z1 → Q z0 z1 → Q' z0 z1) (hX : ∀ z0, K6 this M z0 → X z0 → X' z0) : w_Model_hole this a1 Q X M → w_Model_hole this a1 Q' X' M := by
  unfold w_Model_hole
  exact (mf_ite (Exists.imp fun n13 => (m6_w_Model_hole_L11 hQ hX _ _ _ _ _ (K6.rf M))) (hQ _ _ (K6.rf M)))
set_option maxRecDepth 20000 in
theorem m6_w_Model_least_j187 {this : Nat} {Q Q' : Int32 → Mem → Prop} {X X' : Mem → Prop} {k45 k45' : Int64 → Int64 → Int32 → Mem → Prop} {v1 : Int64} {v3 : Int64} {v5 : Int32} {M : Mem} {M0 : Mem} (hQ : ∀ z0 z1, K6 this M0 z1 → Q z0 z1 → Q' z0 z1) (hX : ∀ z0, K6 this M0 z0 → X z0 → X' z0) (hk45 : ∀ z0 z1 z2 z3, K6 this M0 z3 → k45 z0 z1 z2 z3 → k45' z0 z1 z2 z3) : K6 this M0 M → w_Model_least_j187 this Q X k45 v1 v3 v5 M → w_Model_least_j187 this Q' X' k45' v1 v3 v5 M := by
  intro hf
  unfold w_Model_least_j187
  exact (hk45 _ _ _ _ hf)
set_option maxRecDepth 20000 in
theorem m6_w_Model_least_L78 {this : Nat} {Q Q' : Int32 → Mem → Prop} {X X' : Mem → Prop} {k45 k45' : Int64 → Int64 → Int32 → Mem → Prop} {M0 : Mem} (hQ : ∀ z0 z1, K6 this M0 z1 → Q z0 z1 → Q' z0 z1) (hX : ∀ z0, K6 this M0 z0 → X z0 → X' z0) (hk45 : ∀ z0 z1 z2 z3, K6 this M0 z3 → k45 z0 z1 z2 z3 → k45' z0 z1 z2 z3) : ∀ (n : Nat) (v1 : Int64) (v3 : Int64) (v5 : Int32) (v6 : Int32) (M : Mem), K6 this M0 M → w_Model_least_L78 this Q X k45 n v1 v3 v5 v6 M → w_Model_least_L78 this Q' X' k45' n v1 v3 v5 v6 M
  | 0, _, _, _, _, _ => fun _ h => h
  | n + 1, v1, v3, v5, v6, M => fun hf => by
    unfold w_Model_least_L78
    exact (mf_ite (m6_w_Model_least_j187 hQ hX hk45 (K6.wI0 rfl hf)) (mf_and fun _ => (mf_and fun _ => (mf_and fun _ => (mf_and fun _ => (mf_and fun _ => (mf_and fun _ => (Exists.imp fun M15 => (mf_and fun e1 => (mf_and fun _ => (mf_and fun _ => (Exists.imp fun M23 => (mf_and fun e2 => (mf_and fun _ => (mf_and fun _ => (Exists.imp fun M26 => (mf_and fun e3 => (mf_and fun _ => (mf_and fun _ => (Exists.imp fun M29 => (mf_and fun e4 => (m6_w_Model_least_L78 hQ hX hk45 _ _ _ _ _ _ (K6.of e4 (K6.wI0 rfl (K6.of e3 (K6.wI0 rfl (K6.of e2 (K6.wI0 rfl (K6.of e1 (K6.wc0 rfl hf))))))))))))))))))))))))))))))
set_option maxRecDepth 20000 in
theorem m6_w_Model_least_L45 {this : Nat} {Q Q' : Int32 → Mem → Prop} {X X' : Mem → Prop} {M0 : Mem} (hQ : ∀ z0 z1, K6 this M0 z1 → Q z0 z1 → Q' z0 z1) (hX : ∀ z0, K6 this M0 z0 → X z0 → X' z0) : ∀ (n : Nat) (v1 : Int64) (v3 : Int64) (v5 : Int32) (M : Mem), K6 this M0 M → w_Model_least_L45 this Q X n v1 v3 v5 M → w_Model_least_L45 this Q' X' n v1 v3 v5 M
  | 0, _, _, _, _ => fun _ h => h
  | n + 1, v1, v3, v5, M => fun hf => by
    unfold w_Model_least_L45
    exact (mf_ite (hQ _ _ hf) (mf_w_Model_together (fun r8 M7 f1 => (mf_ite (mf_w_Model_together (fun r11 M10 f2 => (mf_ite (Exists.imp fun n30 => (m6_w_Model_least_L78 hQ hX (m6_w_Model_least_L45 hQ hX n) _ _ _ _ _ _ (K6.trans (K6.trans hf (K6.fr f1 rfl)) (K6.fr f2 rfl)))) (m6_w_Model_least_j187 hQ hX (m6_w_Model_least_L45 hQ hX n) (K6.trans (K6.trans hf (K6.fr f1 rfl)) (K6.fr f2 rfl)))))) (m6_w_Model_least_j187 hQ hX (m6_w_Model_least_L45 hQ hX n) (K6.trans hf (K6.fr f1 rfl)))))))
set_option maxRecDepth 20000 in
theorem m6_w_Model_least_L2 {this : Nat} {Q Q' : Int32 → Mem → Prop} {X X' : Mem → Prop} {M0 : Mem} (hQ : ∀ z0 z1, K6 this M0 z1 → Q z0 z1 → Q' z0 z1) (hX : ∀ z0, K6 this M0 z0 → X z0 → X' z0) : ∀ (n : Nat) (v1 : Int32) (M : Mem), K6 this M0 M → w_Model_least_L2 this Q X n v1 M → w_Model_least_L2 this Q' X' n v1 M
  | 0, _, _ => fun _ h => h
  | n + 1, v1, M => fun hf => by
    unfold w_Model_least_L2
    exact (mf_ite (mf_w_Model_together (fun r3 M2 f1 => (mf_w_Model_together (fun r5 M4 f2 => (Exists.imp fun n31 => (m6_w_Model_least_L45 hQ hX _ _ _ _ _ (K6.trans (K6.trans hf (K6.fr f1 rfl)) (K6.fr f2 rfl)))))))) (m6_w_Model_look (fun M32 f3 => (m6_w_Model_least_L2 hQ hX _ _ _ (K6.trans hf f3))) (fun z5 f4 => hX z5 (K6.trans hf f4))))
set_option maxRecDepth 20000 in
theorem m6_w_Model_least {this : Nat} {Q Q' : Int32 → Mem → Prop} {X X' : Mem → Prop} {M : Mem} (hQ : ∀ z0 z1, K6 this M z1 → Q z0 z1 → Q' z0 z1) (hX : ∀ z0, K6 this M z0 → X z0 → X' z0) : w_Model_least this Q X M → w_Model_least this Q' X' M := by
  unfold w_Model_least
  exact (Exists.imp fun n33 => (m6_w_Model_least_L2 hQ hX _ _ _ (K6.rf M)))
set_option maxRecDepth 20000 in
theorem m6_w_Model_fewest_j214 {this : Nat} {Q Q' : Int32 → Mem → Prop} {X X' : Mem → Prop} {k64 k64' : Int32 → Int32 → Mem → Prop} {v1 : Int32} {v2 : Int32} {M : Mem} {M0 : Mem} (hQ : ∀ z0 z1, K6 this M0 z1 → Q z0 z1 → Q' z0 z1) (hX : ∀ z0, K6 this M0 z0 → X z0 → X' z0) (hk64 : ∀ z0 z1 z2, K6 this M0 z2 → k64 z0 z1 z2 → k64' z0 z1 z2) : K6 this M0 M → w_Model_fewest_j214 this Q X k64 v1 v2 M → w_Model_fewest_j214 this Q' X' k64' v1 v2 M := by
  intro hf
  unfold w_Model_fewest_j214
  exact (hk64 _ _ _ hf)
set_option maxRecDepth 20000 in
theorem m6_w_Model_fewest_j207 {this : Nat} {Q Q' : Int32 → Mem → Prop} {X X' : Mem → Prop} {k64 k64' : Int32 → Int32 → Mem → Prop} {k158 k158' : Int32 → Int32 → Int32 → Int32 → Mem → Prop} {v1 : Int32} {v2 : Int32} {v3 : Int32} {v4 : Int32} {s0 : Int32} {s1 : Int32} {M : Mem} {M0 : Mem} (hQ : ∀ z0 z1, K6 this M0 z1 → Q z0 z1 → Q' z0 z1) (hX : ∀ z0, K6 this M0 z0 → X z0 → X' z0) (hk64 : ∀ z0 z1 z2, K6 this M0 z2 → k64 z0 z1 z2 → k64' z0 z1 z2) (hk158 : ∀ z0 z1 z2 z3 z4, K6 this M0 z4 → k158 z0 z1 z2 z3 z4 → k158' z0 z1 z2 z3 z4) : K6 this M0 M → w_Model_fewest_j207 this Q X k64 k158 v1 v2 v3 v4 s0 s1 M → w_Model_fewest_j207 this Q' X' k64' k158' v1 v2 v3 v4 s0 s1 M := by
  intro hf
  unfold w_Model_fewest_j207
  exact (mf_and fun _ => (hk158 _ _ _ _ _ (K6.wI0 rfl hf)))
set_option maxRecDepth 20000 in
theorem m6_w_Model_fewest_L158 {this : Nat} {Q Q' : Int32 → Mem → Prop} {X X' : Mem → Prop} {k64 k64' : Int32 → Int32 → Mem → Prop} {M0 : Mem} (hQ : ∀ z0 z1, K6 this M0 z1 → Q z0 z1 → Q' z0 z1) (hX : ∀ z0, K6 this M0 z0 → X z0 → X' z0) (hk64 : ∀ z0 z1 z2, K6 this M0 z2 → k64 z0 z1 z2 → k64' z0 z1 z2) : ∀ (n : Nat) (v1 : Int32) (v2 : Int32) (v3 : Int32) (v4 : Int32) (M : Mem), K6 this M0 M → w_Model_fewest_L158 this Q X k64 n v1 v2 v3 v4 M → w_Model_fewest_L158 this Q' X' k64' n v1 v2 v3 v4 M
  | 0, _, _, _, _, _ => fun _ h => h
  | n + 1, v1, v2, v3, v4, M => fun hf => by
    unfold w_Model_fewest_L158
    exact (mf_ite (m6_w_Model_fewest_j214 hQ hX hk64 hf) (mf_ite (m6_w_Model_fewest_j214 hQ hX hk64 hf) (mf_ite (mf_and fun _ => (mf_and fun _ => (mf_w_JMath_min (fun r15 M14 f1 => (m6_w_Model_fewest_j207 hQ hX hk64 (m6_w_Model_fewest_L158 hQ hX hk64 n) (K6.trans hf (K6.fr f1 rfl))))))) (mf_and fun _ => (m6_w_Model_fewest_j207 hQ hX hk64 (m6_w_Model_fewest_L158 hQ hX hk64 n) hf)))))
set_option maxRecDepth 20000 in
theorem m6_w_Model_fewest_j149 {this : Nat} {Q Q' : Int32 → Mem → Prop} {X X' : Mem → Prop} {k64 k64' : Int32 → Int32 → Mem → Prop} {k116 k116' : Int32 → Int32 → Int32 → Int32 → Mem → Prop} {v1 : Int32} {v2 : Int32} {v3 : Int32} {v4 : Int32} {M : Mem} {M0 : Mem} (hQ : ∀ z0 z1, K6 this M0 z1 → Q z0 z1 → Q' z0 z1) (hX : ∀ z0, K6 this M0 z0 → X z0 → X' z0) (hk64 : ∀ z0 z1 z2, K6 this M0 z2 → k64 z0 z1 z2 → k64' z0 z1 z2) (hk116 : ∀ z0 z1 z2 z3 z4, K6 this M0 z4 → k116 z0 z1 z2 z3 z4 → k116' z0 z1 z2 z3 z4) : K6 this M0 M → w_Model_fewest_j149 this Q X k64 k116 v1 v2 v3 v4 M → w_Model_fewest_j149 this Q' X' k64' k116' v1 v2 v3 v4 M := by
  intro hf
  unfold w_Model_fewest_j149
  exact (hk116 _ _ _ _ _ hf)
set_option maxRecDepth 20000 in
theorem m6_w_Model_fewest_L116 {this : Nat} {Q Q' : Int32 → Mem → Prop} {X X' : Mem → Prop} {k64 k64' : Int32 → Int32 → Mem → Prop} {M0 : Mem} (hQ : ∀ z0 z1, K6 this M0 z1 → Q z0 z1 → Q' z0 z1) (hX : ∀ z0, K6 this M0 z0 → X z0 → X' z0) (hk64 : ∀ z0 z1 z2, K6 this M0 z2 → k64 z0 z1 z2 → k64' z0 z1 z2) : ∀ (n : Nat) (v1 : Int32) (v2 : Int32) (v3 : Int32) (v4 : Int32) (M : Mem), K6 this M0 M → w_Model_fewest_L116 this Q X k64 n v1 v2 v3 v4 M → w_Model_fewest_L116 this Q' X' k64' n v1 v2 v3 v4 M
  | 0, _, _, _, _, _ => fun _ h => h
  | n + 1, v1, v2, v3, v4, M => fun hf => by
    unfold w_Model_fewest_L116
    exact (mf_ite (Exists.imp fun n18 => (m6_w_Model_fewest_L158 hQ hX hk64 _ _ _ _ _ _ hf)) (mf_and fun _ => (mf_ite (mf_and fun _ => (mf_w_Model_addTrial (fun M22 f1 => (m6_w_Model_fewest_j149 hQ hX hk64 (m6_w_Model_fewest_L116 hQ hX hk64 n) (K6.trans hf (K6.fr f1 rfl)))))) (m6_w_Model_fewest_j149 hQ hX hk64 (m6_w_Model_fewest_L116 hQ hX hk64 n) hf))))
set_option maxRecDepth 20000 in
theorem m6_w_Model_fewest_L75 {this : Nat} {Q Q' : Int32 → Mem → Prop} {X X' : Mem → Prop} {k64 k64' : Int32 → Int32 → Mem → Prop} {M0 : Mem} (hQ : ∀ z0 z1, K6 this M0 z1 → Q z0 z1 → Q' z0 z1) (hX : ∀ z0, K6 this M0 z0 → X z0 → X' z0) (hk64 : ∀ z0 z1 z2, K6 this M0 z2 → k64 z0 z1 z2 → k64' z0 z1 z2) : ∀ (n : Nat) (v1 : Int32) (v2 : Int32) (v3 : Int32) (v4 : Int32) (M : Mem), K6 this M0 M → w_Model_fewest_L75 this Q X k64 n v1 v2 v3 v4 M → w_Model_fewest_L75 this Q' X' k64' n v1 v2 v3 v4 M
  | 0, _, _, _, _, _ => fun _ h => h
  | n + 1, v1, v2, v3, v4, M => fun hf => by
    unfold w_Model_fewest_L75
    exact (mf_ite (Exists.imp fun n23 => (m6_w_Model_fewest_L116 hQ hX hk64 _ _ _ _ _ _ hf)) (mf_and fun _ => (mf_and fun _ => (mf_and fun _ => (Exists.imp fun M27 => (mf_and fun e1 => (m6_w_Model_fewest_L75 hQ hX hk64 _ _ _ _ _ _ (K6.of e1 (K6.wI0 rfl (K6.wI0 rfl hf))))))))))
set_option maxRecDepth 20000 in
theorem m6_w_Model_fewest_L64 {this : Nat} {Q Q' : Int32 → Mem → Prop} {X X' : Mem → Prop} {M0 : Mem} (hQ : ∀ z0 z1, K6 this M0 z1 → Q z0 z1 → Q' z0 z1) (hX : ∀ z0, K6 this M0 z0 → X z0 → X' z0) : ∀ (n : Nat) (v1 : Int32) (v2 : Int32) (M : Mem), K6 this M0 M → w_Model_fewest_L64 this Q X n v1 v2 M → w_Model_fewest_L64 this Q' X' n v1 v2 M
  | 0, _, _, _ => fun _ h => h
  | n + 1, v1, v2, M => fun hf => by
    unfold w_Model_fewest_L64
    exact (mf_ite (mf_and fun _ => (hQ _ _ hf)) (Exists.imp fun n28 => (m6_w_Model_fewest_L75 hQ hX (m6_w_Model_fewest_L64 hQ hX n) _ _ _ _ _ _ hf)))
set_option maxRecDepth 20000 in
theorem m6_w_Model_fewest_j55 {this : Nat} {Q Q' : Int32 → Mem → Prop} {X X' : Mem → Prop} {k32 k32' : Int32 → Int32 → Mem → Prop} {v1 : Int32} {v2 : Int32} {s0 : Int32} {s1 : Int32} {M : Mem} {M0 : Mem} (hQ : ∀ z0 z1, K6 this M0 z1 → Q z0 z1 → Q' z0 z1) (hX : ∀ z0, K6 this M0 z0 → X z0 → X' z0) (hk32 : ∀ z0 z1 z2, K6 this M0 z2 → k32 z0 z1 z2 → k32' z0 z1 z2) : K6 this M0 M → w_Model_fewest_j55 this Q X k32 v1 v2 s0 s1 M → w_Model_fewest_j55 this Q' X' k32' v1 v2 s0 s1 M := by
  intro hf
  unfold w_Model_fewest_j55
  exact (mf_and fun _ => (hk32 _ _ _ (K6.wI0 rfl hf)))
set_option maxRecDepth 20000 in
theorem m6_w_Model_fewest_L32 {this : Nat} {Q Q' : Int32 → Mem → Prop} {X X' : Mem → Prop} {M0 : Mem} (hQ : ∀ z0 z1, K6 this M0 z1 → Q z0 z1 → Q' z0 z1) (hX : ∀ z0, K6 this M0 z0 → X z0 → X' z0) : ∀ (n : Nat) (v1 : Int32) (v2 : Int32) (M : Mem), K6 this M0 M → w_Model_fewest_L32 this Q X n v1 v2 M → w_Model_fewest_L32 this Q' X' n v1 v2 M
  | 0, _, _, _ => fun _ h => h
  | n + 1, v1, v2, M => fun hf => by
    unfold w_Model_fewest_L32
    exact (mf_ite (Exists.imp fun n29 => (m6_w_Model_fewest_L64 hQ hX _ _ _ _ hf)) (mf_ite (m6_w_Model_fewest_j55 hQ hX (m6_w_Model_fewest_L32 hQ hX n) hf) (m6_w_Model_fewest_j55 hQ hX (m6_w_Model_fewest_L32 hQ hX n) hf)))
set_option maxRecDepth 20000 in
theorem m6_w_Model_fewest_L2 {this : Nat} {Q Q' : Int32 → Mem → Prop} {X X' : Mem → Prop} {M0 : Mem} (hQ : ∀ z0 z1, K6 this M0 z1 → Q z0 z1 → Q' z0 z1) (hX : ∀ z0, K6 this M0 z0 → X z0 → X' z0) : ∀ (n : Nat) (v1 : Int32) (M : Mem), K6 this M0 M → w_Model_fewest_L2 this Q X n v1 M → w_Model_fewest_L2 this Q' X' n v1 M
  | 0, _, _ => fun _ h => h
  | n + 1, v1, M => fun hf => by
    unfold w_Model_fewest_L2
    exact (mf_ite (mf_w_Model_together (fun r3 M2 f1 => (Exists.imp fun n32 => (m6_w_Model_fewest_L32 hQ hX _ _ _ _ (K6.trans hf (K6.fr f1 rfl)))))) (m6_w_Model_look (fun M33 f2 => (m6_w_Model_fewest_L2 hQ hX _ _ _ (K6.trans hf f2))) (fun z4 f3 => hX z4 (K6.trans hf f3))))
set_option maxRecDepth 20000 in
theorem m6_w_Model_fewest {this : Nat} {Q Q' : Int32 → Mem → Prop} {X X' : Mem → Prop} {M : Mem} (hQ : ∀ z0 z1, K6 this M z1 → Q z0 z1 → Q' z0 z1) (hX : ∀ z0, K6 this M z0 → X z0 → X' z0) : w_Model_fewest this Q X M → w_Model_fewest this Q' X' M := by
  unfold w_Model_fewest
  exact (Exists.imp fun n34 => (m6_w_Model_fewest_L2 hQ hX _ _ _ (K6.rf M)))
set_option maxRecDepth 20000 in
theorem m6_w_Model_shrink_j215 {this : Nat} {Q Q' : Int32 → Mem → Prop} {X X' : Mem → Prop} {k68 k68' : Int32 → Int32 → Int32 → Int32 → Int32 → Int32 → Int32 → Mem → Prop} {v1 : Int32} {v2 : Int32} {v3 : Int32} {v4 : Int32} {v5 : Int32} {v6 : Int32} {v7 : Int32} {M : Mem} {M0 : Mem} (hQ : ∀ z0 z1, K6 this M0 z1 → Q z0 z1 → Q' z0 z1) (hX : ∀ z0, K6 this M0 z0 → X z0 → X' z0) (hk68 : ∀ z0 z1 z2 z3 z4 z5 z6 z7, K6 this M0 z7 → k68 z0 z1 z2 z3 z4 z5 z6 z7 → k68' z0 z1 z2 z3 z4 z5 z6 z7) : K6 this M0 M → w_Model_shrink_j215 this Q X k68 v1 v2 v3 v4 v5 v6 v7 M → w_Model_shrink_j215 this Q' X' k68' v1 v2 v3 v4 v5 v6 v7 M := by
  intro hf
  unfold w_Model_shrink_j215
  exact (hk68 _ _ _ _ _ _ _ _ hf)
set_option maxRecDepth 20000 in
theorem m6_w_Model_shrink_j179 {this : Nat} {Q Q' : Int32 → Mem → Prop} {X X' : Mem → Prop} {k68 k68' : Int32 → Int32 → Int32 → Int32 → Int32 → Int32 → Int32 → Mem → Prop} {v1 : Int32} {v2 : Int32} {v3 : Int32} {v4 : Int32} {v5 : Int32} {v6 : Int32} {v7 : Int32} {v9 : Int32} {M : Mem} {M0 : Mem} (hQ : ∀ z0 z1, K6 this M0 z1 → Q z0 z1 → Q' z0 z1) (hX : ∀ z0, K6 this M0 z0 → X z0 → X' z0) (hk68 : ∀ z0 z1 z2 z3 z4 z5 z6 z7, K6 this M0 z7 → k68 z0 z1 z2 z3 z4 z5 z6 z7 → k68' z0 z1 z2 z3 z4 z5 z6 z7) : K6 this M0 M → w_Model_shrink_j179 this Q X k68 v1 v2 v3 v4 v5 v6 v7 v9 M → w_Model_shrink_j179 this Q' X' k68' v1 v2 v3 v4 v5 v6 v7 v9 M := by
  intro hf
  unfold w_Model_shrink_j179
  exact (mf_ite (m6_w_Model_shrink_j215 hQ hX hk68 hf) (mf_and fun _ => (mf_and fun _ => (mf_and fun _ => (mf_and fun _ => (mf_and fun _ => (Exists.imp fun M23 => (mf_and fun e1 => (mf_and fun _ => (m6_w_Model_shrink_j215 hQ hX hk68 (K6.wI0 rfl (K6.of e1 (K6.wc0 rfl hf)))))))))))))
set_option maxRecDepth 20000 in
theorem m6_w_Model_shrink_j177 {this : Nat} {Q Q' : Int32 → Mem → Prop} {X X' : Mem → Prop} {k68 k68' : Int32 → Int32 → Int32 → Int32 → Int32 → Int32 → Int32 → Mem → Prop} {v1 : Int32} {v2 : Int32} {v3 : Int32} {v4 : Int32} {v5 : Int32} {v6 : Int32} {v7 : Int32} {s0 : Int32} {M : Mem} {M0 : Mem} (hQ : ∀ z0 z1, K6 this M0 z1 → Q z0 z1 → Q' z0 z1) (hX : ∀ z0, K6 this M0 z0 → X z0 → X' z0) (hk68 : ∀ z0 z1 z2 z3 z4 z5 z6 z7, K6 this M0 z7 → k68 z0 z1 z2 z3 z4 z5 z6 z7 → k68' z0 z1 z2 z3 z4 z5 z6 z7) : K6 this M0 M → w_Model_shrink_j177 this Q X k68 v1 v2 v3 v4 v5 v6 v7 s0 M → w_Model_shrink_j177 this Q' X' k68' v1 v2 v3 v4 v5 v6 v7 s0 M := by
  intro hf
  unfold w_Model_shrink_j177
  exact (m6_w_Model_shrink_j179 hQ hX hk68 hf)
set_option maxRecDepth 20000 in
theorem m6_w_Model_shrink_j176 {this : Nat} {Q Q' : Int32 → Mem → Prop} {X X' : Mem → Prop} {k68 k68' : Int32 → Int32 → Int32 → Int32 → Int32 → Int32 → Int32 → Mem → Prop} {v1 : Int32} {v2 : Int32} {v3 : Int32} {v4 : Int32} {v5 : Int32} {v6 : Int32} {v7 : Int32} {M : Mem} {M0 : Mem} (hQ : ∀ z0 z1, K6 this M0 z1 → Q z0 z1 → Q' z0 z1) (hX : ∀ z0, K6 this M0 z0 → X z0 → X' z0) (hk68 : ∀ z0 z1 z2 z3 z4 z5 z6 z7, K6 this M0 z7 → k68 z0 z1 z2 z3 z4 z5 z6 z7 → k68' z0 z1 z2 z3 z4 z5 z6 z7) : K6 this M0 M → w_Model_shrink_j176 this Q X k68 v1 v2 v3 v4 v5 v6 v7 M → w_Model_shrink_j176 this Q' X' k68' v1 v2 v3 v4 v5 v6 v7 M := by
  intro hf
  unfold w_Model_shrink_j176
  exact (m6_w_Model_shrink_j177 hQ hX hk68 hf)
set_option maxRecDepth 20000 in
theorem m6_w_Model_shrink_j142 {this : Nat} {Q Q' : Int32 → Mem → Prop} {X X' : Mem → Prop} {k68 k68' : Int32 → Int32 → Int32 → Int32 → Int32 → Int32 → Int32 → Mem → Prop} {v1 : Int32} {v2 : Int32} {v3 : Int32} {v4 : Int32} {v5 : Int32} {v6 : Int32} {v7 : Int32} {s0 : Int32} {M : Mem} {M0 : Mem} (hQ : ∀ z0 z1, K6 this M0 z1 → Q z0 z1 → Q' z0 z1) (hX : ∀ z0, K6 this M0 z0 → X z0 → X' z0) (hk68 : ∀ z0 z1 z2 z3 z4 z5 z6 z7, K6 this M0 z7 → k68 z0 z1 z2 z3 z4 z5 z6 z7 → k68' z0 z1 z2 z3 z4 z5 z6 z7) : K6 this M0 M → w_Model_shrink_j142 this Q X k68 v1 v2 v3 v4 v5 v6 v7 s0 M → w_Model_shrink_j142 this Q' X' k68' v1 v2 v3 v4 v5 v6 v7 s0 M := by
  intro hf
  unfold w_Model_shrink_j142
  exact (mf_ite (m6_w_Model_shrink_j179 hQ hX hk68 hf) (m6_w_Model_tryDraft (fun M30 f1 => (mf_ite (mf_ite (m6_w_Model_shrink_j177 hQ hX hk68 (K6.trans hf f1)) (m6_w_Model_shrink_j176 hQ hX hk68 (K6.trans hf f1))) (m6_w_Model_shrink_j176 hQ hX hk68 (K6.trans hf f1)))) (fun z3 f2 => hX z3 (K6.trans hf f2))))
set_option maxRecDepth 20000 in
theorem m6_w_Model_shrink_j141 {this : Nat} {Q Q' : Int32 → Mem → Prop} {X X' : Mem → Prop} {k68 k68' : Int32 → Int32 → Int32 → Int32 → Int32 → Int32 → Int32 → Mem → Prop} {v1 : Int32} {v2 : Int32} {v3 : Int32} {v4 : Int32} {v5 : Int32} {v6 : Int32} {v7 : Int32} {M : Mem} {M0 : Mem} (hQ : ∀ z0 z1, K6 this M0 z1 → Q z0 z1 → Q' z0 z1) (hX : ∀ z0, K6 this M0 z0 → X z0 → X' z0) (hk68 : ∀ z0 z1 z2 z3 z4 z5 z6 z7, K6 this M0 z7 → k68 z0 z1 z2 z3 z4 z5 z6 z7 → k68' z0 z1 z2 z3 z4 z5 z6 z7) : K6 this M0 M → w_Model_shrink_j141 this Q X k68 v1 v2 v3 v4 v5 v6 v7 M → w_Model_shrink_j141 this Q' X' k68' v1 v2 v3 v4 v5 v6 v7 M := by
  intro hf
  unfold w_Model_shrink_j141
  exact (m6_w_Model_shrink_j142 hQ hX hk68 hf)
set_option maxRecDepth 20000 in
theorem m6_w_Model_shrink_j109 {this : Nat} {Q Q' : Int32 → Mem → Prop} {X X' : Mem → Prop} {k68 k68' : Int32 → Int32 → Int32 → Int32 → Int32 → Int32 → Int32 → Mem → Prop} {k88 k88' : Int32 → Int32 → Int32 → Int32 → Int32 → Int32 → Int32 → Int32 → Int32 → Mem → Prop} {v1 : Int32} {v2 : Int32} {v3 : Int32} {v4 : Int32} {v5 : Int32} {v6 : Int32} {v7 : Int32} {v8 : Int32} {v9 : Int32} {M : Mem} {M0 : Mem} (hQ : ∀ z0 z1, K6 this M0 z1 → Q z0 z1 → Q' z0 z1) (hX : ∀ z0, K6 this M0 z0 → X z0 → X' z0) (hk68 : ∀ z0 z1 z2 z3 z4 z5 z6 z7, K6 this M0 z7 → k68 z0 z1 z2 z3 z4 z5 z6 z7 → k68' z0 z1 z2 z3 z4 z5 z6 z7) (hk88 : ∀ z0 z1 z2 z3 z4 z5 z6 z7 z8 z9, K6 this M0 z9 → k88 z0 z1 z2 z3 z4 z5 z6 z7 z8 z9 → k88' z0 z1 z2 z3 z4 z5 z6 z7 z8 z9) : K6 this M0 M → w_Model_shrink_j109 this Q X k68 k88 v1 v2 v3 v4 v5 v6 v7 v8 v9 M → w_Model_shrink_j109 this Q' X' k68' k88' v1 v2 v3 v4 v5 v6 v7 v8 v9 M := by
  intro hf
  unfold w_Model_shrink_j109
  exact (hk88 _ _ _ _ _ _ _ _ _ _ hf)
set_option maxRecDepth 20000 in
theorem m6_w_Model_shrink_L88 {this : Nat} {Q Q' : Int32 → Mem → Prop} {X X' : Mem → Prop} {k68 k68' : Int32 → Int32 → Int32 → Int32 → Int32 → Int32 → Int32 → Mem → Prop} {M0 : Mem} (hQ : ∀ z0 z1, K6 this M0 z1 → Q z0 z1 → Q' z0 z1) (hX : ∀ z0, K6 this M0 z0 → X z0 → X' z0) (hk68 : ∀ z0 z1 z2 z3 z4 z5 z6 z7, K6 this M0 z7 → k68 z0 z1 z2 z3 z4 z5 z6 z7 → k68' z0 z1 z2 z3 z4 z5 z6 z7) : ∀ (n : Nat) (v1 : Int32) (v2 : Int32) (v3 : Int32) (v4 : Int32) (v5 : Int32) (v6 : Int32) (v7 : Int32) (v8 : Int32) (v9 : Int32) (M : Mem), K6 this M0 M → w_Model_shrink_L88 this Q X k68 n v1 v2 v3 v4 v5 v6 v7 v8 v9 M → w_Model_shrink_L88 this Q' X' k68' n v1 v2 v3 v4 v5 v6 v7 v8 v9 M
  | 0, _, _, _, _, _, _, _, _, _, _ => fun _ h => h
  | n + 1, v1, v2, v3, v4, v5, v6, v7, v8, v9, M => fun hf => by
    unfold w_Model_shrink_L88
    exact (mf_ite (m6_w_Model_tryDraft (fun M18 f1 => (mf_ite (mf_ite (m6_w_Model_shrink_j142 hQ hX hk68 (K6.trans hf f1)) (m6_w_Model_shrink_j141 hQ hX hk68 (K6.trans hf f1))) (m6_w_Model_shrink_j141 hQ hX hk68 (K6.trans hf f1)))) (fun z3 f2 => hX z3 (K6.trans hf f2))) (mf_ite (m6_w_Model_shrink_j109 hQ hX hk68 (m6_w_Model_shrink_L88 hQ hX hk68 n) hf) (mf_w_Model_draftLine (fun M34 f4 => (m6_w_Model_shrink_j109 hQ hX hk68 (m6_w_Model_shrink_L88 hQ hX hk68 n) (K6.trans hf (K6.fr f4 rfl)))))))
set_option maxRecDepth 20000 in
theorem m6_w_Model_shrink_L68 {this : Nat} {Q Q' : Int32 → Mem → Prop} {X X' : Mem → Prop} {M0 : Mem} (hQ : ∀ z0 z1, K6 this M0 z1 → Q z0 z1 → Q' z0 z1) (hX : ∀ z0, K6 this M0 z0 → X z0 → X' z0) : ∀ (n : Nat) (v1 : Int32) (v2 : Int32) (v3 : Int32) (v4 : Int32) (v5 : Int32) (v6 : Int32) (v7 : Int32) (M : Mem), K6 this M0 M → w_Model_shrink_L68 this Q X n v1 v2 v3 v4 v5 v6 v7 M → w_Model_shrink_L68 this Q' X' n v1 v2 v3 v4 v5 v6 v7 M
  | 0, _, _, _, _, _, _, _, _ => fun _ h => h
  | n + 1, v1, v2, v3, v4, v5, v6, v7, M => fun hf => by
    unfold w_Model_shrink_L68
    exact (mf_ite (mf_and fun _ => (mf_w_Model_linesOf (fun r14 M13 f1 => (hQ _ _ (K6.trans (K6.wI0 rfl hf) (K6.fr f1 rfl)))))) (mf_w_Model_linesOf (fun r16 M15 f2 => (Exists.imp fun n35 => (m6_w_Model_shrink_L88 hQ hX (m6_w_Model_shrink_L68 hQ hX n) _ _ _ _ _ _ _ _ _ _ _ (K6.wI0 rfl (K6.trans hf (K6.fr f2 rfl))))))))
set_option maxRecDepth 20000 in
theorem m6_w_Model_shrink {this : Nat} {a1 : Int32} {a2 : Int32} {Q Q' : Int32 → Mem → Prop} {X X' : Mem → Prop} {M : Mem} (hQ : ∀ z0 z1, K6 this M z1 → Q z0 z1 → Q' z0 z1) (hX : ∀ z0, K6 this M z0 → X z0 → X' z0) : w_Model_shrink this a1 a2 Q X M → w_Model_shrink this a1 a2 Q' X' M := by
  unfold w_Model_shrink
  exact (mf_w_Model_isTrial (fun r2 M1 f1 => (mf_ite (hQ _ _ (K6.trans (K6.rf M) (K6.fr f1 rfl))) (mf_ite (hQ _ _ (K6.trans (K6.rf M) (K6.fr f1 rfl))) (mf_ite (mf_w_Model_draftTrial (fun M6 f2 => (m6_w_Model_tryDraft (fun M7 f3 => (m6_w_Model_tryDraft (fun M8 f4 => (mf_w_Model_linesOf (fun r10 M9 f5 => (Exists.imp fun n36 => (m6_w_Model_shrink_L68 hQ hX _ _ _ _ _ _ _ _ _ (K6.trans (K6.trans (K6.trans (K6.trans (K6.trans (K6.rf M) (K6.fr f1 rfl)) (K6.fr f2 rfl)) f3) f4) (K6.fr f5 rfl))))))) (fun z7 f6 => hX z7 (K6.trans (K6.trans (K6.trans (K6.trans (K6.rf M) (K6.fr f1 rfl)) (K6.fr f2 rfl)) f3) f6)))) (fun z9 f8 => hX z9 (K6.trans (K6.trans (K6.trans (K6.rf M) (K6.fr f1 rfl)) (K6.fr f2 rfl)) f8))))) (hQ _ _ (K6.trans (K6.rf M) (K6.fr f1 rfl))))))))
