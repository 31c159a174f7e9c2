/-! B: only the world at hand changes: printed by mi.py -/
def Fi (w : Nat) (M M' : Mem) : Prop := ∀ f i k, i ≠ w → mI M' f i k = mI M f i k ∧ mJ M' f i k = mJ M f i k ∧ mR M' f i k = mR M f i k
theorem Fi.rf (w : Nat) (M : Mem) : Fi w M M := fun _ _ _ _ => ⟨rfl, rfl, rfl⟩
theorem Fi.trans {w : Nat} {M M1 M2 : Mem} (h : Fi w M M1) (h1 : Fi w M1 M2) : Fi w M M2 := fun f i k e => ⟨(h1 f i k e).1.trans (h f i k e).1, (h1 f i k e).2.1.trans (h f i k e).2.1, (h1 f i k e).2.2.trans (h f i k e).2.2⟩
theorem Fi.of {w : Nat} {M M1 M2 : Mem} (e : M2 = M1) (h : Fi w M M1) : Fi w M M2 := e ▸ h
theorem Fi.wI {w : Nat} {M M1 : Mem} {f k : Nat} {v : Int32} (h : Fi w M M1) : Fi w M (sI M1 f w k v) := h.trans (fun g i j e => ⟨if_neg (fun q => e q.2.1), rfl, rfl⟩)
theorem Fi.wfl {w : Nat} {M M1 : Mem} {f : Nat} {v : Int32} (h : Fi w M M1) : Fi w M (flI M1 f w v) := h.trans (fun g i j e => ⟨if_neg (fun q => e q.2.1), rfl, rfl⟩)
set_option maxRecDepth 20000 in
theorem mi_w_World_find_L2 {this : Nat} {Q Q' : Int32 → Mem → Prop} {M0 : Mem} (hQ : ∀ z0 z1, Fi this M0 z1 → Q z0 z1 → Q' z0 z1) : ∀ (n : Nat) (v1 : Int32) (v2 : Int32) (M : Mem), Fi this M0 M → w_World_find_L2 this Q n v1 v2 M → w_World_find_L2 this Q' n v1 v2 M
  | 0, _, _, _ => fun _ h => h
  | n + 1, v1, v2, M => fun hf => by
    unfold w_World_find_L2
    exact (mf_ite (hQ _ _ hf) (mf_and fun _ => (mf_ite (hQ _ _ hf) (mi_w_World_find_L2 hQ _ _ _ _ hf))))
set_option maxRecDepth 20000 in
theorem mi_w_World_find {this : Nat} {a1 : Int32} {Q Q' : Int32 → Mem → Prop} {M : Mem} (hQ : ∀ z0 z1, Fi this M z1 → Q z0 z1 → Q' z0 z1) : w_World_find this a1 Q M → w_World_find this a1 Q' M := by
  unfold w_World_find
  exact (Exists.imp fun n4 => (mi_w_World_find_L2 hQ _ _ _ _ (Fi.rf _ M)))
set_option maxRecDepth 20000 in
theorem mi_w_World_isFace {this : Nat} {a1 : Int32} {Q Q' : Int32 → Mem → Prop} {M : Mem} (hQ : ∀ z0 z1, Fi this M z1 → Q z0 z1 → Q' z0 z1) : w_World_isFace this a1 Q M → w_World_isFace this a1 Q' M := by
  unfold w_World_isFace
  exact (mf_and fun _ => (mf_ite (hQ _ _ (Fi.rf _ M)) (hQ _ _ (Fi.rf _ M))))
set_option maxRecDepth 20000 in
theorem mi_w_World_sameArguments_j59 {this : Nat} {Q Q' : Int32 → Mem → Prop} {k21 k21' : Int32 → Nat → Int32 → Int32 → Int32 → Int32 → Mem → Prop} {v1 : Int32} {v2 : Nat} {v3 : Int32} {v4 : Int32} {v6 : Int32} {s0 : Int32} {M : Mem} {M0 : Mem} (hQ : ∀ z0 z1, Fi this M0 z1 → Q z0 z1 → Q' z0 z1) (hk21 : ∀ z0 z1 z2 z3 z4 z5 z6, Fi this M0 z6 → k21 z0 z1 z2 z3 z4 z5 z6 → k21' z0 z1 z2 z3 z4 z5 z6) : Fi this M0 M → w_World_sameArguments_j59 this Q k21 v1 v2 v3 v4 v6 s0 M → w_World_sameArguments_j59 this Q' k21' v1 v2 v3 v4 v6 s0 M := by
  intro hf
  unfold w_World_sameArguments_j59
  exact (hk21 _ _ _ _ _ _ _ hf)
set_option maxRecDepth 20000 in
theorem mi_w_World_sameArguments_L21 {this : Nat} {Q Q' : Int32 → Mem → Prop} {M0 : Mem} (hQ : ∀ z0 z1, Fi this M0 z1 → Q z0 z1 → Q' z0 z1) : ∀ (n : Nat) (v1 : Int32) (v2 : Nat) (v3 : Int32) (v4 : Int32) (v5 : Int32) (v6 : Int32) (M : Mem), Fi this M0 M → w_World_sameArguments_L21 this Q n v1 v2 v3 v4 v5 v6 M → w_World_sameArguments_L21 this Q' n v1 v2 v3 v4 v5 v6 M
  | 0, _, _, _, _, _, _, _ => fun _ h => h
  | n + 1, v1, v2, v3, v4, v5, v6, M => fun hf => by
    unfold w_World_sameArguments_L21
    exact (mf_ite (mf_and fun _ => (hQ _ _ hf)) (mf_ite (mf_and fun _ => (hQ _ _ hf)) (mf_and fun _ => (mf_and fun _ => (mf_ite (mi_w_World_sameArguments_j59 hQ (mi_w_World_sameArguments_L21 hQ n) hf) (mi_w_World_sameArguments_j59 hQ (mi_w_World_sameArguments_L21 hQ n) hf))))))
set_option maxRecDepth 20000 in
theorem mi_w_World_sameArguments_j16 {this : Nat} {Q Q' : Int32 → Mem → Prop} {v1 : Int32} {v2 : Nat} {v3 : Int32} {v4 : Int32} {s0 : Int32} {M : Mem} {M0 : Mem} (hQ : ∀ z0 z1, Fi this M0 z1 → Q z0 z1 → Q' z0 z1) : Fi this M0 M → w_World_sameArguments_j16 this Q v1 v2 v3 v4 s0 M → w_World_sameArguments_j16 this Q' v1 v2 v3 v4 s0 M := by
  intro hf
  unfold w_World_sameArguments_j16
  exact (Exists.imp fun n8 => (mi_w_World_sameArguments_L21 hQ _ _ _ _ _ _ _ _ hf))
set_option maxRecDepth 20000 in
theorem mi_w_World_sameArguments {this : Nat} {a1 : Int32} {a2 : Nat} {a3 : Int32} {a4 : Int32} {Q Q' : Int32 → Mem → Prop} {M : Mem} (hQ : ∀ z0 z1, Fi this M z1 → Q z0 z1 → Q' z0 z1) : w_World_sameArguments this a1 a2 a3 a4 Q M → w_World_sameArguments this a1 a2 a3 a4 Q' M := by
  unfold w_World_sameArguments
  exact (mf_and fun _ => (mf_ite (mi_w_World_sameArguments_j16 hQ (Fi.rf _ M)) (mi_w_World_sameArguments_j16 hQ (Fi.rf _ M))))
set_option maxRecDepth 20000 in
theorem mi_w_World_up {this : Nat} {a1 : Int32} {Q Q' : Int32 → Mem → Prop} {M : Mem} (hQ : ∀ z0 z1, Fi this M z1 → Q z0 z1 → Q' z0 z1) : w_World_up this a1 Q M → w_World_up this a1 Q' M := by
  unfold w_World_up
  exact (mf_ite (hQ _ _ (Fi.rf _ M)) (mi_w_World_isFace (fun r3 M2 f1 => (mf_ite (mf_and fun _ => (mi_w_World_find (fun r7 M6 f2 => (hQ _ _ (Fi.trans (Fi.trans (Fi.rf _ M) f1) f2))))) (hQ _ _ (Fi.trans (Fi.rf _ M) f1))))))
set_option maxRecDepth 20000 in
theorem mi_w_World_refType {this : Nat} {a1 : Int32} {Q Q' : Int32 → Mem → Prop} {M : Mem} (hQ : ∀ z0 z1, Fi this M z1 → Q z0 z1 → Q' z0 z1) : w_World_refType this a1 Q M → w_World_refType this a1 Q' M := by
  unfold w_World_refType
  exact (mf_and fun _ => (hQ _ _ (Fi.rf _ M)))
set_option maxRecDepth 20000 in
theorem mi_w_World_refArguments {this : Nat} {a1 : Int32} {Q Q' : Int32 → Mem → Prop} {M : Mem} (hQ : ∀ z0 z1, Fi this M z1 → Q z0 z1 → Q' z0 z1) : w_World_refArguments this a1 Q M → w_World_refArguments this a1 Q' M := by
  unfold w_World_refArguments
  exact (mf_and fun _ => (hQ _ _ (Fi.rf _ M)))
set_option maxRecDepth 20000 in
theorem mi_w_World_refName {this : Nat} {a1 : Int32} {Q Q' : Int32 → Mem → Prop} {M : Mem} (hQ : ∀ z0 z1, Fi this M z1 → Q z0 z1 → Q' z0 z1) : w_World_refName this a1 Q M → w_World_refName this a1 Q' M := by
  unfold w_World_refName
  exact (mf_and fun _ => (hQ _ _ (Fi.rf _ M)))
set_option maxRecDepth 20000 in
theorem mi_w_World_typesOf {this : Nat} {a1 : Int32} {Q Q' : Int32 → Mem → Prop} {M : Mem} (hQ : ∀ z0 z1, Fi this M z1 → Q z0 z1 → Q' z0 z1) : w_World_typesOf this a1 Q M → w_World_typesOf this a1 Q' M := by
  unfold w_World_typesOf
  exact (hQ _ _ (Fi.rf _ M))
set_option maxRecDepth 20000 in
theorem mi_w_World_isLike {this : Nat} {a1 : Int32} {a2 : Int32} {Q Q' : Int32 → Mem → Prop} {M : Mem} (hQ : ∀ z0 z1, Fi this M z1 → Q z0 z1 → Q' z0 z1) : w_World_isLike this a1 a2 Q M → w_World_isLike this a1 a2 Q' M := by
  unfold w_World_isLike
  exact (mf_and fun _ => (mi_w_World_refName (fun r3 M2 f1 => (mf_ite (mf_and fun _ => (mi_w_World_refType (fun r7 M6 f2 => (mf_ite (mi_w_World_typesOf (fun r10 M9 f3 => (mi_w_World_refArguments (fun r12 M11 f4 => (mi_w_World_sameArguments (fun r14 M13 f5 => (mf_ite (hQ _ _ (Fi.trans (Fi.trans (Fi.trans (Fi.trans (Fi.trans (Fi.rf _ M) f1) f2) f3) f4) f5)) (hQ _ _ (Fi.trans (Fi.trans (Fi.trans (Fi.trans (Fi.trans (Fi.rf _ M) f1) f2) f3) f4) f5))))))))) (hQ _ _ (Fi.trans (Fi.trans (Fi.rf _ M) f1) f2)))))) (hQ _ _ (Fi.trans (Fi.rf _ M) f1))))))
set_option maxRecDepth 20000 in
theorem mi_w_World_ownLike_j51 {this : Nat} {Q Q' : Int32 → Mem → Prop} {k8 k8' : Int32 → Int32 → Int32 → Int32 → Mem → Prop} {v1 : Int32} {v2 : Int32} {v3 : Int32} {v4 : Int32} {M : Mem} {M0 : Mem} (hQ : ∀ z0 z1, Fi this M0 z1 → Q z0 z1 → Q' z0 z1) (hk8 : ∀ z0 z1 z2 z3 z4, Fi this M0 z4 → k8 z0 z1 z2 z3 z4 → k8' z0 z1 z2 z3 z4) : Fi this M0 M → w_World_ownLike_j51 this Q k8 v1 v2 v3 v4 M → w_World_ownLike_j51 this Q' k8' v1 v2 v3 v4 M := by
  intro hf
  unfold w_World_ownLike_j51
  exact (hk8 _ _ _ _ _ hf)
set_option maxRecDepth 20000 in
theorem mi_w_World_ownLike_L8 {this : Nat} {Q Q' : Int32 → Mem → Prop} {M0 : Mem} (hQ : ∀ z0 z1, Fi this M0 z1 → Q z0 z1 → Q' z0 z1) : ∀ (n : Nat) (v1 : Int32) (v2 : Int32) (v3 : Int32) (v4 : Int32) (M : Mem), Fi this M0 M → w_World_ownLike_L8 this Q n v1 v2 v3 v4 M → w_World_ownLike_L8 this Q' n v1 v2 v3 v4 M
  | 0, _, _, _, _, _ => fun _ h => h
  | n + 1, v1, v2, v3, v4, M => fun hf => by
    unfold w_World_ownLike_L8
    exact (mf_and fun _ => (mf_and fun _ => (mf_ite (hQ _ _ hf) (mi_w_World_isLike (fun r6 M5 f1 => (mf_ite (mi_w_World_ownLike_j51 hQ (mi_w_World_ownLike_L8 hQ n) (Fi.trans hf f1)) (mf_and fun _ => (mf_ite (hQ _ _ (Fi.trans hf f1)) (mi_w_World_ownLike_j51 hQ (mi_w_World_ownLike_L8 hQ n) (Fi.trans hf f1))))))))))
set_option maxRecDepth 20000 in
theorem mi_w_World_ownLike {this : Nat} {a1 : Int32} {a2 : Int32} {a3 : Int32} {Q Q' : Int32 → Mem → Prop} {M : Mem} (hQ : ∀ z0 z1, Fi this M z1 → Q z0 z1 → Q' z0 z1) : w_World_ownLike this a1 a2 a3 Q M → w_World_ownLike this a1 a2 a3 Q' M := by
  unfold w_World_ownLike
  exact (mf_and fun _ => (Exists.imp fun n10 => (mi_w_World_ownLike_L8 hQ _ _ _ _ _ _ (Fi.rf _ M))))
set_option maxRecDepth 20000 in
theorem mi_w_World_nextStamp {this : Nat} {Q Q' : Mem → Prop} {M : Mem} (hQ : ∀ z0, Fi this M z0 → Q z0 → Q' z0) : w_World_nextStamp this Q M → w_World_nextStamp this Q' M := by
  unfold w_World_nextStamp
  exact (mf_ite (mf_and fun _ => (Exists.imp fun M2 => (mf_and fun e1 => (hQ _ (Fi.wI (Fi.of e1 (Fi.wfl (Fi.wI (Fi.rf _ M))))))))) (hQ _ (Fi.wI (Fi.rf _ M))))
set_option maxRecDepth 20000 in
theorem mi_wk_World_lookInFaces_j123 {K K' : Nat → Int32 → Int32 → Int32 → (Mem → Prop) → Mem → Prop} {this : Nat} {Q Q' : Mem → Prop} {k3 k3' : Int32 → Int32 → Int32 → Int32 → Mem → Prop} {v1 : Int32} {v2 : Int32} {v3 : Int32} {v4 : Int32} {M : Mem} {M0 : Mem} (hK : ∀ {x0 : Nat} {x1 : Int32} {x2 : Int32} {x3 : Int32} {x5 : Mem} {q q' : Mem → Prop}, (∀ z0, Fi x0 x5 z0 → q z0 → q' z0) → K x0 x1 x2 x3 q x5 → K' x0 x1 x2 x3 q' x5) (hQ : ∀ z0, Fi this M0 z0 → Q z0 → Q' z0) (hk3 : ∀ z0 z1 z2 z3 z4, Fi this M0 z4 → k3 z0 z1 z2 z3 z4 → k3' z0 z1 z2 z3 z4) : Fi this M0 M → wk_World_lookInFaces_j123 K this Q k3 v1 v2 v3 v4 M → wk_World_lookInFaces_j123 K' this Q' k3' v1 v2 v3 v4 M := by
  intro hf
  unfold wk_World_lookInFaces_j123
  exact (hk3 _ _ _ _ _ hf)
set_option maxRecDepth 20000 in
theorem mi_wk_World_lookInFaces_j115 {K K' : Nat → Int32 → Int32 → Int32 → (Mem → Prop) → Mem → Prop} {this : Nat} {Q Q' : Mem → Prop} {k3 k3' : Int32 → Int32 → Int32 → Int32 → Mem → Prop} {v1 : Int32} {v2 : Int32} {v3 : Int32} {v4 : Int32} {v5 : Int32} {M : Mem} {M0 : Mem} (hK : ∀ {x0 : Nat} {x1 : Int32} {x2 : Int32} {x3 : Int32} {x5 : Mem} {q q' : Mem → Prop}, (∀ z0, Fi x0 x5 z0 → q z0 → q' z0) → K x0 x1 x2 x3 q x5 → K' x0 x1 x2 x3 q' x5) (hQ : ∀ z0, Fi this M0 z0 → Q z0 → Q' z0) (hk3 : ∀ z0 z1 z2 z3 z4, Fi this M0 z4 → k3 z0 z1 z2 z3 z4 → k3' z0 z1 z2 z3 z4) : Fi this M0 M → wk_World_lookInFaces_j115 K this Q k3 v1 v2 v3 v4 v5 M → wk_World_lookInFaces_j115 K' this Q' k3' v1 v2 v3 v4 v5 M := by
  intro hf
  unfold wk_World_lookInFaces_j115
  exact (hK (fun M12 f1 => (mi_wk_World_lookInFaces_j123 @hK hQ hk3 (Fi.trans hf f1))))
set_option maxRecDepth 20000 in
theorem mi_wk_World_lookInFaces_j109 {K K' : Nat → Int32 → Int32 → Int32 → (Mem → Prop) → Mem → Prop} {this : Nat} {Q Q' : Mem → Prop} {k3 k3' : Int32 → Int32 → Int32 → Int32 → Mem → Prop} {v1 : Int32} {v2 : Int32} {v3 : Int32} {v4 : Int32} {v5 : Int32} {v6 : Int32} {M : Mem} {M0 : Mem} (hK : ∀ {x0 : Nat} {x1 : Int32} {x2 : Int32} {x3 : Int32} {x5 : Mem} {q q' : Mem → Prop}, (∀ z0, Fi x0 x5 z0 → q z0 → q' z0) → K x0 x1 x2 x3 q x5 → K' x0 x1 x2 x3 q' x5) (hQ : ∀ z0, Fi this M0 z0 → Q z0 → Q' z0) (hk3 : ∀ z0 z1 z2 z3 z4, Fi this M0 z4 → k3 z0 z1 z2 z3 z4 → k3' z0 z1 z2 z3 z4) : Fi this M0 M → wk_World_lookInFaces_j109 K this Q k3 v1 v2 v3 v4 v5 v6 M → wk_World_lookInFaces_j109 K' this Q' k3' v1 v2 v3 v4 v5 v6 M := by
  intro hf
  unfold wk_World_lookInFaces_j109
  exact (mi_wk_World_lookInFaces_j115 @hK hQ hk3 (Fi.wI hf))
set_option maxRecDepth 20000 in
theorem mi_wk_World_lookInFaces_L3 {K K' : Nat → Int32 → Int32 → Int32 → (Mem → Prop) → Mem → Prop} {this : Nat} {Q Q' : Mem → Prop} {M0 : Mem} (hK : ∀ {x0 : Nat} {x1 : Int32} {x2 : Int32} {x3 : Int32} {x5 : Mem} {q q' : Mem → Prop}, (∀ z0, Fi x0 x5 z0 → q z0 → q' z0) → K x0 x1 x2 x3 q x5 → K' x0 x1 x2 x3 q' x5) (hQ : ∀ z0, Fi this M0 z0 → Q z0 → Q' z0) : ∀ (n : Nat) (v1 : Int32) (v2 : Int32) (v3 : Int32) (v4 : Int32) (M : Mem), Fi this M0 M → wk_World_lookInFaces_L3 K this Q n v1 v2 v3 v4 M → wk_World_lookInFaces_L3 K' this Q' n v1 v2 v3 v4 M
  | 0, _, _, _, _, _ => fun _ h => h
  | n + 1, v1, v2, v3, v4, M => fun hf => by
    unfold wk_World_lookInFaces_L3
    exact (mf_and fun _ => (mf_ite (hQ _ hf) (mf_and fun _ => (mi_w_World_find (fun r5 M4 f1 => (mf_and fun _ => (mf_ite (mi_wk_World_lookInFaces_j123 @hK hQ (mi_wk_World_lookInFaces_L3 @hK hQ n) (Fi.trans hf f1)) (mf_and fun _ => (mi_w_World_ownLike (fun r10 M9 f2 => (mf_ite (mi_wk_World_lookInFaces_j115 @hK hQ (mi_wk_World_lookInFaces_L3 @hK hQ n) (Fi.trans (Fi.wI (Fi.trans hf f1)) f2)) (mf_ite (mi_wk_World_lookInFaces_j109 @hK hQ (mi_wk_World_lookInFaces_L3 @hK hQ n) (Fi.trans (Fi.wI (Fi.trans hf f1)) f2)) (mf_and fun _ => (mf_ite (mi_wk_World_lookInFaces_j115 @hK hQ (mi_wk_World_lookInFaces_L3 @hK hQ n) (Fi.trans (Fi.wI (Fi.trans hf f1)) f2)) (mf_and fun _ => (mf_ite (mi_wk_World_lookInFaces_j109 @hK hQ (mi_wk_World_lookInFaces_L3 @hK hQ n) (Fi.trans (Fi.wI (Fi.trans hf f1)) f2)) (mi_wk_World_lookInFaces_j115 @hK hQ (mi_wk_World_lookInFaces_L3 @hK hQ n) (Fi.trans (Fi.wI (Fi.trans hf f1)) f2))))))))))))))))))
set_option maxRecDepth 20000 in
theorem mi_wk_World_lookInFaces {K K' : Nat → Int32 → Int32 → Int32 → (Mem → Prop) → Mem → Prop} {this : Nat} {a1 : Int32} {a2 : Int32} {a3 : Int32} {Q Q' : Mem → Prop} {M : Mem} (hK : ∀ {x0 : Nat} {x1 : Int32} {x2 : Int32} {x3 : Int32} {x5 : Mem} {q q' : Mem → Prop}, (∀ z0, Fi x0 x5 z0 → q z0 → q' z0) → K x0 x1 x2 x3 q x5 → K' x0 x1 x2 x3 q' x5) (hQ : ∀ z0, Fi this M z0 → Q z0 → Q' z0) : wk_World_lookInFaces K this a1 a2 a3 Q M → wk_World_lookInFaces K' this a1 a2 a3 Q' M := by
  unfold wk_World_lookInFaces
  exact (Exists.imp fun n18 => (mi_wk_World_lookInFaces_L3 @hK hQ _ _ _ _ _ _ (Fi.rf _ M)))
set_option maxRecDepth 20000 in
theorem mi_wr_World_lookInFaces : ∀ (n : Nat) {x0 : Nat} {x1 : Int32} {x2 : Int32} {x3 : Int32} {x5 : Mem} {Q Q' : Mem → Prop}, (∀ z0, Fi x0 x5 z0 → Q z0 → Q' z0) → wr_World_lookInFaces n x0 x1 x2 x3 Q x5 → wr_World_lookInFaces n x0 x1 x2 x3 Q' x5
  | 0 => fun _ h => h
  | n + 1 => fun hq => mi_wk_World_lookInFaces (fun hq => mi_wr_World_lookInFaces n hq) hq
set_option maxRecDepth 20000 in
theorem mi_w_World_lookInFaces {this : Nat} {a1 : Int32} {a2 : Int32} {a3 : Int32} {Q Q' : Mem → Prop} {M : Mem} (hQ : ∀ z0, Fi this M z0 → Q z0 → Q' z0) : w_World_lookInFaces this a1 a2 a3 Q M → w_World_lookInFaces this a1 a2 a3 Q' M := by
  unfold w_World_lookInFaces
  exact (Exists.imp fun n => (mf_and fun _ => (mi_wr_World_lookInFaces _ (fun z2 f1 => hQ z2 (Fi.trans (Fi.rf _ M) f1)))))
set_option maxRecDepth 20000 in
theorem mi_w_World_method_L50 {this : Nat} {Q Q' : Int32 → Mem → Prop} {M0 : Mem} (hQ : ∀ z0 z1, Fi this M0 z1 → Q z0 z1 → Q' z0 z1) : ∀ (n : Nat) (v2 : Int32) (v3 : Int32) (v4 : Int32) (M : Mem), Fi this M0 M → w_World_method_L50 this Q n v2 v3 v4 M → w_World_method_L50 this Q' n v2 v3 v4 M
  | 0, _, _, _, _ => fun _ h => h
  | n + 1, v2, v3, v4, M => fun hf => by
    unfold w_World_method_L50
    exact (mf_ite (hQ _ _ hf) (mi_w_World_lookInFaces (fun M4 f1 => (mi_w_World_up (fun r6 M5 f2 => (mi_w_World_method_L50 hQ _ _ _ _ _ (Fi.trans (Fi.trans hf f1) f2)))))))
set_option maxRecDepth 20000 in
theorem mi_w_World_method_L3 {this : Nat} {Q Q' : Int32 → Mem → Prop} {M0 : Mem} (hQ : ∀ z0 z1, Fi this M0 z1 → Q z0 z1 → Q' z0 z1) : ∀ (n : Nat) (v1 : Int32) (v2 : Int32) (v3 : Int32) (v4 : Int32) (M : Mem), Fi this M0 M → w_World_method_L3 this Q n v1 v2 v3 v4 M → w_World_method_L3 this Q' n v1 v2 v3 v4 M
  | 0, _, _, _, _, _ => fun _ h => h
  | n + 1, v1, v2, v3, v4, M => fun hf => by
    unfold w_World_method_L3
    exact (mf_ite (mi_w_World_nextStamp (fun M2 f1 => (Exists.imp fun n7 => (mi_w_World_method_L50 hQ _ _ _ _ _ (Fi.trans (Fi.wI hf) f1))))) (mi_w_World_ownLike (fun r9 M8 f2 => (mf_ite (mi_w_World_up (fun r12 M11 f3 => (mi_w_World_method_L3 hQ _ _ _ _ _ _ (Fi.trans (Fi.trans hf f2) f3)))) (hQ _ _ (Fi.trans hf f2))))))
set_option maxRecDepth 20000 in
theorem mi_w_World_method {this : Nat} {a1 : Int32} {a2 : Int32} {a3 : Int32} {Q Q' : Int32 → Mem → Prop} {M : Mem} (hQ : ∀ z0 z1, Fi this M z1 → Q z0 z1 → Q' z0 z1) : w_World_method this a1 a2 a3 Q M → w_World_method this a1 a2 a3 Q' M := by
  unfold w_World_method
  exact (Exists.imp fun n13 => (mi_w_World_method_L3 hQ _ _ _ _ _ _ (Fi.rf _ M)))
set_option maxRecDepth 20000 in
theorem mi_w_World_isBelow_j137 {this : Nat} {Q Q' : Int32 → Mem → Prop} {k23 k23' : Int32 → Int32 → Mem → Prop} {k49 k49' : Int32 → Int32 → Int32 → Int32 → Mem → Prop} {v2 : Int32} {v3 : Int32} {v4 : Int32} {v5 : Int32} {M : Mem} {M0 : Mem} (hQ : ∀ z0 z1, Fi this M0 z1 → Q z0 z1 → Q' z0 z1) (hk23 : ∀ z0 z1 z2, Fi this M0 z2 → k23 z0 z1 z2 → k23' z0 z1 z2) (hk49 : ∀ z0 z1 z2 z3 z4, Fi this M0 z4 → k49 z0 z1 z2 z3 z4 → k49' z0 z1 z2 z3 z4) : Fi this M0 M → w_World_isBelow_j137 this Q k23 k49 v2 v3 v4 v5 M → w_World_isBelow_j137 this Q' k23' k49' v2 v3 v4 v5 M := by
  intro hf
  unfold w_World_isBelow_j137
  exact (hk49 _ _ _ _ _ hf)
set_option maxRecDepth 20000 in
theorem mi_w_World_isBelow_j91 {this : Nat} {Q Q' : Int32 → Mem → Prop} {k23 k23' : Int32 → Int32 → Mem → Prop} {k49 k49' : Int32 → Int32 → Int32 → Int32 → Mem → Prop} {v2 : Int32} {v3 : Int32} {v4 : Int32} {v5 : Int32} {s0 : Int32} {M : Mem} {M0 : Mem} (hQ : ∀ z0 z1, Fi this M0 z1 → Q z0 z1 → Q' z0 z1) (hk23 : ∀ z0 z1 z2, Fi this M0 z2 → k23 z0 z1 z2 → k23' z0 z1 z2) (hk49 : ∀ z0 z1 z2 z3 z4, Fi this M0 z4 → k49 z0 z1 z2 z3 z4 → k49' z0 z1 z2 z3 z4) : Fi this M0 M → w_World_isBelow_j91 this Q k23 k49 v2 v3 v4 v5 s0 M → w_World_isBelow_j91 this Q' k23' k49' v2 v3 v4 v5 s0 M := by
  intro hf
  unfold w_World_isBelow_j91
  exact (mf_ite (mi_w_World_isBelow_j137 hQ hk23 hk49 hf) (mf_and fun _ => (mf_ite (mi_w_World_isBelow_j137 hQ hk23 hk49 hf) (mf_and fun _ => (mf_and fun _ => (Exists.imp fun M19 => (mf_and fun e1 => (mi_w_World_isBelow_j137 hQ hk23 hk49 (Fi.of e1 (Fi.wI (Fi.wI hf)))))))))))
set_option maxRecDepth 20000 in
theorem mi_w_World_isBelow_L49 {this : Nat} {Q Q' : Int32 → Mem → Prop} {k23 k23' : Int32 → Int32 → Mem → Prop} {M0 : Mem} (hQ : ∀ z0 z1, Fi this M0 z1 → Q z0 z1 → Q' z0 z1) (hk23 : ∀ z0 z1 z2, Fi this M0 z2 → k23 z0 z1 z2 → k23' z0 z1 z2) : ∀ (n : Nat) (v2 : Int32) (v3 : Int32) (v4 : Int32) (v5 : Int32) (M : Mem), Fi this M0 M → w_World_isBelow_L49 this Q k23 n v2 v3 v4 v5 M → w_World_isBelow_L49 this Q' k23' n v2 v3 v4 v5 M
  | 0, _, _, _, _, _ => fun _ h => h
  | n + 1, v2, v3, v4, v5, M => fun hf => by
    unfold w_World_isBelow_L49
    exact (mf_and fun _ => (mf_ite (hk23 _ _ _ hf) (mf_ite (mf_and fun _ => (mi_w_World_find (fun r13 M12 f1 => (mi_w_World_isBelow_j91 hQ hk23 (mi_w_World_isBelow_L49 hQ hk23 n) (Fi.trans hf f1))))) (mi_w_World_up (fun r21 M20 f2 => (mi_w_World_isBelow_j91 hQ hk23 (mi_w_World_isBelow_L49 hQ hk23 n) (Fi.trans hf f2)))))))
set_option maxRecDepth 20000 in
theorem mi_w_World_isBelow_L23 {this : Nat} {Q Q' : Int32 → Mem → Prop} {M0 : Mem} (hQ : ∀ z0 z1, Fi this M0 z1 → Q z0 z1 → Q' z0 z1) : ∀ (n : Nat) (v2 : Int32) (v3 : Int32) (M : Mem), Fi this M0 M → w_World_isBelow_L23 this Q n v2 v3 M → w_World_isBelow_L23 this Q' n v2 v3 M
  | 0, _, _, _ => fun _ h => h
  | n + 1, v2, v3, M => fun hf => by
    unfold w_World_isBelow_L23
    exact (mf_ite (hQ _ _ hf) (mf_and fun _ => (mf_ite (hQ _ _ hf) (Exists.imp fun n22 => (mi_w_World_isBelow_L49 hQ (mi_w_World_isBelow_L23 hQ n) _ _ _ _ _ _ hf)))))
set_option maxRecDepth 20000 in
theorem mi_w_World_isBelow {this : Nat} {a1 : Int32} {a2 : Int32} {Q Q' : Int32 → Mem → Prop} {M : Mem} (hQ : ∀ z0 z1, Fi this M z1 → Q z0 z1 → Q' z0 z1) : w_World_isBelow this a1 a2 Q M → w_World_isBelow this a1 a2 Q' M := by
  unfold w_World_isBelow
  exact (mi_w_World_nextStamp (fun M1 f1 => (mf_and fun _ => (mf_and fun _ => (Exists.imp fun M4 => (mf_and fun e2 => (Exists.imp fun n23 => (mi_w_World_isBelow_L23 hQ _ _ _ _ (Fi.of e2 (Fi.wI (Fi.wI (Fi.trans (Fi.rf _ M) f1))))))))))))
set_option maxRecDepth 20000 in
theorem mi_wk_World_fieldByFaces_L86 {K K' : Nat → Int32 → Int32 → Int32 → (Int32 → Mem → Prop) → Mem → Prop} {this : Nat} {Q Q' : Int32 → Mem → Prop} {M0 : Mem} (hK : ∀ {x0 : Nat} {x1 : Int32} {x2 : Int32} {x3 : Int32} {x5 : Mem} {q q' : Int32 → Mem → Prop}, (∀ z0 z1, Fi x0 x5 z1 → q z0 z1 → q' z0 z1) → K x0 x1 x2 x3 q x5 → K' x0 x1 x2 x3 q' x5) (hQ : ∀ z0 z1, Fi this M0 z1 → Q z0 z1 → Q' z0 z1) : ∀ (n : Nat) (v1 : Int32) (v2 : Int32) (v3 : Int32) (v4 : Int32) (M : Mem), Fi this M0 M → wk_World_fieldByFaces_L86 K this Q n v1 v2 v3 v4 M → wk_World_fieldByFaces_L86 K' this Q' n v1 v2 v3 v4 M
  | 0, _, _, _, _, _ => fun _ h => h
  | n + 1, v1, v2, v3, v4, M => fun hf => by
    unfold wk_World_fieldByFaces_L86
    exact (mf_and fun _ => (mf_ite (hQ _ _ hf) (mf_and fun _ => (mi_w_World_find (fun r13 M12 f1 => (hK (fun r15 M14 f2 => (mf_ite (mi_wk_World_fieldByFaces_L86 @hK hQ _ _ _ _ _ _ (Fi.trans (Fi.trans hf f1) f2)) (hQ _ _ (Fi.trans (Fi.trans hf f1) f2))))))))))
set_option maxRecDepth 20000 in
theorem mi_wk_World_fieldByFaces_j77 {K K' : Nat → Int32 → Int32 → Int32 → (Int32 → Mem → Prop) → Mem → Prop} {this : Nat} {Q Q' : Int32 → Mem → Prop} {k34 k34' : Int32 → Int32 → Int32 → Int32 → Mem → Prop} {v1 : Int32} {v2 : Int32} {v3 : Int32} {v4 : Int32} {M : Mem} {M0 : Mem} (hK : ∀ {x0 : Nat} {x1 : Int32} {x2 : Int32} {x3 : Int32} {x5 : Mem} {q q' : Int32 → Mem → Prop}, (∀ z0 z1, Fi x0 x5 z1 → q z0 z1 → q' z0 z1) → K x0 x1 x2 x3 q x5 → K' x0 x1 x2 x3 q' x5) (hQ : ∀ z0 z1, Fi this M0 z1 → Q z0 z1 → Q' z0 z1) (hk34 : ∀ z0 z1 z2 z3 z4, Fi this M0 z4 → k34 z0 z1 z2 z3 z4 → k34' z0 z1 z2 z3 z4) : Fi this M0 M → wk_World_fieldByFaces_j77 K this Q k34 v1 v2 v3 v4 M → wk_World_fieldByFaces_j77 K' this Q' k34' v1 v2 v3 v4 M := by
  intro hf
  unfold wk_World_fieldByFaces_j77
  exact (hk34 _ _ _ _ _ hf)
set_option maxRecDepth 20000 in
theorem mi_wk_World_fieldByFaces_L34 {K K' : Nat → Int32 → Int32 → Int32 → (Int32 → Mem → Prop) → Mem → Prop} {this : Nat} {Q Q' : Int32 → Mem → Prop} {M0 : Mem} (hK : ∀ {x0 : Nat} {x1 : Int32} {x2 : Int32} {x3 : Int32} {x5 : Mem} {q q' : Int32 → Mem → Prop}, (∀ z0 z1, Fi x0 x5 z1 → q z0 z1 → q' z0 z1) → K x0 x1 x2 x3 q x5 → K' x0 x1 x2 x3 q' x5) (hQ : ∀ z0 z1, Fi this M0 z1 → Q z0 z1 → Q' z0 z1) : ∀ (n : Nat) (v1 : Int32) (v2 : Int32) (v3 : Int32) (v4 : Int32) (M : Mem), Fi this M0 M → wk_World_fieldByFaces_L34 K this Q n v1 v2 v3 v4 M → wk_World_fieldByFaces_L34 K' this Q' n v1 v2 v3 v4 M
  | 0, _, _, _, _, _ => fun _ h => h
  | n + 1, v1, v2, v3, v4, M => fun hf => by
    unfold wk_World_fieldByFaces_L34
    exact (mf_and fun _ => (mf_and fun _ => (mf_ite (Exists.imp fun n17 => (mi_wk_World_fieldByFaces_L86 @hK hQ _ _ _ _ _ _ hf)) (mf_and fun _ => (mf_ite (mf_and fun _ => (mf_ite (hQ _ _ hf) (mi_wk_World_fieldByFaces_j77 @hK hQ (mi_wk_World_fieldByFaces_L34 @hK hQ n) hf))) (mi_wk_World_fieldByFaces_j77 @hK hQ (mi_wk_World_fieldByFaces_L34 @hK hQ n) hf))))))
set_option maxRecDepth 20000 in
theorem mi_wk_World_fieldByFaces {K K' : Nat → Int32 → Int32 → Int32 → (Int32 → Mem → Prop) → Mem → Prop} {this : Nat} {a1 : Int32} {a2 : Int32} {a3 : Int32} {Q Q' : Int32 → Mem → Prop} {M : Mem} (hK : ∀ {x0 : Nat} {x1 : Int32} {x2 : Int32} {x3 : Int32} {x5 : Mem} {q q' : Int32 → Mem → Prop}, (∀ z0 z1, Fi x0 x5 z1 → q z0 z1 → q' z0 z1) → K x0 x1 x2 x3 q x5 → K' x0 x1 x2 x3 q' x5) (hQ : ∀ z0 z1, Fi this M z1 → Q z0 z1 → Q' z0 z1) : wk_World_fieldByFaces K this a1 a2 a3 Q M → wk_World_fieldByFaces K' this a1 a2 a3 Q' M := by
  unfold wk_World_fieldByFaces
  exact (mf_and fun _ => (mf_ite (hQ _ _ (Fi.rf _ M)) (mf_and fun _ => (mf_and fun _ => (Exists.imp fun x5 => (mf_and fun _ => (Exists.imp fun n22 => (mi_wk_World_fieldByFaces_L34 @hK hQ _ _ _ _ _ _ (Fi.wI (Fi.rf _ M))))))))))
set_option maxRecDepth 20000 in
theorem mi_wr_World_fieldByFaces : ∀ (n : Nat) {x0 : Nat} {x1 : Int32} {x2 : Int32} {x3 : Int32} {x5 : Mem} {Q Q' : Int32 → Mem → Prop}, (∀ z0 z1, Fi x0 x5 z1 → Q z0 z1 → Q' z0 z1) → wr_World_fieldByFaces n x0 x1 x2 x3 Q x5 → wr_World_fieldByFaces n x0 x1 x2 x3 Q' x5
  | 0 => fun _ h => h
  | n + 1 => fun hq => mi_wk_World_fieldByFaces (fun hq => mi_wr_World_fieldByFaces n hq) hq
set_option maxRecDepth 20000 in
theorem mi_w_World_fieldByFaces {this : Nat} {a1 : Int32} {a2 : Int32} {a3 : Int32} {Q Q' : Int32 → Mem → Prop} {M : Mem} (hQ : ∀ z0 z1, Fi this M z1 → Q z0 z1 → Q' z0 z1) : w_World_fieldByFaces this a1 a2 a3 Q M → w_World_fieldByFaces this a1 a2 a3 Q' M := by
  unfold w_World_fieldByFaces
  exact (Exists.imp fun n => (mf_and fun _ => (mi_wr_World_fieldByFaces _ (fun z2 z3 f1 => hQ z2 z3 (Fi.trans (Fi.rf _ M) f1)))))
set_option maxRecDepth 20000 in
theorem mi_w_World_field_L7 {this : Nat} {Q Q' : Int32 → Mem → Prop} {M0 : Mem} (hQ : ∀ z0 z1, Fi this M0 z1 → Q z0 z1 → Q' z0 z1) : ∀ (n : Nat) (v2 : Int32) (v3 : Int32) (v4 : Int32) (M : Mem), Fi this M0 M → w_World_field_L7 this Q n v2 v3 v4 M → w_World_field_L7 this Q' n v2 v3 v4 M
  | 0, _, _, _, _ => fun _ h => h
  | n + 1, v2, v3, v4, M => fun hf => by
    unfold w_World_field_L7
    exact (mf_ite (hQ _ _ hf) (mi_w_World_fieldByFaces (fun r4 M3 f1 => (mf_ite (mi_w_World_up (fun r7 M6 f2 => (mi_w_World_field_L7 hQ _ _ _ _ _ (Fi.trans (Fi.trans hf f1) f2)))) (hQ _ _ (Fi.trans hf f1))))))
set_option maxRecDepth 20000 in
theorem mi_w_World_field {this : Nat} {a1 : Int32} {a2 : Int32} {a3 : Int32} {Q Q' : Int32 → Mem → Prop} {M : Mem} (hQ : ∀ z0 z1, Fi this M z1 → Q z0 z1 → Q' z0 z1) : w_World_field this a1 a2 a3 Q M → w_World_field this a1 a2 a3 Q' M := by
  unfold w_World_field
  exact (mi_w_World_nextStamp (fun M1 f1 => (Exists.imp fun n8 => (mi_w_World_field_L7 hQ _ _ _ _ _ (Fi.trans (Fi.rf _ M) f1)))))
