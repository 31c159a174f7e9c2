set_option maxRecDepth 20000 in
theorem mo_w_Machine_instruction_j87 {w : Nat} {D : Nat → Nat → Prop} {T : Nat → Prop} {h : Hot} {this : Nat} {Q Q' : Mem → Prop} {h_Q : Hot} {v1 : Int32} {v2 : Int32} {v3 : Int32} {v4 : Int32} {M : Mem} {M0 : Mem} (hD : Dok w D) (n0 : ow w D 6 this) (lQ : ∀ t, h_Q t = true → h t = true) (hQ : ∀ z0, Ow w D T h_Q M0 z0 → Q z0 → Q' z0) : Ow w D T h M0 M → w_Machine_instruction_j87 this Q v1 v2 v3 v4 M → w_Machine_instruction_j87 this Q' v1 v2 v3 v4 M := by
  intro hf
  unfold w_Machine_instruction_j87
  exact (mo_w_Machine_instruction_j97 hD n0 lQ hQ hf)
set_option maxRecDepth 20000 in
theorem mo_w_Machine_instruction {w : Nat} {D : Nat → Nat → Prop} {T : Nat → Prop} {h : Hot} {this : Nat} {Q Q' : Mem → Prop} {M : Mem} (hD : Dok w D) (n0 : ow w D 6 this) (hQ : ∀ z0, Ow w D T h M z0 → Q z0 → Q' z0) : St w D T h M → w_Machine_instruction this Q M → w_Machine_instruction this Q' M := by
  intro hs
  unfold w_Machine_instruction
  exact (Exists.imp fun i1 => (mf_and fun e1 => (Exists.imp fun i2 => (mf_and fun e3 => (mf_and fun _ => (mf_and fun _ => (Exists.imp fun i5 => (mf_and fun e5 => (mf_and fun _ => (Exists.imp fun x7 => (mf_and fun _ => (mf_and fun _ => (Exists.imp fun i9 => (mf_and fun e7 => (mf_and fun _ => (Exists.imp fun M11 => (mf_and fun e9 => (have g10 : Ow w D T _ M M11 := Ow.of e9 (Ow.wI n0 (Ow.wI n0 (Ow.rf hs))); (mf_ite (mo_w_Machine_instruction_j87 hD n0 (fun _ e => e) hQ g10) (mf_ite (mo_w_Machine_instruction_j87 hD n0 (fun _ e => e) hQ g10) (mo_w_Machine_finds hD (ow.to n0 rfl rfl) (fun r52 M51 f11 => (have g12 : Ow w D T _ M M51 := (Ow.trans g10 f11); (mo_w_Machine_instruction_j97 hD n0 (fun _ e => e) hQ g12))) g10.1)))))))))))))))))))))
set_option maxRecDepth 20000 in
theorem mo_w_Machine_go_j147 {w : Nat} {D : Nat → Nat → Prop} {T : Nat → Prop} {h : Hot} {this : Nat} {Q Q' : Int32 → Mem → Prop} {h_Q : Hot} {k2 k2' : Int32 → Mem → Prop} {h_k2 : Hot} {v2 : Int32} {M : Mem} {M0 : Mem} (hD : Dok w D)  (lQ : ∀ t, h_Q t = true → h t = true) (hQ : ∀ z0 z1, Ow w D T h_Q M0 z1 → Q z0 z1 → Q' z0 z1) (lk2 : ∀ t, h_k2 t = true → h t = true) (hk2 : ∀ z0 z1, Ow w D T h_k2 M0 z1 → k2 z0 z1 → k2' z0 z1) : Ow w D T h M0 M → w_Machine_go_j147 this Q k2 v2 M → w_Machine_go_j147 this Q' k2' v2 M := by
  intro hf
  unfold w_Machine_go_j147
  exact (hk2 _ _  (Ow.dn lk2 hf))
set_option maxRecDepth 20000 in
theorem mo_w_Machine_go_j142 {w : Nat} {D : Nat → Nat → Prop} {T : Nat → Prop} {h : Hot} {this : Nat} {Q Q' : Int32 → Mem → Prop} {h_Q : Hot} {k2 k2' : Int32 → Mem → Prop} {h_k2 : Hot} {v2 : Int32} {M : Mem} {M0 : Mem} (hD : Dok w D) (n0 : ow w D 6 this) (lQ : ∀ t, h_Q t = true → h t = true) (hQ : ∀ z0 z1, Ow w D T h_Q M0 z1 → Q z0 z1 → Q' z0 z1) (lk2 : ∀ t, h_k2 t = true → h t = true) (hk2 : ∀ z0 z1, Ow w D T h_k2 M0 z1 → k2 z0 z1 → k2' z0 z1) : Ow w D T h M0 M → w_Machine_go_j142 this Q k2 v2 M → w_Machine_go_j142 this Q' k2' v2 M := by
  intro hf
  unfold w_Machine_go_j142
  exact (have g1 : Ow w D T _ M0 (sI M 6 this 4 (0 : Int32)) := (Ow.wI n0 hf); (mo_w_Machine_go_j147 hD  lQ hQ lk2 hk2 g1))
set_option maxRecDepth 20000 in
theorem mo_w_Machine_go_j120 {w : Nat} {D : Nat → Nat → Prop} {T : Nat → Prop} {h : Hot} {this : Nat} {Q Q' : Int32 → Mem → Prop} {h_Q : Hot} {k2 k2' : Int32 → Mem → Prop} {h_k2 : Hot} {v2 : Int32} {M : Mem} {M0 : Mem} (hD : Dok w D) (n0 : ow w D 6 this) (lQ : ∀ t, h_Q t = true → h t = true) (hQ : ∀ z0 z1, Ow w D T h_Q M0 z1 → Q z0 z1 → Q' z0 z1) (lk2 : ∀ t, h_k2 t = true → h t = true) (hk2 : ∀ z0 z1, Ow w D T h_k2 M0 z1 → k2 z0 z1 → k2' z0 z1) : Ow w D T h M0 M → w_Machine_go_j120 this Q k2 v2 M → w_Machine_go_j120 this Q' k2' v2 M := by
  intro hf
  unfold w_Machine_go_j120
  exact (Exists.imp fun i13 => (mf_and fun e1 => (mf_ite (Exists.imp fun i15 => (mf_and fun e3 => (mo_w_Machine_waits hD  (fun r17 M16 f5 => (have g6 : Ow w D T _ M0 M16 := (Ow.trans hf f5); (mf_ite (mo_w_Machine_go_j147 hD  lQ hQ lk2 hk2 g6) (mo_w_Machine_go_j142 hD n0 lQ hQ lk2 hk2 g6)))) hf.1))) (mo_w_Machine_go_j142 hD n0 lQ hQ lk2 hk2 hf))))
set_option maxRecDepth 20000 in
theorem mo_w_Machine_go_j96 {w : Nat} {D : Nat → Nat → Prop} {T : Nat → Prop} {h : Hot} {this : Nat} {Q Q' : Int32 → Mem → Prop} {h_Q : Hot} {k2 k2' : Int32 → Mem → Prop} {h_k2 : Hot} {v2 : Int32} {v3 : Int32} {M : Mem} {M0 : Mem} (hD : Dok w D) (n0 : ow w D 6 this) (lQ : ∀ t, h_Q t = true → h t = true) (hQ : ∀ z0 z1, Ow w D T h_Q M0 z1 → Q z0 z1 → Q' z0 z1) (lk2 : ∀ t, h_k2 t = true → h t = true) (hk2 : ∀ z0 z1, Ow w D T h_k2 M0 z1 → k2 z0 z1 → k2' z0 z1) : Ow w D T h M0 M → w_Machine_go_j96 this Q k2 v2 v3 M → w_Machine_go_j96 this Q' k2' v2 v3 M := by
  intro hf
  unfold w_Machine_go_j96
  exact (Exists.imp fun i11 => (mf_and fun e1 => (mf_ite (mo_w_Machine_go_j120 hD n0 lQ hQ lk2 hk2 hf) (have g3 : Ow w D T _ M0 (sI M 6 this 4 ((mI M 6 this 4) - (1 : Int32))) := (Ow.wI n0 hf); (mo_w_Machine_go_j120 hD n0 lQ hQ lk2 hk2 g3)))))
set_option maxRecDepth 20000 in
theorem mo_w_Machine_go_L2 {w : Nat} {D : Nat → Nat → Prop} {T : Nat → Prop} {h : Hot} {this : Nat} {Q Q' : Int32 → Mem → Prop} {h_Q : Hot} {M0 : Mem} (hD : Dok w D) (n0 : ow w D 6 this) (lQ : ∀ t, h_Q t = true → h t = true) (hQ : ∀ z0 z1, Ow w D T h_Q M0 z1 → Q z0 z1 → Q' z0 z1) : ∀ (n : Nat) (v2 : Int32) (M : Mem), Ow w D T h M0 M → w_Machine_go_L2 this Q n v2 M → w_Machine_go_L2 this Q' n v2 M
  | 0, _, _ => fun  _ h => h
  | n + 1, v2, M => fun  hf => by
    unfold w_Machine_go_L2
    exact (mf_ite (hQ _ _  (Ow.dn lQ hf)) (mo_w_Machine_hasTurn hD n0 (fun r3 M2 f1 => (have g2 : Ow w D T _ M0 M2 := (Ow.trans hf f1); (mf_ite (hQ _ _  (Ow.dn lQ g2)) (Exists.imp fun i5 => (mf_and fun e3 => (Exists.imp fun i6 => (mf_and fun e5 => (have o6 : ow w D 7 i6 := (Ow.r1 e5 rfl rfl n0 g2); (Exists.imp fun i7 => (mf_and fun e7 => (have o8 : ow w D 7 i7 := (Ow.r1 e7 rfl rfl n0 (Ow.wI o6 g2)); (Exists.imp fun i8 => (mf_and fun e9 => (mf_ite (have g11 : Ow w D T _ M0 (sI (sI M2 7 i6 18 (0 : Int32)) 7 i7 19 (-1 : Int32)) := (Ow.wI o8 (Ow.wI o6 g2)); (mo_w_Machine_first hD (ow.to n0 rfl rfl) (fun M10 f12 => (have g13 : Ow w D T _ M0 M10 := (Ow.trans g11 f12); (mo_w_Machine_go_j96 hD n0 lQ hQ (fun _ e => e) (fun y0 y1  hf => mo_w_Machine_go_L2 hD n0 lQ hQ n y0 y1  hf) g13))) g11.1)) (Exists.imp fun i19 => (mf_and fun e14 => (Exists.imp fun i20 => (mf_and fun e16 => (mf_and fun _ => (mf_ite (have g18 : Ow w D T _ M0 (sI (sI M2 7 i6 18 (0 : Int32)) 7 i7 19 (-1 : Int32)) := (Ow.wI o8 (Ow.wI o6 g2)); (mo_w_Machine_instruction hD n0 (fun M23 f19 => (have g20 : Ow w D T _ M0 M23 := (Ow.trans g18 f19); (mo_w_Machine_go_j96 hD n0 lQ hQ (fun _ e => e) (fun y0 y1  hf => mo_w_Machine_go_L2 hD n0 lQ hQ n y0 y1  hf) g20))) g18.1)) (Exists.imp fun i24 => (mf_and fun e21 => (have g23 : Ow w D T _ M0 (sI (sI M2 7 i6 18 (0 : Int32)) 7 i7 19 (-1 : Int32)) := (Ow.wI o8 (Ow.wI o6 g2)); (mo_w_Machine_start hD n0 (fun M25 f24 => (have g25 : Ow w D T _ M0 M25 := (Ow.trans g23 f24); (mo_w_Machine_go_j96 hD n0 lQ hQ (fun _ e => e) (fun y0 y1  hf => mo_w_Machine_go_L2 hD n0 lQ hQ n y0 y1  hf) g25))) g23.1)))))))))))))))))))))))) hf.1))
set_option maxRecDepth 20000 in
theorem mo_w_Machine_go {w : Nat} {D : Nat → Nat → Prop} {T : Nat → Prop} {h : Hot} {this : Nat} {a1 : Int32} {Q Q' : Int32 → Mem → Prop} {M : Mem} (hD : Dok w D) (n0 : ow w D 6 this) (hQ : ∀ z0 z1, Ow w D T h M z1 → Q z0 z1 → Q' z0 z1) : St w D T h M → w_Machine_go this a1 Q M → w_Machine_go this a1 Q' M := by
  intro hs
  unfold w_Machine_go
  exact (Exists.imp fun n26 => (mo_w_Machine_go_L2 hD n0 (fun _ e => e) hQ _ _ _  (Ow.rf hs)))
set_option maxRecDepth 20000 in
theorem mo_w_Works_work1_j242 {w : Nat} {D : Nat → Nat → Prop} {T : Nat → Prop} {h : Hot} {this : Nat} {Q Q' : Mem → Prop} {h_Q : Hot} {X X' : Mem → Prop} {h_X : Hot} {s0 : Int32} {s1 : Int32} {M : Mem} {M0 : Mem} (hD : Dok w D)  (lQ : ∀ t, h_Q t = true → h t = true) (hQ : ∀ z0, Ow w D T h_Q M0 z0 → Q z0 → Q' z0) (lX : ∀ t, h_X t = true → h t = true) (hX : ∀ z0, Ow w D T h_X M0 z0 → X z0 → X' z0) : Ow w D T h M0 M → w_Works_work1_j242 this Q X s0 s1 M → w_Works_work1_j242 this Q' X' s0 s1 M := by
  intro hf
  unfold w_Works_work1_j242
  exact (hQ _  (Ow.dn lQ (Ow.wI (ow0 rfl) hf)))
set_option maxRecDepth 20000 in
theorem mo_w_Works_work1_j296 {w : Nat} {D : Nat → Nat → Prop} {T : Nat → Prop} {h : Hot} {this : Nat} {Q Q' : Mem → Prop} {h_Q : Hot} {X X' : Mem → Prop} {h_X : Hot} {s0 : Int32} {M : Mem} {M0 : Mem} (hD : Dok w D)  (lQ : ∀ t, h_Q t = true → h t = true) (hQ : ∀ z0, Ow w D T h_Q M0 z0 → Q z0 → Q' z0) (lX : ∀ t, h_X t = true → h t = true) (hX : ∀ z0, Ow w D T h_X M0 z0 → X z0 → X' z0) : Ow w D T h M0 M → w_Works_work1_j296 this Q X s0 M → w_Works_work1_j296 this Q' X' s0 M := by
  intro hf
  unfold w_Works_work1_j296
  exact (hQ _  (Ow.dn lQ (Ow.wI (ow0 rfl) hf)))
set_option maxRecDepth 20000 in
theorem mo_w_Works_work1_j264 {w : Nat} {D : Nat → Nat → Prop} {T : Nat → Prop} {h : Hot} {this : Nat} {Q Q' : Mem → Prop} {h_Q : Hot} {X X' : Mem → Prop} {h_X : Hot} {v5 : Nat} {s0 : Int32} {M : Mem} {M0 : Mem} (hD : Dok w D)  (lQ : ∀ t, h_Q t = true → h t = true) (hQ : ∀ z0, Ow w D T h_Q M0 z0 → Q z0 → Q' z0) (lX : ∀ t, h_X t = true → h t = true) (hX : ∀ z0, Ow w D T h_X M0 z0 → X z0 → X' z0) : Ow w D T h M0 M → w_Works_work1_j264 this Q X v5 s0 M → w_Works_work1_j264 this Q' X' v5 s0 M := by
  intro hf
  unfold w_Works_work1_j264
  exact (mf_ite (have g1 : Ow w D T _ M0 (sI M 10 this 16 s0) := (Ow.wI (ow0 rfl) hf); (mo_w_Works_work1_j296 hD  lQ hQ lX hX g1)) (have g2 : Ow w D T _ M0 (sI M 10 this 16 s0) := (Ow.wI (ow0 rfl) hf); (mo_w_JMath_max hD  (fun r21 M20 f3 => (have g4 : Ow w D T _ M0 M20 := (Ow.trans g2 f3); (mo_w_Works_work1_j296 hD  lQ hQ lX hX g4))) g2.1)))
set_option maxRecDepth 20000 in
theorem mo_w_Works_work1_j64 {w : Nat} {D : Nat → Nat → Prop} {T : Nat → Prop} {h : Hot} {this : Nat} {Q Q' : Mem → Prop} {h_Q : Hot} {X X' : Mem → Prop} {h_X : Hot} {s0 : Nat} {M : Mem} {M0 : Mem} (hD : Dok w D)  (lQ : ∀ t, h_Q t = true → h t = true) (hQ : ∀ z0, Ow w D T h_Q M0 z0 → Q z0 → Q' z0) (lX : ∀ t, h_X t = true → h t = true) (hX : ∀ z0, Ow w D T h_X M0 z0 → X z0 → X' z0) : Ow w D T h M0 M → w_Works_work1_j64 this Q X s0 M → w_Works_work1_j64 this Q' X' s0 M := by
  intro hf
  unfold w_Works_work1_j64
  exact (Exists.imp fun M23 => (mf_and fun e1 => (have g2 : Ow w D T _ M0 M23 := Ow.of e1 (Ow.wI (ow0 rfl) (Ow.wI (ow0 rfl) hf)); (hQ _  (Ow.dn lQ g2)))))
set_option maxRecDepth 20000 in
theorem mo_w_Works_work1_j27 {w : Nat} {D : Nat → Nat → Prop} {T : Nat → Prop} {h : Hot} {this : Nat} {Q Q' : Mem → Prop} {h_Q : Hot} {X X' : Mem → Prop} {h_X : Hot} {v1 : Nat} {v2 : Int32} {v3 : Int32} {v4 : Int32} {M : Mem} {M0 : Mem} (hD : Dok w D) (n0 : w = 0) (lQ : ∀ t, h_Q t = true → h t = true) (hQ : ∀ z0, Ow w D T h_Q M0 z0 → Q z0 → Q' z0) (lX : ∀ t, h_X t = true → h t = true) (hX : ∀ z0, Ow w D T h_X M0 z0 → X z0 → X' z0) : Ow w D T h M0 M → w_Works_work1_j27 this Q X v1 v2 v3 v4 M → w_Works_work1_j27 this Q' X' v1 v2 v3 v4 M := by
  intro hf
  unfold w_Works_work1_j27
  exact (mo_w_World_begin hD (owz n0 rfl) (fun M2 f1 => (have g2 : Ow w D T _ M0 M2 := (Ow.trans hf f1); (mf_and fun _ => (have g3 : Ow w D T _ M0 (sI M2 6 0 35 (1 : Int32)) := (Ow.wI (owz n0 rfl) g2); (mo_w_Reader_define hD (owz n0 rfl) (fun r5 M4 f4 => (have g5 : Ow w D T _ M0 M4 := (Ow.trans g3 f4); (mo_w_Words_begin hD  (fun M6 f6 => (have g7 : Ow w D T _ M0 M6 := (Ow.trans g5 f6); (have g8 : Ow w D T _ M0 (sI M6 2 0 2 v4) := (Ow.wI (ow0 rfl) g7); (mo_w_Words_next hD  (fun M7 f9 => (have g10 : Ow w D T _ M0 M7 := (Ow.trans g8 f9); (mo_w_Words_next hD  (fun M8 f11 => (have g12 : Ow w D T _ M0 M8 := (Ow.trans g10 f11); (mo_w_Reader_call hD (owz n0 rfl) (fun M9 f13 => (have g14 : Ow w D T _ M0 M9 := (Ow.trans g12 f13); (mf_and fun _ => (Exists.imp fun i11 => (mf_and fun e15 => (have o16 : ow w D 7 i11 := (Ow.r1 e15 rfl rfl (owz n0 rfl) g14); (mo_w_Line_call hD o16 (fun M12 f17 => (have g18 : Ow w D T _ M0 M12 := (Ow.trans g14 f17); (mo_w_Machine_go hD (owz n0 rfl) (fun r14 M13 f19 => (have g20 : Ow w D T _ M0 M13 := (Ow.trans g18 f19); (mf_ite (hQ _  (Ow.dn lQ (Ow.wI (ow0 rfl) (Ow.wI (ow0 rfl) g20)))) (mf_ite (mf_ite (have g21 : Ow w D T _ M0 (sI (sI M13 10 this 17 (0 : Int32)) 10 this 16 (4 : Int32)) := (Ow.wI (ow0 rfl) (Ow.wI (ow0 rfl) g20)); (mo_w_Works_work1_j242 hD  lQ hQ lX hX g21)) (have g22 : Ow w D T _ M0 (sI (sI M13 10 this 17 (0 : Int32)) 10 this 16 (4 : Int32)) := (Ow.wI (ow0 rfl) (Ow.wI (ow0 rfl) g20)); (mo_w_Works_work1_j242 hD  lQ hQ lX hX g22))) (mf_ite (have g23 : Ow w D T _ M0 (sI M13 10 this 17 (0 : Int32)) := (Ow.wI (ow0 rfl) g20); (mo_w_Works_work1_j264 hD  lQ hQ lX hX g23)) (have g24 : Ow w D T _ M0 (sI M13 10 this 17 (0 : Int32)) := (Ow.wI (ow0 rfl) g20); (mo_w_Works_work1_j264 hD  lQ hQ lX hX g24))))))) g18.1))) g14.1))))))) (fun z26 f25 => hX z26 (Ow.dn lX (Ow.trans g12 f25))) g12.1))) g10.1))) g8.1)))) g5.1))) (fun M22 f27 => (have g28 : Ow w D T _ M0 M22 := (Ow.trans g3 f27); (mo_w_Works_work1_j64 hD  lQ hQ lX hX g28))) g3.1))))) hf.1)
set_option maxRecDepth 20000 in
theorem mo_w_Works_work1_L5 {w : Nat} {D : Nat → Nat → Prop} {T : Nat → Prop} {h : Hot} {this : Nat} {Q Q' : Mem → Prop} {h_Q : Hot} {X X' : Mem → Prop} {h_X : Hot} {M0 : Mem} (hD : Dok w D) (n0 : w = 0) (lQ : ∀ t, h_Q t = true → h t = true) (hQ : ∀ z0, Ow w D T h_Q M0 z0 → Q z0 → Q' z0) (lX : ∀ t, h_X t = true → h t = true) (hX : ∀ z0, Ow w D T h_X M0 z0 → X z0 → X' z0) : ∀ (n : Nat) (v1 : Nat) (v2 : Int32) (v3 : Int32) (v4 : Int32) (M : Mem), Ow w D T h M0 M → w_Works_work1_L5 this Q X n v1 v2 v3 v4 M → w_Works_work1_L5 this Q' X' n v1 v2 v3 v4 M
  | 0, _, _, _, _, _ => fun  _ h => h
  | n + 1, v1, v2, v3, v4, M => fun  hf => by
    unfold w_Works_work1_L5
    exact (mf_ite (mo_w_Works_work1_j27 hD n0 lQ hQ lX hX hf) (mf_and fun _ => (mf_ite (mo_w_Works_work1_j27 hD n0 lQ hQ lX hX hf) (mo_w_Works_work1_L5 hD n0 lQ hQ lX hX _ _ _ _ _ _  hf))))
set_option maxRecDepth 20000 in
theorem mo_w_Works_work1 {w : Nat} {D : Nat → Nat → Prop} {T : Nat → Prop} {h : Hot} {this : Nat} {a1 : Nat} {a2 : Int32} {a3 : Int32} {Q Q' : Mem → Prop} {X X' : Mem → Prop} {M : Mem} (hD : Dok w D) (n0 : w = 0) (hQ : ∀ z0, Ow w D T h M z0 → Q z0 → Q' z0) (hX : ∀ z0, Ow w D T h M z0 → X z0 → X' z0) : St w D T h M → w_Works_work1 this a1 a2 a3 Q X M → w_Works_work1 this a1 a2 a3 Q' X' M := by
  intro hs
  unfold w_Works_work1
  exact (Exists.imp fun n26 => (mo_w_Works_work1_L5 hD n0 (fun _ e => e) hQ (fun _ e => e) hX _ _ _ _ _ _  (Ow.rf hs)))
set_option maxRecDepth 20000 in
theorem mo_w_JInteger_bitCount {w : Nat} {D : Nat → Nat → Prop} {T : Nat → Prop} {h : Hot} {a1 : Int32} {Q Q' : Int32 → Mem → Prop} {M : Mem} (hD : Dok w D)  (hQ : ∀ z0 z1, Ow w D T h M z1 → Q z0 z1 → Q' z0 z1) : St w D T h M → w_JInteger_bitCount a1 Q M → w_JInteger_bitCount a1 Q' M := by
  intro hs
  unfold w_JInteger_bitCount
  exact (Exists.imp fun x1 => (mf_and fun _ => (Exists.imp fun x2 => (mf_and fun _ => (Exists.imp fun x3 => (mf_and fun _ => (Exists.imp fun x4 => (mf_and fun _ => (Exists.imp fun x5 => (mf_and fun _ => (hQ _ _  (Ow.rf hs))))))))))))
set_option maxRecDepth 20000 in
theorem mo_w_JInteger_numberOfTrailingZeros_j62 {w : Nat} {D : Nat → Nat → Prop} {T : Nat → Prop} {h : Hot} {Q Q' : Int32 → Mem → Prop} {h_Q : Hot} {v0 : Int32} {v1 : Int32} {M : Mem} {M0 : Mem} (hD : Dok w D)  (lQ : ∀ t, h_Q t = true → h t = true) (hQ : ∀ z0 z1, Ow w D T h_Q M0 z1 → Q z0 z1 → Q' z0 z1) : Ow w D T h M0 M → w_JInteger_numberOfTrailingZeros_j62 Q v0 v1 M → w_JInteger_numberOfTrailingZeros_j62 Q' v0 v1 M := by
  intro hf
  unfold w_JInteger_numberOfTrailingZeros_j62
  exact (mf_ite (hQ _ _  (Ow.dn lQ hf)) (Exists.imp fun x6 => (mf_and fun _ => (hQ _ _  (Ow.dn lQ hf)))))
set_option maxRecDepth 20000 in
theorem mo_w_JInteger_numberOfTrailingZeros_j49 {w : Nat} {D : Nat → Nat → Prop} {T : Nat → Prop} {h : Hot} {Q Q' : Int32 → Mem → Prop} {h_Q : Hot} {v0 : Int32} {v1 : Int32} {M : Mem} {M0 : Mem} (hD : Dok w D)  (lQ : ∀ t, h_Q t = true → h t = true) (hQ : ∀ z0 z1, Ow w D T h_Q M0 z1 → Q z0 z1 → Q' z0 z1) : Ow w D T h M0 M → w_JInteger_numberOfTrailingZeros_j49 Q v0 v1 M → w_JInteger_numberOfTrailingZeros_j49 Q' v0 v1 M := by
  intro hf
  unfold w_JInteger_numberOfTrailingZeros_j49
  exact (mf_ite (mo_w_JInteger_numberOfTrailingZeros_j62 hD  lQ hQ hf) (Exists.imp fun x7 => (mf_and fun _ => (mo_w_JInteger_numberOfTrailingZeros_j62 hD  lQ hQ hf))))
set_option maxRecDepth 20000 in
theorem mo_w_JInteger_numberOfTrailingZeros_j34 {w : Nat} {D : Nat → Nat → Prop} {T : Nat → Prop} {h : Hot} {Q Q' : Int32 → Mem → Prop} {h_Q : Hot} {v0 : Int32} {v1 : Int32} {M : Mem} {M0 : Mem} (hD : Dok w D)  (lQ : ∀ t, h_Q t = true → h t = true) (hQ : ∀ z0 z1, Ow w D T h_Q M0 z1 → Q z0 z1 → Q' z0 z1) : Ow w D T h M0 M → w_JInteger_numberOfTrailingZeros_j34 Q v0 v1 M → w_JInteger_numberOfTrailingZeros_j34 Q' v0 v1 M := by
  intro hf
  unfold w_JInteger_numberOfTrailingZeros_j34
  exact (mf_ite (mo_w_JInteger_numberOfTrailingZeros_j49 hD  lQ hQ hf) (Exists.imp fun x8 => (mf_and fun _ => (mo_w_JInteger_numberOfTrailingZeros_j49 hD  lQ hQ hf))))
set_option maxRecDepth 20000 in
theorem mo_w_JInteger_numberOfTrailingZeros {w : Nat} {D : Nat → Nat → Prop} {T : Nat → Prop} {h : Hot} {a1 : Int32} {Q Q' : Int32 → Mem → Prop} {M : Mem} (hD : Dok w D)  (hQ : ∀ z0 z1, Ow w D T h M z1 → Q z0 z1 → Q' z0 z1) : St w D T h M → w_JInteger_numberOfTrailingZeros a1 Q M → w_JInteger_numberOfTrailingZeros a1 Q' M := by
  intro hs
  unfold w_JInteger_numberOfTrailingZeros
  exact (mf_ite (mf_ite (mo_w_JInteger_numberOfTrailingZeros_j34 hD  (fun _ e => e) hQ (Ow.rf hs)) (Exists.imp fun x9 => (mf_and fun _ => (mo_w_JInteger_numberOfTrailingZeros_j34 hD  (fun _ e => e) hQ (Ow.rf hs))))) (hQ _ _  (Ow.rf hs)))
set_option maxRecDepth 20000 in
theorem mo_w_Works_work2_j72 {w : Nat} {D : Nat → Nat → Prop} {T : Nat → Prop} {h : Hot} {this : Nat} {Q Q' : Mem → Prop} {h_Q : Hot} {X X' : Mem → Prop} {h_X : Hot} {v1 : Int32} {v2 : Int32} {v3 : Int32} {v4 : Int32} {M : Mem} {M0 : Mem} (hD : Dok w D) (n0 : w = 0) (lQ : ∀ t, h_Q t = true → h t = true) (hQ : ∀ z0, Ow w D T h_Q M0 z0 → Q z0 → Q' z0) (lX : ∀ t, h_X t = true → h t = true) (hX : ∀ z0, Ow w D T h_X M0 z0 → X z0 → X' z0) : Ow w D T h M0 M → w_Works_work2_j72 this Q X v1 v2 v3 v4 M → w_Works_work2_j72 this Q' X' v1 v2 v3 v4 M := by
  intro hf
  unfold w_Works_work2_j72
  exact (mf_and fun _ => (Exists.imp fun i4 => (mf_and fun e1 => (mf_and fun _ => (mo_w_Works_work1 hD n0 (fun M6 f3 => (have g4 : Ow w D T _ M0 M6 := (Ow.trans hf f3); (mf_ite (mf_and fun _ => (mf_and fun _ => (Exists.imp fun M10 => (mf_and fun e5 => (have g6 : Ow w D T _ M0 M10 := Ow.of e5 (Ow.wI (ow0 rfl) (Ow.wI (ow0 rfl) g4)); (mf_and fun _ => (hQ _  (Ow.dn lQ (Ow.wI (ow0 rfl) g6))))))))) (hQ _  (Ow.dn lQ g4))))) (fun z8 f7 => hX z8 (Ow.dn lX (Ow.trans hf f7))) hf.1)))))
set_option maxRecDepth 20000 in
theorem mo_w_Works_work2_j26 {w : Nat} {D : Nat → Nat → Prop} {T : Nat → Prop} {h : Hot} {this : Nat} {Q Q' : Mem → Prop} {h_Q : Hot} {X X' : Mem → Prop} {h_X : Hot} {v1 : Int32} {v2 : Int32} {s0 : Int32} {M : Mem} {M0 : Mem} (hD : Dok w D) (n0 : w = 0) (lQ : ∀ t, h_Q t = true → h t = true) (hQ : ∀ z0, Ow w D T h_Q M0 z0 → Q z0 → Q' z0) (lX : ∀ t, h_X t = true → h t = true) (hX : ∀ z0, Ow w D T h_X M0 z0 → X z0 → X' z0) : Ow w D T h M0 M → w_Works_work2_j26 this Q X v1 v2 s0 M → w_Works_work2_j26 this Q' X' v1 v2 s0 M := by
  intro hf
  unfold w_Works_work2_j26
  exact (mf_ite (mo_w_Works_work2_j72 hD n0 lQ hQ lX hX hf) (mf_and fun _ => (mf_ite (mo_w_Works_work2_j72 hD n0 lQ hQ lX hX hf) (mf_and fun _ => (Exists.imp fun M15 => (mf_and fun e1 => (have g2 : Ow w D T _ M0 M15 := Ow.of e1 (Ow.wI (ow0 rfl) hf); (mf_and fun _ => (Exists.imp fun M17 => (mf_and fun e3 => (have g4 : Ow w D T _ M0 M17 := Ow.of e3 (Ow.wI (ow0 rfl) g2); (hQ _  (Ow.dn lQ g4)))))))))))))
set_option maxRecDepth 20000 in
theorem mo_w_Works_work2 {w : Nat} {D : Nat → Nat → Prop} {T : Nat → Prop} {h : Hot} {this : Nat} {a1 : Int32} {a2 : Int32} {Q Q' : Mem → Prop} {X X' : Mem → Prop} {M : Mem} (hD : Dok w D) (n0 : w = 0) (hQ : ∀ z0, Ow w D T h M z0 → Q z0 → Q' z0) (hX : ∀ z0, Ow w D T h M z0 → X z0 → X' z0) : St w D T h M → w_Works_work2 this a1 a2 Q X M → w_Works_work2 this a1 a2 Q' X' M := by
  intro hs
  unfold w_Works_work2
  exact (mf_ite (mo_w_Works_work2_j26 hD n0 (fun _ e => e) hQ (fun _ e => e) hX (Ow.rf hs)) (mo_w_JInteger_bitCount hD  (fun r19 M18 f1 => (have g2 : Ow w D T _ M M18 := (Ow.trans (Ow.rf hs) f1); (mf_ite (mo_w_JInteger_numberOfTrailingZeros hD  (fun r22 M21 f3 => (have g4 : Ow w D T _ M M21 := (Ow.trans g2 f3); (mo_w_Works_work2_j26 hD n0 (fun _ e => e) hQ (fun _ e => e) hX g4))) g2.1) (mo_w_Works_work2_j26 hD n0 (fun _ e => e) hQ (fun _ e => e) hX g2)))) (Ow.rf hs).1))
set_option maxRecDepth 20000 in
theorem mo_w_Works_isTrial {w : Nat} {D : Nat → Nat → Prop} {T : Nat → Prop} {h : Hot} {this : Nat} {a1 : Int32} {Q Q' : Int32 → Mem → Prop} {M : Mem} (hD : Dok w D)  (hQ : ∀ z0 z1, Ow w D T h M z1 → Q z0 z1 → Q' z0 z1) : St w D T h M → w_Works_isTrial this a1 Q M → w_Works_isTrial this a1 Q' M := by
  intro hs
  unfold w_Works_isTrial
  exact (mo_w_Works_isIn hD  (fun r2 M1 f1 => (have g2 : Ow w D T _ M M1 := (Ow.trans (Ow.rf hs) f1); (mf_and fun _ => (hQ _ _  g2)))) (Ow.rf hs).1)
set_option maxRecDepth 20000 in
theorem mo_w_Works_isRule {w : Nat} {D : Nat → Nat → Prop} {T : Nat → Prop} {h : Hot} {this : Nat} {a1 : Int32} {Q Q' : Int32 → Mem → Prop} {M : Mem} (hD : Dok w D)  (hQ : ∀ z0 z1, Ow w D T h M z1 → Q z0 z1 → Q' z0 z1) : St w D T h M → w_Works_isRule this a1 Q M → w_Works_isRule this a1 Q' M := by
  intro hs
  unfold w_Works_isRule
  exact (mo_w_Works_isIn hD  (fun r2 M1 f1 => (have g2 : Ow w D T _ M M1 := (Ow.trans (Ow.rf hs) f1); (mf_ite (mo_w_Works_isIn hD  (fun r5 M4 f3 => (have g4 : Ow w D T _ M M4 := (Ow.trans g2 f3); (mf_ite (mo_w_Works_isIn hD  (fun r8 M7 f5 => (have g6 : Ow w D T _ M M7 := (Ow.trans g4 f5); (mf_ite (mo_w_Works_isIn hD  (fun r11 M10 f7 => (have g8 : Ow w D T _ M M10 := (Ow.trans g6 f7); (mf_ite (hQ _ _  g8) (hQ _ _  g8)))) g6.1) (hQ _ _  g6)))) g4.1) (hQ _ _  g4)))) g2.1) (hQ _ _  g2)))) (Ow.rf hs).1)
set_option maxRecDepth 20000 in
theorem mo_w_Works_ruleMet_j40 {w : Nat} {D : Nat → Nat → Prop} {T : Nat → Prop} {h : Hot} {this : Nat} {Q Q' : Int32 → Mem → Prop} {h_Q : Hot} {X X' : Mem → Prop} {h_X : Hot} {s0 : Int32} {M : Mem} {M0 : Mem} (hD : Dok w D)  (lQ : ∀ t, h_Q t = true → h t = true) (hQ : ∀ z0 z1, Ow w D T h_Q M0 z1 → Q z0 z1 → Q' z0 z1) (lX : ∀ t, h_X t = true → h t = true) (hX : ∀ z0, Ow w D T h_X M0 z0 → X z0 → X' z0) : Ow w D T h M0 M → w_Works_ruleMet_j40 this Q X s0 M → w_Works_ruleMet_j40 this Q' X' s0 M := by
  intro hf
  unfold w_Works_ruleMet_j40
  exact (mo_w_Works_isRule hD  (fun r4 M3 f1 => (have g2 : Ow w D T _ M0 M3 := (Ow.trans hf f1); (mf_ite (hQ _ _  (Ow.dn lQ g2)) (hQ _ _  (Ow.dn lQ g2))))) hf.1)
set_option maxRecDepth 20000 in
theorem mo_w_Works_ruleMet {w : Nat} {D : Nat → Nat → Prop} {T : Nat → Prop} {h : Hot} {this : Nat} {a1 : Int32} {Q Q' : Int32 → Mem → Prop} {X X' : Mem → Prop} {M : Mem} (hD : Dok w D) (n0 : w = 0) (hQ : ∀ z0 z1, Ow w D T h M z1 → Q z0 z1 → Q' z0 z1) (hX : ∀ z0, Ow w D T h M z0 → X z0 → X' z0) : St w D T h M → w_Works_ruleMet this a1 Q X M → w_Works_ruleMet this a1 Q' X' M := by
  intro hs
  unfold w_Works_ruleMet
  exact (mo_w_Works_work2 hD n0 (fun M1 f1 => (have g2 : Ow w D T _ M M1 := (Ow.trans (Ow.rf hs) f1); (mf_ite (mo_w_Works_ruleMet_j40 hD  (fun _ e => e) hQ (fun _ e => e) hX g2) (mf_ite (mf_and fun _ => (mo_w_Works_ruleMet_j40 hD  (fun _ e => e) hQ (fun _ e => e) hX g2)) (mo_w_Works_ruleMet_j40 hD  (fun _ e => e) hQ (fun _ e => e) hX g2))))) (fun z4 f3 => hX z4 (Ow.trans (Ow.rf hs) f3)) (Ow.rf hs).1)
set_option maxRecDepth 20000 in
theorem mo_w_Works_finds0 {w : Nat} {D : Nat → Nat → Prop} {T : Nat → Prop} {h : Hot} {this : Nat} {a1 : Int32} {a2 : Int32} {Q Q' : Int32 → Mem → Prop} {X X' : Mem → Prop} {M : Mem} (hD : Dok w D) (n0 : w = 0) (hQ : ∀ z0 z1, Ow w D T h M z1 → Q z0 z1 → Q' z0 z1) (hX : ∀ z0, Ow w D T h M z0 → X z0 → X' z0) : St w D T h M → w_Works_finds0 this a1 a2 Q X M → w_Works_finds0 this a1 a2 Q' X' M := by
  intro hs
  unfold w_Works_finds0
  exact (mo_w_Works_work2 hD n0 (fun M1 f1 => (have g2 : Ow w D T _ M M1 := (Ow.trans (Ow.rf hs) f1); (mo_w_Works_work2 hD n0 (fun M2 f3 => (have g4 : Ow w D T _ M M2 := (Ow.trans g2 f3); (mf_ite (mf_ite (hQ _ _  g4) (hQ _ _  g4)) (hQ _ _  g4)))) (fun z6 f5 => hX z6 (Ow.trans g2 f5)) g2.1))) (fun z8 f7 => hX z8 (Ow.trans (Ow.rf hs) f7)) (Ow.rf hs).1)
set_option maxRecDepth 20000 in
theorem mo_w_Works_isWorld {w : Nat} {D : Nat → Nat → Prop} {T : Nat → Prop} {h : Hot} {this : Nat} {a1 : Int32} {Q Q' : Int32 → Mem → Prop} {M : Mem} (hD : Dok w D)  (hQ : ∀ z0 z1, Ow w D T h M z1 → Q z0 z1 → Q' z0 z1) : St w D T h M → w_Works_isWorld this a1 Q M → w_Works_isWorld this a1 Q' M := by
  intro hs
  unfold w_Works_isWorld
  exact (mo_w_Works_isIn hD  (fun r2 M1 f1 => (have g2 : Ow w D T _ M M1 := (Ow.trans (Ow.rf hs) f1); (mf_ite (hQ _ _  g2) (mf_and fun _ => (mf_ite (hQ _ _  g2) (hQ _ _  g2)))))) (Ow.rf hs).1)
set_option maxRecDepth 20000 in
theorem mo_w_Works_isClass {w : Nat} {D : Nat → Nat → Prop} {T : Nat → Prop} {h : Hot} {this : Nat} {a1 : Int32} {a2 : Int32} {Q Q' : Int32 → Mem → Prop} {M : Mem} (hD : Dok w D)  (hQ : ∀ z0 z1, Ow w D T h M z1 → Q z0 z1 → Q' z0 z1) : St w D T h M → w_Works_isClass this a1 a2 Q M → w_Works_isClass this a1 a2 Q' M := by
  intro hs
  unfold w_Works_isClass
  exact (mo_w_Works_isWorld hD  (fun r2 M1 f1 => (have g2 : Ow w D T _ M M1 := (Ow.trans (Ow.rf hs) f1); (mf_ite (hQ _ _  g2) (mf_and fun _ => (Exists.imp fun i5 => (mf_and fun e3 => (mo_w_Works_isIn hD  (fun r7 M6 f5 => (have g6 : Ow w D T _ M M6 := (Ow.trans g2 f5); (mf_ite (hQ _ _  g6) (hQ _ _  g6)))) g2.1))))))) (Ow.rf hs).1)
set_option maxRecDepth 20000 in
theorem mo_w_Works_define_j45 {w : Nat} {D : Nat → Nat → Prop} {T : Nat → Prop} {h : Hot} {this : Nat} {Q Q' : Int32 → Mem → Prop} {h_Q : Hot} {s0 : Nat} {M : Mem} {M0 : Mem} (hD : Dok w D)  (lQ : ∀ t, h_Q t = true → h t = true) (hQ : ∀ z0 z1, Ow w D T h_Q M0 z1 → Q z0 z1 → Q' z0 z1) : Ow w D T h M0 M → w_Works_define_j45 this Q s0 M → w_Works_define_j45 this Q' s0 M := by
  intro hf
  unfold w_Works_define_j45
  exact (hQ _ _  (Ow.dn lQ (Ow.wI (ow0 rfl) hf)))
set_option maxRecDepth 20000 in
theorem mo_w_Works_define {w : Nat} {D : Nat → Nat → Prop} {T : Nat → Prop} {h : Hot} {this : Nat} {a1 : Int32} {Q Q' : Int32 → Mem → Prop} {M : Mem} (hD : Dok w D) (n0 : T a1.toNatClampNeg) (hQ : ∀ z0 z1, Ow w D T h M z1 → Q z0 z1 → Q' z0 z1) : St w D T h M → w_Works_define this a1 Q M → w_Works_define this a1 Q' M := by
  intro hs
  unfold w_Works_define
  exact (mo_w_Works_isWorld hD  (fun r2 M1 f1 => (have g2 : Ow w D T _ M M1 := (Ow.trans (Ow.rf hs) f1); (mf_ite (hQ _ _  g2) (mf_and fun _ => (Exists.imp fun i5 => (mf_and fun e3 => (have o4 : ow w D 5 i5 := (Ow.rT e3 rfl n0 (Ow.wI (ow0 rfl) (Ow.wI (ow0 rfl) g2))); (have g5 : Ow w D T _ M (sI (sI M1 10 this 1 (0 : Int32)) 10 this 21 (-2 : Int32)) := (Ow.wI (ow0 rfl) (Ow.wI (ow0 rfl) g2)); (mo_w_Reader_define hD o4 (fun r7 M6 f6 => (have g7 : Ow w D T _ M M6 := (Ow.trans g5 f6); (hQ _ _  g7))) (fun M8 f8 => (have g9 : Ow w D T _ M M8 := (Ow.trans g5 f8); (mo_w_Works_define_j45 hD  (fun _ e => e) hQ g9))) g5.1))))))))) (Ow.rf hs).1)
set_option maxRecDepth 20000 in
theorem mo_w_Works_place {w : Nat} {D : Nat → Nat → Prop} {T : Nat → Prop} {h : Hot} {this : Nat} {Q Q' : Int32 → Mem → Prop} {M : Mem} (hD : Dok w D)  (hQ : ∀ z0 z1, Ow w D T h M z1 → Q z0 z1 → Q' z0 z1) : St w D T h M → w_Works_place this Q M → w_Works_place this Q' M := by
  intro hs
  unfold w_Works_place
  exact (hQ _ _  (Ow.rf hs))
set_option maxRecDepth 20000 in
theorem mo_w_Works_classes {w : Nat} {D : Nat → Nat → Prop} {T : Nat → Prop} {h : Hot} {this : Nat} {a1 : Int32} {Q Q' : Int32 → Mem → Prop} {M : Mem} (hD : Dok w D)  (hQ : ∀ z0 z1, Ow w D T h M z1 → Q z0 z1 → Q' z0 z1) : St w D T h M → w_Works_classes this a1 Q M → w_Works_classes this a1 Q' M := by
  intro hs
  unfold w_Works_classes
  exact (mo_w_Works_isWorld hD  (fun r2 M1 f1 => (have g2 : Ow w D T _ M M1 := (Ow.trans (Ow.rf hs) f1); (mf_ite (hQ _ _  g2) (mf_and fun _ => (Exists.imp fun i5 => (mf_and fun e3 => (hQ _ _  g2))))))) (Ow.rf hs).1)
set_option maxRecDepth 20000 in
theorem mo_w_Works_told {w : Nat} {D : Nat → Nat → Prop} {T : Nat → Prop} {h : Hot} {this : Nat} {a1 : Int32} {a2 : Int32} {a3 : Int32} {Q Q' : Int32 → Mem → Prop} {M : Mem} (hD : Dok w D)  (hQ : ∀ z0 z1, Ow w D T h M z1 → Q z0 z1 → Q' z0 z1) : St w D T h M → w_Works_told this a1 a2 a3 Q M → w_Works_told this a1 a2 a3 Q' M := by
  intro hs
  unfold w_Works_told
  exact (mo_w_Works_isClass hD  (fun r2 M1 f1 => (have g2 : Ow w D T _ M M1 := (Ow.trans (Ow.rf hs) f1); (mf_ite (hQ _ _  g2) (mf_and fun _ => (Exists.imp fun i5 => (mf_and fun e3 => (mf_ite (mf_ite (hQ _ _  g2) (mf_and fun _ => (mo_w_World_find hD  (fun r22 M21 f5 => (have g6 : Ow w D T _ M M21 := (Ow.trans g2 f5); (hQ _ _  g6))) g2.1))) (mf_ite (mf_and fun _ => (hQ _ _  g2)) (mf_ite (mf_and fun _ => (hQ _ _  g2)) (mf_ite (mf_and fun _ => (hQ _ _  g2)) (mf_ite (mf_and fun _ => (hQ _ _  g2)) (mf_ite (mf_and fun _ => (hQ _ _  g2)) (mf_ite (mf_and fun _ => (hQ _ _  g2)) (hQ _ _  g2)))))))))))))) (Ow.rf hs).1)
set_option maxRecDepth 20000 in
theorem mo_w_Works_isField {w : Nat} {D : Nat → Nat → Prop} {T : Nat → Prop} {h : Hot} {this : Nat} {a1 : Nat} {a2 : Int32} {a3 : Int32} {Q Q' : Int32 → Mem → Prop} {M : Mem} (hD : Dok w D)  (hQ : ∀ z0 z1, Ow w D T h M z1 → Q z0 z1 → Q' z0 z1) : St w D T h M → w_Works_isField this a1 a2 a3 Q M → w_Works_isField this a1 a2 a3 Q' M := by
  intro hs
  unfold w_Works_isField
  exact (mf_and fun _ => (mo_w_Works_isIn hD  (fun r3 M2 f1 => (have g2 : Ow w D T _ M M2 := (Ow.trans (Ow.rf hs) f1); (mf_and fun _ => (hQ _ _  g2)))) (Ow.rf hs).1))
set_option maxRecDepth 20000 in
theorem mo_w_Works_isMethod {w : Nat} {D : Nat → Nat → Prop} {T : Nat → Prop} {h : Hot} {this : Nat} {a1 : Nat} {a2 : Int32} {a3 : Int32} {Q Q' : Int32 → Mem → Prop} {M : Mem} (hD : Dok w D)  (hQ : ∀ z0 z1, Ow w D T h M z1 → Q z0 z1 → Q' z0 z1) : St w D T h M → w_Works_isMethod this a1 a2 a3 Q M → w_Works_isMethod this a1 a2 a3 Q' M := by
  intro hs
  unfold w_Works_isMethod
  exact (mf_and fun _ => (mo_w_Works_isIn hD  (fun r3 M2 f1 => (have g2 : Ow w D T _ M M2 := (Ow.trans (Ow.rf hs) f1); (mf_and fun _ => (hQ _ _  g2)))) (Ow.rf hs).1))
set_option maxRecDepth 20000 in
theorem mo_w_Works_name_j128 {w : Nat} {D : Nat → Nat → Prop} {T : Nat → Prop} {h : Hot} {this : Nat} {Q Q' : Int32 → Mem → Prop} {h_Q : Hot} {v5 : Int32} {v7 : Int32} {M : Mem} {M0 : Mem} (hD : Dok w D)  (lQ : ∀ t, h_Q t = true → h t = true) (hQ : ∀ z0 z1, Ow w D T h_Q M0 z1 → Q z0 z1 → Q' z0 z1) : Ow w D T h M0 M → w_Works_name_j128 this Q v5 v7 M → w_Works_name_j128 this Q' v5 v7 M := by
  intro hf
  unfold w_Works_name_j128
  exact (mo_w_Names_at hD  (fun r15 M14 f1 => (have g2 : Ow w D T _ M0 M14 := (Ow.trans hf f1); (mf_ite (hQ _ _  (Ow.dn lQ g2)) (hQ _ _  (Ow.dn lQ g2))))) hf.1)
set_option maxRecDepth 20000 in
theorem mo_w_Works_name_j126 {w : Nat} {D : Nat → Nat → Prop} {T : Nat → Prop} {h : Hot} {this : Nat} {Q Q' : Int32 → Mem → Prop} {h_Q : Hot} {v5 : Int32} {s0 : Int32} {M : Mem} {M0 : Mem} (hD : Dok w D)  (lQ : ∀ t, h_Q t = true → h t = true) (hQ : ∀ z0 z1, Ow w D T h_Q M0 z1 → Q z0 z1 → Q' z0 z1) : Ow w D T h M0 M → w_Works_name_j126 this Q v5 s0 M → w_Works_name_j126 this Q' v5 s0 M := by
  intro hf
  unfold w_Works_name_j126
  exact (mo_w_Works_name_j128 hD  lQ hQ hf)
set_option maxRecDepth 20000 in
theorem mo_w_Works_name_j87 {w : Nat} {D : Nat → Nat → Prop} {T : Nat → Prop} {h : Hot} {this : Nat} {Q Q' : Int32 → Mem → Prop} {h_Q : Hot} {v2 : Int32} {v3 : Int32} {v4 : Int32} {v5 : Int32} {v6 : Nat} {M : Mem} {M0 : Mem} (hD : Dok w D)  (lQ : ∀ t, h_Q t = true → h t = true) (hQ : ∀ z0 z1, Ow w D T h_Q M0 z1 → Q z0 z1 → Q' z0 z1) : Ow w D T h M0 M → w_Works_name_j87 this Q v2 v3 v4 v5 v6 M → w_Works_name_j87 this Q' v2 v3 v4 v5 v6 M := by
  intro hf
  unfold w_Works_name_j87
  exact (mf_ite (mf_and fun _ => (mf_and fun _ => (mo_w_Works_name_j126 hD  lQ hQ hf))) (mf_and fun _ => (mf_and fun _ => (mo_w_Works_name_j126 hD  lQ hQ hf))))
set_option maxRecDepth 20000 in
theorem mo_w_Works_name {w : Nat} {D : Nat → Nat → Prop} {T : Nat → Prop} {h : Hot} {this : Nat} {a1 : Int32} {a2 : Int32} {a3 : Int32} {a4 : Int32} {a5 : Int32} {Q Q' : Int32 → Mem → Prop} {M : Mem} (hD : Dok w D)  (hQ : ∀ z0 z1, Ow w D T h M z1 → Q z0 z1 → Q' z0 z1) : St w D T h M → w_Works_name this a1 a2 a3 a4 a5 Q M → w_Works_name this a1 a2 a3 a4 a5 Q' M := by
  intro hs
  unfold w_Works_name
  exact (mo_w_Works_isClass hD  (fun r2 M1 f1 => (have g2 : Ow w D T _ M M1 := (Ow.trans (Ow.rf hs) f1); (mf_ite (hQ _ _  g2) (mo_w_Works_isIn hD  (fun r5 M4 f3 => (have g4 : Ow w D T _ M M4 := (Ow.trans g2 f3); (mf_ite (hQ _ _  g4) (mo_w_Works_isIn hD  (fun r8 M7 f5 => (have g6 : Ow w D T _ M M7 := (Ow.trans g4 f5); (mf_ite (hQ _ _  g6) (mf_and fun _ => (Exists.imp fun i11 => (mf_and fun e7 => (mf_and fun _ => (mf_ite (mo_w_Works_name_j128 hD  (fun _ e => e) hQ g6) (mf_ite (mo_w_Works_isField hD  (fun r19 M18 f9 => (have g10 : Ow w D T _ M M18 := (Ow.trans g6 f9); (mf_ite (hQ _ _  g10) (mo_w_Works_name_j87 hD  (fun _ e => e) hQ g10)))) g6.1) (mo_w_Works_isMethod hD  (fun r27 M26 f11 => (have g12 : Ow w D T _ M M26 := (Ow.trans g6 f11); (mf_ite (hQ _ _  g12) (mo_w_Works_name_j87 hD  (fun _ e => e) hQ g12)))) g6.1)))))))))) g4.1)))) g2.1)))) (Ow.rf hs).1)
set_option maxRecDepth 20000 in
theorem mo_w_Works_member_j32 {w : Nat} {D : Nat → Nat → Prop} {T : Nat → Prop} {h : Hot} {this : Nat} {Q Q' : Int32 → Mem → Prop} {h_Q : Hot} {v2 : Int32} {v3 : Int32} {v4 : Int32} {v5 : Nat} {M : Mem} {M0 : Mem} (hD : Dok w D)  (lQ : ∀ t, h_Q t = true → h t = true) (hQ : ∀ z0 z1, Ow w D T h_Q M0 z1 → Q z0 z1 → Q' z0 z1) : Ow w D T h M0 M → w_Works_member_j32 this Q v2 v3 v4 v5 M → w_Works_member_j32 this Q' v2 v3 v4 v5 M := by
  intro hf
  unfold w_Works_member_j32
  exact (mo_w_Works_isField hD  (fun r8 M7 f1 => (have g2 : Ow w D T _ M0 M7 := (Ow.trans hf f1); (mf_ite (hQ _ _  (Ow.dn lQ g2)) (mf_and fun _ => (mf_ite (mf_and fun _ => (hQ _ _  (Ow.dn lQ g2))) (mf_and fun _ => (mo_w_JMath_min hD  (fun r15 M14 f3 => (have g4 : Ow w D T _ M0 M14 := (Ow.trans g2 f3); (hQ _ _  (Ow.dn lQ g4)))) g2.1))))))) hf.1)
set_option maxRecDepth 20000 in
theorem mo_w_Works_member {w : Nat} {D : Nat → Nat → Prop} {T : Nat → Prop} {h : Hot} {this : Nat} {a1 : Int32} {a2 : Int32} {a3 : Int32} {a4 : Int32} {Q Q' : Int32 → Mem → Prop} {M : Mem} (hD : Dok w D)  (hQ : ∀ z0 z1, Ow w D T h M z1 → Q z0 z1 → Q' z0 z1) : St w D T h M → w_Works_member this a1 a2 a3 a4 Q M → w_Works_member this a1 a2 a3 a4 Q' M := by
  intro hs
  unfold w_Works_member
  exact (mo_w_Works_isClass hD  (fun r2 M1 f1 => (have g2 : Ow w D T _ M M1 := (Ow.trans (Ow.rf hs) f1); (mf_ite (hQ _ _  g2) (mf_and fun _ => (Exists.imp fun i5 => (mf_and fun e3 => (mf_ite (mo_w_Works_member_j32 hD  (fun _ e => e) hQ g2) (mf_ite (mo_w_Works_member_j32 hD  (fun _ e => e) hQ g2) (mo_w_Works_isMethod hD  (fun r18 M17 f5 => (have g6 : Ow w D T _ M M17 := (Ow.trans g2 f5); (mf_ite (hQ _ _  g6) (mf_and fun _ => (mf_ite (mf_and fun _ => (hQ _ _  g6)) (mf_ite (mf_and fun _ => (hQ _ _  g6)) (mf_ite (mf_and fun _ => (hQ _ _  g6)) (mf_ite (mf_and fun _ => (hQ _ _  g6)) (mf_ite (mf_and fun _ => (hQ _ _  g6)) (hQ _ _  g6)))))))))) g2.1))))))))) (Ow.rf hs).1)
set_option maxRecDepth 20000 in
theorem mo_w_Works_link {w : Nat} {D : Nat → Nat → Prop} {T : Nat → Prop} {h : Hot} {this : Nat} {a1 : Int32} {a2 : Int32} {Q Q' : Int32 → Mem → Prop} {M : Mem} (hD : Dok w D) (n0 : T a1.toNatClampNeg) (hQ : ∀ z0 z1, Ow w D T h M z1 → Q z0 z1 → Q' z0 z1) : St w D T h M → w_Works_link this a1 a2 Q M → w_Works_link this a1 a2 Q' M := by
  intro hs
  unfold w_Works_link
  exact (mo_w_Works_isClass hD  (fun r2 M1 f1 => (have g2 : Ow w D T _ M M1 := (Ow.trans (Ow.rf hs) f1); (mf_ite (hQ _ _  g2) (mf_and fun _ => (Exists.imp fun i5 => (mf_and fun e3 => (have o4 : ow w D 5 i5 := (Ow.rT e3 rfl n0 g2); (mo_w_World_link hD (ow.to o4 rfl rfl) (fun r7 M6 f5 => (have g6 : Ow w D T _ M M6 := (Ow.trans g2 f5); (mf_ite (hQ _ _  g6) (hQ _ _  g6)))) g2.1)))))))) (Ow.rf hs).1)
set_option maxRecDepth 20000 in
theorem mo_w_Works_checked {w : Nat} {D : Nat → Nat → Prop} {T : Nat → Prop} {h : Hot} {this : Nat} {a1 : Int32} {a2 : Int32} {Q Q' : Int32 → Mem → Prop} {M : Mem} (hD : Dok w D)  (hQ : ∀ z0 z1, Ow w D T h M z1 → Q z0 z1 → Q' z0 z1) : St w D T h M → w_Works_checked this a1 a2 Q M → w_Works_checked this a1 a2 Q' M := by
  intro hs
  unfold w_Works_checked
  exact (mo_w_Works_isWorld hD  (fun r2 M1 f1 => (have g2 : Ow w D T _ M M1 := (Ow.trans (Ow.rf hs) f1); (mf_ite (hQ _ _  g2) (mf_and fun _ => (Exists.imp fun i5 => (mf_and fun e3 => (mf_ite (hQ _ _  g2) (mf_ite (hQ _ _  g2) (mf_ite (hQ _ _  g2) (hQ _ _  g2)))))))))) (Ow.rf hs).1)
set_option maxRecDepth 20000 in
theorem mo_w_Works_isThread {w : Nat} {D : Nat → Nat → Prop} {T : Nat → Prop} {h : Hot} {this : Nat} {a1 : Int32} {a2 : Int32} {Q Q' : Int32 → Mem → Prop} {M : Mem} (hD : Dok w D)  (hQ : ∀ z0 z1, Ow w D T h M z1 → Q z0 z1 → Q' z0 z1) : St w D T h M → w_Works_isThread this a1 a2 Q M → w_Works_isThread this a1 a2 Q' M := by
  intro hs
  unfold w_Works_isThread
  exact (mo_w_Works_isWorld hD  (fun r2 M1 f1 => (have g2 : Ow w D T _ M M1 := (Ow.trans (Ow.rf hs) f1); (mf_ite (hQ _ _  g2) (mo_w_Works_isIn hD  (fun r5 M4 f3 => (have g4 : Ow w D T _ M M4 := (Ow.trans g2 f3); (mf_ite (hQ _ _  g4) (hQ _ _  g4)))) g2.1)))) (Ow.rf hs).1)
set_option maxRecDepth 20000 in
theorem mo_w_Reader_asked_L47 {w : Nat} {D : Nat → Nat → Prop} {T : Nat → Prop} {h : Hot} {this : Nat} {Q Q' : Mem → Prop} {h_Q : Hot} {X X' : Mem → Prop} {h_X : Hot} {M0 : Mem} (hD : Dok w D)  (lQ : ∀ t, h_Q t = true → h t = true) (hQ : ∀ z0, Ow w D T h_Q M0 z0 → Q z0 → Q' z0) (lX : ∀ t, h_X t = true → h t = true) (hX : ∀ z0, Ow w D T h_X M0 z0 → X z0 → X' z0) : ∀ (n : Nat) (s0 : Nat) (M : Mem), Ow w D T h M0 M → w_Reader_asked_L47 this Q X n s0 M → w_Reader_asked_L47 this Q' X' n s0 M
  | 0, _, _ => fun  _ h => h
  | n + 1, s0, M => fun  hf => by
    unfold w_Reader_asked_L47
    exact (mf_and fun _ => (mf_and fun _ => (hX _  (Ow.dn lX (Ow.wI (ow0 rfl) hf)))))
set_option maxRecDepth 20000 in
theorem mo_w_Reader_asked {w : Nat} {D : Nat → Nat → Prop} {T : Nat → Prop} {h : Hot} {this : Nat} {a1 : Nat} {Q Q' : Mem → Prop} {X X' : Mem → Prop} {M : Mem} (hD : Dok w D) (n0 : ow w D 5 a1) (hQ : ∀ z0, Ow w D T h M z0 → Q z0 → Q' z0) (hX : ∀ z0, Ow w D T h M z0 → X z0 → X' z0) : St w D T h M → w_Reader_asked this a1 Q X M → w_Reader_asked this a1 Q' X' M := by
  intro hs
  unfold w_Reader_asked
  exact (Exists.imp fun i1 => (mf_and fun e1 => (have g3 : Ow w D T _ M (sR M 3 this 1 (some (5, a1))) := (Ow.wRh rfl (ow0 rfl) n0 (Ow.rf hs)); (mo_w_Reader_className hD  (fun r3 M2 f4 => (have g5 : Ow w D T _ M M2 := (Ow.trans g3 f4); (mo_w_Reader_sign hD  (fun M4 f6 => (have g7 : Ow w D T _ M M4 := (Ow.trans g5 f6); (mo_w_Reader_anyName hD  (fun r6 M5 f8 => (have g9 : Ow w D T _ M M5 := (Ow.trans g7 f8); (mf_and fun _ => (have g10 : Ow w D T _ M (sI M5 3 this 17 (1 : Int32)) := (Ow.wI (ow0 rfl) g9); (mo_w_Reader_types hD  (fun M8 f11 => (have g12 : Ow w D T _ M M8 := (Ow.trans g10 f11); (mf_and fun _ => (have g13 : Ow w D T _ M (sI M8 3 this 17 (0 : Int32)) := (Ow.wI (ow0 rfl) g12); (mo_w_Reader_result hD  (fun r11 M10 f14 => (have g15 : Ow w D T _ M M10 := (Ow.trans g13 f14); (mo_w_Reader_end hD  (fun M12 f16 => (have g17 : Ow w D T _ M M12 := (Ow.trans g15 f16); (Exists.imp fun i13 => (mf_and fun e18 => (have o19 : ow w D 5 i13 := (Ow.rh e18 rfl up_s g17); (have g20 : Ow w D T _ M (sI M12 5 i13 53 (3 : Int32)) := (Ow.wI o19 g17); (mo_w_Reader_addReference hD up_s (fun r15 M14 f21 => (have g22 : Ow w D T _ M M14 := (Ow.trans g20 f21); (Exists.imp fun i16 => (mf_and fun e23 => (have o24 : ow w D 5 i16 := (Ow.rh e23 rfl up_s g22); (hQ _  (Ow.dn1 (Ow.wI o24 g22)))))))) g20.1))))))) (fun z26 f25 => hX z26 (Ow.dn1 (Ow.trans g15 f25))) g15.1))) (fun z28 f27 => hX z28 (Ow.dn1 (Ow.trans g13 f27))) g13.1))))) (fun M17 f29 => (have g30 : Ow w D T _ M M17 := (Ow.trans g10 f29); (Exists.imp fun n19 => (mo_w_Reader_asked_L47 hD  (leU (fun _ e => e)) hQ (leU (fun _ e => e)) hX _ _ _  g30)))) g10.1))))) (fun z32 f31 => hX z32 (Ow.dn1 (Ow.trans g7 f31))) g7.1))) (fun z34 f33 => hX z34 (Ow.dn1 (Ow.trans g5 f33))) g5.1))) (fun z36 f35 => hX z36 (Ow.dn1 (Ow.trans g3 f35))) g3.1))))
set_option maxRecDepth 20000 in
theorem mo_w_Works_isTaken_j105 {w : Nat} {D : Nat → Nat → Prop} {T : Nat → Prop} {h : Hot} {this : Nat} {Q Q' : Int32 → Mem → Prop} {h_Q : Hot} {s0 : Nat} {M : Mem} {M0 : Mem} (hD : Dok w D)  (lQ : ∀ t, h_Q t = true → h t = true) (hQ : ∀ z0 z1, Ow w D T h_Q M0 z1 → Q z0 z1 → Q' z0 z1) : Ow w D T h M0 M → w_Works_isTaken_j105 this Q s0 M → w_Works_isTaken_j105 this Q' s0 M := by
  intro hf
  unfold w_Works_isTaken_j105
  exact (hQ _ _  (Ow.dn lQ (Ow.wI (ow0 rfl) hf)))
set_option maxRecDepth 20000 in
theorem mo_w_Works_isTaken_j45 {w : Nat} {D : Nat → Nat → Prop} {T : Nat → Prop} {h : Hot} {this : Nat} {Q Q' : Int32 → Mem → Prop} {h_Q : Hot} {v3 : Int32} {M : Mem} {M0 : Mem} (hD : Dok w D)  (lQ : ∀ t, h_Q t = true → h t = true) (hQ : ∀ z0 z1, Ow w D T h_Q M0 z1 → Q z0 z1 → Q' z0 z1) : Ow w D T h M0 M → w_Works_isTaken_j45 this Q v3 M → w_Works_isTaken_j45 this Q' v3 M := by
  intro hf
  unfold w_Works_isTaken_j45
  exact (mo_w_Works_refuse hD  (fun i4 M3 f1 => (have g2 : Ow w D T _ M0 M3 := (Ow.trans hf f1); (mo_w_Works_isTaken_j105 hD  lQ hQ g2))) hf.1)
set_option maxRecDepth 20000 in
theorem mo_w_Works_isTaken_j77 {w : Nat} {D : Nat → Nat → Prop} {T : Nat → Prop} {h : Hot} {this : Nat} {Q Q' : Int32 → Mem → Prop} {h_Q : Hot} {M : Mem} {M0 : Mem} (hD : Dok w D)  (lQ : ∀ t, h_Q t = true → h t = true) (hQ : ∀ z0 z1, Ow w D T h_Q M0 z1 → Q z0 z1 → Q' z0 z1) : Ow w D T h M0 M → w_Works_isTaken_j77 this Q M → w_Works_isTaken_j77 this Q' M := by
  intro hf
  unfold w_Works_isTaken_j77
  exact (mo_w_Reader_nextLine hD  (fun r11 M10 f1 => (have g2 : Ow w D T _ M0 M10 := (Ow.trans hf f1); (mf_ite (hQ _ _  (Ow.dn lQ g2)) (mo_w_Works_refuse hD  (fun i14 M13 f3 => (have g4 : Ow w D T _ M0 M13 := (Ow.trans g2 f3); (mo_w_Works_isTaken_j105 hD  lQ hQ g4))) g2.1)))) hf.1)
set_option maxRecDepth 20000 in
theorem mo_w_Works_isTaken {w : Nat} {D : Nat → Nat → Prop} {T : Nat → Prop} {h : Hot} {this : Nat} {a1 : Nat} {a2 : Int32} {Q Q' : Int32 → Mem → Prop} {M : Mem} (hD : Dok w D) (n0 : ow w D 5 a1) (hQ : ∀ z0 z1, Ow w D T h M z1 → Q z0 z1 → Q' z0 z1) : St w D T h M → w_Works_isTaken this a1 a2 Q M → w_Works_isTaken this a1 a2 Q' M := by
  intro hs
  unfold w_Works_isTaken
  exact (have g1 : Ow w D T _ M (sI (sI M 10 this 1 (0 : Int32)) 10 this 21 (-2 : Int32)) := (Ow.wI (ow0 rfl) (Ow.wI (ow0 rfl) (Ow.rf hs))); (mo_w_Words_begin hD  (fun M1 f2 => (have g3 : Ow w D T _ M M1 := (Ow.trans g1 f2); (mf_ite (mo_w_Works_isTaken_j45 hD  (fun _ e => e) hQ g3) (mo_w_Reader_begin hD  (fun r6 M5 f4 => (have g5 : Ow w D T _ M M5 := (Ow.trans g3 f4); (mf_ite (mo_w_Works_isTaken_j45 hD  (fun _ e => e) hQ g5) (mf_ite (mo_w_Reader_asked hD n0 (fun M9 f6 => (have g7 : Ow w D T _ M M9 := (Ow.trans g5 f6); (mo_w_Works_isTaken_j77 hD  (fun _ e => e) hQ g7))) (fun M15 f8 => (have g9 : Ow w D T _ M M15 := (Ow.trans g5 f8); (mo_w_Works_isTaken_j105 hD  (fun _ e => e) hQ g9))) g5.1) (mo_w_Reader_call hD n0 (fun M16 f10 => (have g11 : Ow w D T _ M M16 := (Ow.trans g5 f10); (mo_w_Works_isTaken_j77 hD  (fun _ e => e) hQ g11))) (fun M17 f12 => (have g13 : Ow w D T _ M M17 := (Ow.trans g5 f12); (mo_w_Works_isTaken_j105 hD  (fun _ e => e) hQ g13))) g5.1))))) g3.1)))) g1.1))
set_option maxRecDepth 20000 in
theorem mo_w_Works_call {w : Nat} {D : Nat → Nat → Prop} {T : Nat → Prop} {h : Hot} {this : Nat} {a1 : Int32} {a2 : Int32} {Q Q' : Int32 → Mem → Prop} {M : Mem} (hD : Dok w D) (n0 : T a1.toNatClampNeg) (hQ : ∀ z0 z1, Ow w D T h M z1 → Q z0 z1 → Q' z0 z1) : St w D T h M → w_Works_call this a1 a2 Q M → w_Works_call this a1 a2 Q' M := by
  intro hs
  unfold w_Works_call
  exact (mo_w_Works_isThread hD  (fun r2 M1 f1 => (have g2 : Ow w D T _ M M1 := (Ow.trans (Ow.rf hs) f1); (mf_ite (hQ _ _  g2) (mf_and fun _ => (Exists.imp fun i5 => (mf_and fun e3 => (have o4 : ow w D 5 i5 := (Ow.rT e3 rfl n0 g2); (mf_and fun _ => (Exists.imp fun i7 => (mf_and fun e5 => (have o6 : ow w D 7 i7 := (Ow.r1 e5 rfl rfl (ow.to o4 rfl rfl) g2); (mf_ite (hQ _ _  g2) (mo_w_Line_clear hD o6 (fun M9 f7 => (have g8 : Ow w D T _ M M9 := (Ow.trans g2 f7); (mo_w_Works_isTaken hD o4 (fun r11 M10 f9 => (have g10 : Ow w D T _ M M10 := (Ow.trans g8 f9); (mf_ite (hQ _ _  g10) (mo_w_Line_call hD o6 (fun M13 f11 => (have g12 : Ow w D T _ M M13 := (Ow.trans g10 f11); (hQ _ _  g12))) g10.1)))) g8.1))) g2.1))))))))))))) (Ow.rf hs).1)
set_option maxRecDepth 20000 in
theorem mo_w_Machine_isOn {w : Nat} {D : Nat → Nat → Prop} {T : Nat → Prop} {h : Hot} {this : Nat} {Q Q' : Int32 → Mem → Prop} {M : Mem} (hD : Dok w D)  (hQ : ∀ z0 z1, Ow w D T h M z1 → Q z0 z1 → Q' z0 z1) : St w D T h M → w_Machine_isOn this Q M → w_Machine_isOn this Q' M := by
  intro hs
  unfold w_Machine_isOn
  exact (mf_and fun _ => (Exists.imp fun i2 => (mf_and fun e1 => (mf_ite (hQ _ _  (Ow.rf hs)) (mf_and fun _ => (Exists.imp fun i5 => (mf_and fun e3 => (mf_ite (hQ _ _  (Ow.rf hs)) (mf_and fun _ => (Exists.imp fun i8 => (mf_and fun e5 => (mf_ite (hQ _ _  (Ow.rf hs)) (hQ _ _  (Ow.rf hs))))))))))))))
set_option maxRecDepth 20000 in
theorem mo_w_Works_step_j70 {w : Nat} {D : Nat → Nat → Prop} {T : Nat → Prop} {h : Hot} {this : Nat} {Q Q' : Int32 → Mem → Prop} {h_Q : Hot} {v2 : Int32} {v3 : Nat} {M : Mem} {M0 : Mem} (hD : Dok w D) (n0 : ow w D 6 v3) (lQ : ∀ t, h_Q t = true → h t = true) (hQ : ∀ z0 z1, Ow w D T h_Q M0 z1 → Q z0 z1 → Q' z0 z1) : Ow w D T h M0 M → w_Works_step_j70 this Q v2 v3 M → w_Works_step_j70 this Q' v2 v3 M := by
  intro hf
  unfold w_Works_step_j70
  exact (mo_w_Machine_isOn hD  (fun r19 M18 f1 => (have g2 : Ow w D T _ M0 M18 := (Ow.trans hf f1); (mf_ite (hQ _ _  (Ow.dn lQ g2)) (mf_ite (mo_w_Machine_go hD n0 (fun r23 M22 f3 => (have g4 : Ow w D T _ M0 M22 := (Ow.trans g2 f3); (mo_w_Machine_isOn hD  (fun r25 M24 f5 => (have g6 : Ow w D T _ M0 M24 := (Ow.trans g4 f5); (mf_ite (hQ _ _  (Ow.dn lQ g6)) (mf_ite (hQ _ _  (Ow.dn lQ g6)) (hQ _ _  (Ow.dn lQ g6)))))) g4.1))) g2.1) (hQ _ _  (Ow.dn lQ g2)))))) hf.1)
set_option maxRecDepth 20000 in
theorem mo_w_Works_step {w : Nat} {D : Nat → Nat → Prop} {T : Nat → Prop} {h : Hot} {this : Nat} {a1 : Int32} {a2 : Int32} {Q Q' : Int32 → Mem → Prop} {M : Mem} (hD : Dok w D) (n0 : T a1.toNatClampNeg) (hQ : ∀ z0 z1, Ow w D T h M z1 → Q z0 z1 → Q' z0 z1) : St w D T h M → w_Works_step this a1 a2 Q M → w_Works_step this a1 a2 Q' M := by
  intro hs
  unfold w_Works_step
  exact (mo_w_Works_isWorld hD  (fun r2 M1 f1 => (have g2 : Ow w D T _ M M1 := (Ow.trans (Ow.rf hs) f1); (mf_ite (hQ _ _  g2) (mo_w_Works_isIn hD  (fun r5 M4 f3 => (have g4 : Ow w D T _ M M4 := (Ow.trans g2 f3); (mf_ite (hQ _ _  g4) (mf_and fun _ => (Exists.imp fun i8 => (mf_and fun e5 => (have o6 : ow w D 5 i8 := (Ow.rT e5 rfl n0 g4); (mf_and fun _ => (Exists.imp fun i10 => (mf_and fun e7 => (mf_ite (mf_and fun _ => (Exists.imp fun i13 => (mf_and fun e9 => (mf_ite (mf_and fun _ => (Exists.imp fun i16 => (mf_and fun e11 => (mf_ite (hQ _ _  g4) (mo_w_Works_step_j70 hD (ow.to o6 rfl rfl) (fun _ e => e) hQ g4))))) (mo_w_Works_step_j70 hD (ow.to o6 rfl rfl) (fun _ e => e) hQ g4))))) (mo_w_Works_step_j70 hD (ow.to o6 rfl rfl) (fun _ e => e) hQ g4)))))))))))) g2.1)))) (Ow.rf hs).1)
set_option maxRecDepth 20000 in
theorem mo_w_Line_uppermost_L7 {w : Nat} {D : Nat → Nat → Prop} {T : Nat → Prop} {h : Hot} {this : Nat} {Q Q' : Int32 → Mem → Prop} {h_Q : Hot} {M0 : Mem} (hD : Dok w D)  (lQ : ∀ t, h_Q t = true → h t = true) (hQ : ∀ z0 z1, Ow w D T h_Q M0 z1 → Q z0 z1 → Q' z0 z1) : ∀ (n : Nat) (v1 : Int32) (M : Mem), Ow w D T h M0 M → w_Line_uppermost_L7 this Q n v1 M → w_Line_uppermost_L7 this Q' n v1 M
  | 0, _, _ => fun  _ h => h
  | n + 1, v1, M => fun  hf => by
    unfold w_Line_uppermost_L7
    exact (mf_ite (hQ _ _  (Ow.dn lQ hf)) (mf_and fun _ => (mf_ite (hQ _ _  (Ow.dn lQ hf)) (mo_w_Line_uppermost_L7 hD  lQ hQ _ _ _  hf))))
set_option maxRecDepth 20000 in
theorem mo_w_Line_uppermost {w : Nat} {D : Nat → Nat → Prop} {T : Nat → Prop} {h : Hot} {this : Nat} {Q Q' : Int32 → Mem → Prop} {M : Mem} (hD : Dok w D)  (hQ : ∀ z0 z1, Ow w D T h M z1 → Q z0 z1 → Q' z0 z1) : St w D T h M → w_Line_uppermost this Q M → w_Line_uppermost this Q' M := by
  intro hs
  unfold w_Line_uppermost
  exact (Exists.imp fun n4 => (mo_w_Line_uppermost_L7 hD  (fun _ e => e) hQ _ _ _  (Ow.rf hs)))
set_option maxRecDepth 20000 in
theorem mo_w_Works_run {w : Nat} {D : Nat → Nat → Prop} {T : Nat → Prop} {h : Hot} {this : Nat} {a1 : Int32} {a2 : Int32} {a3 : Int32} {Q Q' : Int32 → Mem → Prop} {M : Mem} (hD : Dok w D)  (hQ : ∀ z0 z1, Ow w D T h M z1 → Q z0 z1 → Q' z0 z1) : St w D T h M → w_Works_run this a1 a2 a3 Q M → w_Works_run this a1 a2 a3 Q' M := by
  intro hs
  unfold w_Works_run
  exact (mo_w_Works_isThread hD  (fun r2 M1 f1 => (have g2 : Ow w D T _ M M1 := (Ow.trans (Ow.rf hs) f1); (mf_ite (hQ _ _  g2) (mf_and fun _ => (Exists.imp fun i5 => (mf_and fun e3 => (mf_and fun _ => (Exists.imp fun i7 => (mf_and fun e5 => (mo_w_Line_uppermost hD  (fun r9 M8 f7 => (have g8 : Ow w D T _ M M8 := (Ow.trans g2 f7); (mf_ite (mf_ite (hQ _ _  g8) (mf_ite (mo_w_Machine_waits hD  (fun r43 M42 f9 => (have g10 : Ow w D T _ M M42 := (Ow.trans g8 f9); (mf_ite (hQ _ _  g10) (hQ _ _  g10)))) g8.1) (hQ _ _  g8))) (mf_ite (hQ _ _  g8) (mf_ite (hQ _ _  g8) (mf_ite (hQ _ _  g8) (mf_ite (hQ _ _  g8) (mf_ite (hQ _ _  g8) (mf_ite (hQ _ _  g8) (mf_ite (mf_ite (mf_and fun _ => (Exists.imp fun i37 => (mf_and fun e11 => (mf_and fun _ => (mf_and fun _ => (hQ _ _  g8)))))) (hQ _ _  g8)) (mf_ite (mf_ite (mf_and fun _ => (mf_and fun _ => (Exists.imp fun i29 => (mf_and fun e13 => (mf_and fun _ => (Exists.imp fun i31 => (mf_and fun e15 => (mf_and fun _ => (mf_and fun _ => (mf_and fun _ => (hQ _ _  g8))))))))))) (hQ _ _  g8)) (mf_ite (mf_ite (mf_and fun _ => (hQ _ _  g8)) (hQ _ _  g8)) (mf_ite (hQ _ _  g8) (mf_ite (hQ _ _  g8) (mf_ite (hQ _ _  g8) (mf_ite (hQ _ _  g8) (hQ _ _  g8))))))))))))))))) g2.1)))))))))) (Ow.rf hs).1)
set_option maxRecDepth 20000 in
theorem mo_w_Works_started {w : Nat} {D : Nat → Nat → Prop} {T : Nat → Prop} {h : Hot} {this : Nat} {a1 : Int32} {a2 : Int32} {Q Q' : Int32 → Mem → Prop} {M : Mem} (hD : Dok w D)  (hQ : ∀ z0 z1, Ow w D T h M z1 → Q z0 z1 → Q' z0 z1) : St w D T h M → w_Works_started this a1 a2 Q M → w_Works_started this a1 a2 Q' M := by
  intro hs
  unfold w_Works_started
  exact (mo_w_Works_isWorld hD  (fun r2 M1 f1 => (have g2 : Ow w D T _ M M1 := (Ow.trans (Ow.rf hs) f1); (mf_ite (hQ _ _  g2) (mf_and fun _ => (Exists.imp fun i5 => (mf_and fun e3 => (mo_w_Works_isIn hD  (fun r7 M6 f5 => (have g6 : Ow w D T _ M M6 := (Ow.trans g2 f5); (mf_ite (hQ _ _  g6) (mf_and fun _ => (Exists.imp fun i10 => (mf_and fun e7 => (mf_and fun _ => (hQ _ _  g6)))))))) g2.1))))))) (Ow.rf hs).1)
set_option maxRecDepth 20000 in
theorem mo_w_Works_shown {w : Nat} {D : Nat → Nat → Prop} {T : Nat → Prop} {h : Hot} {this : Nat} {a1 : Int32} {a2 : Int32} {Q Q' : Int32 → Mem → Prop} {M : Mem} (hD : Dok w D)  (hQ : ∀ z0 z1, Ow w D T h M z1 → Q z0 z1 → Q' z0 z1) : St w D T h M → w_Works_shown this a1 a2 Q M → w_Works_shown this a1 a2 Q' M := by
  intro hs
  unfold w_Works_shown
  exact (mf_ite (hQ _ _  (Ow.rf hs)) (mf_ite (hQ _ _  (Ow.rf hs)) (hQ _ _  (Ow.rf hs))))
set_option maxRecDepth 20000 in
theorem mo_w_Works_value_j114 {w : Nat} {D : Nat → Nat → Prop} {T : Nat → Prop} {h : Hot} {this : Nat} {Q Q' : Int32 → Mem → Prop} {h_Q : Hot} {v5 : Nat} {s0 : Int32} {s1 : Int32} {M : Mem} {M0 : Mem} (hD : Dok w D)  (lQ : ∀ t, h_Q t = true → h t = true) (hQ : ∀ z0 z1, Ow w D T h_Q M0 z1 → Q z0 z1 → Q' z0 z1) : Ow w D T h M0 M → w_Works_value_j114 this Q v5 s0 s1 M → w_Works_value_j114 this Q' v5 s0 s1 M := by
  intro hf
  unfold w_Works_value_j114
  exact (mf_and fun _ => (mf_and fun _ => (mo_w_Works_shown hD  (fun r22 M21 f1 => (have g2 : Ow w D T _ M0 M21 := (Ow.trans hf f1); (hQ _ _  (Ow.dn lQ g2)))) hf.1)))
set_option maxRecDepth 20000 in
theorem mo_w_Works_value_j79 {w : Nat} {D : Nat → Nat → Prop} {T : Nat → Prop} {h : Hot} {this : Nat} {Q Q' : Int32 → Mem → Prop} {h_Q : Hot} {v3 : Int32} {v4 : Int32} {v5 : Nat} {v6 : Int32} {s0 : Int32} {s1 : Int32} {M : Mem} {M0 : Mem} (hD : Dok w D)  (lQ : ∀ t, h_Q t = true → h t = true) (hQ : ∀ z0 z1, Ow w D T h_Q M0 z1 → Q z0 z1 → Q' z0 z1) : Ow w D T h M0 M → w_Works_value_j79 this Q v3 v4 v5 v6 s0 s1 M → w_Works_value_j79 this Q' v3 v4 v5 v6 s0 s1 M := by
  intro hf
  unfold w_Works_value_j79
  exact (mf_ite (mf_ite (mo_w_Works_value_j114 hD  lQ hQ hf) (mf_and fun _ => (mo_w_Works_value_j114 hD  lQ hQ hf))) (hQ _ _  (Ow.dn lQ hf)))
set_option maxRecDepth 20000 in
theorem mo_w_Works_value {w : Nat} {D : Nat → Nat → Prop} {T : Nat → Prop} {h : Hot} {this : Nat} {a1 : Int32} {a2 : Int32} {a3 : Int32} {a4 : Int32} {Q Q' : Int32 → Mem → Prop} {M : Mem} (hD : Dok w D)  (hQ : ∀ z0 z1, Ow w D T h M z1 → Q z0 z1 → Q' z0 z1) : St w D T h M → w_Works_value this a1 a2 a3 a4 Q M → w_Works_value this a1 a2 a3 a4 Q' M := by
  intro hs
  unfold w_Works_value
  exact (mo_w_Works_isThread hD  (fun r2 M1 f1 => (have g2 : Ow w D T _ M M1 := (Ow.trans (Ow.rf hs) f1); (mf_ite (hQ _ _  g2) (mf_and fun _ => (Exists.imp fun i5 => (mf_and fun e3 => (mf_and fun _ => (Exists.imp fun i7 => (mf_and fun e5 => (mo_w_Line_uppermost hD  (fun r9 M8 f7 => (have g8 : Ow w D T _ M M8 := (Ow.trans g2 f7); (mf_ite (hQ _ _  g8) (mf_ite (hQ _ _  g8) (mf_ite (mf_and fun _ => (Exists.imp fun i14 => (mf_and fun e9 => (mf_and fun _ => (mf_and fun _ => (mo_w_Works_value_j79 hD  (fun _ e => e) hQ g8)))))) (mf_and fun _ => (mo_w_Works_value_j79 hD  (fun _ e => e) hQ g8))))))) g2.1)))))))))) (Ow.rf hs).1)
set_option maxRecDepth 20000 in
theorem mo_w_Works_fixed_j87 {w : Nat} {D : Nat → Nat → Prop} {T : Nat → Prop} {h : Hot} {this : Nat} {Q Q' : Int32 → Mem → Prop} {h_Q : Hot} {s0 : Int32} {s1 : Int32} {M : Mem} {M0 : Mem} (hD : Dok w D)  (lQ : ∀ t, h_Q t = true → h t = true) (hQ : ∀ z0 z1, Ow w D T h_Q M0 z1 → Q z0 z1 → Q' z0 z1) : Ow w D T h M0 M → w_Works_fixed_j87 this Q s0 s1 M → w_Works_fixed_j87 this Q' s0 s1 M := by
  intro hf
  unfold w_Works_fixed_j87
  exact (mo_w_Works_shown hD  (fun r18 M17 f1 => (have g2 : Ow w D T _ M0 M17 := (Ow.trans hf f1); (hQ _ _  (Ow.dn lQ g2)))) hf.1)
set_option maxRecDepth 20000 in
theorem mo_w_Works_fixed {w : Nat} {D : Nat → Nat → Prop} {T : Nat → Prop} {h : Hot} {this : Nat} {a1 : Int32} {a2 : Int32} {a3 : Int32} {Q Q' : Int32 → Mem → Prop} {M : Mem} (hD : Dok w D)  (hQ : ∀ z0 z1, Ow w D T h M z1 → Q z0 z1 → Q' z0 z1) : St w D T h M → w_Works_fixed this a1 a2 a3 Q M → w_Works_fixed this a1 a2 a3 Q' M := by
  intro hs
  unfold w_Works_fixed
  exact (mo_w_Works_isClass hD  (fun r2 M1 f1 => (have g2 : Ow w D T _ M M1 := (Ow.trans (Ow.rf hs) f1); (mf_ite (hQ _ _  g2) (mf_and fun _ => (Exists.imp fun i5 => (mf_and fun e3 => (mo_w_Works_isField hD  (fun r7 M6 f5 => (have g6 : Ow w D T _ M M6 := (Ow.trans g2 f5); (mf_ite (hQ _ _  g6) (mf_and fun _ => (Exists.imp fun i10 => (mf_and fun e7 => (mf_and fun _ => (mf_and fun _ => (mf_ite (hQ _ _  g6) (mf_and fun _ => (mf_and fun _ => (mf_ite (mo_w_Works_fixed_j87 hD  (fun _ e => e) hQ g6) (mo_w_Works_fixed_j87 hD  (fun _ e => e) hQ g6))))))))))))) g2.1))))))) (Ow.rf hs).1)
set_option maxRecDepth 20000 in
theorem mo_w_World_fieldKind_j52 {w : Nat} {D : Nat → Nat → Prop} {T : Nat → Prop} {h : Hot} {this : Nat} {Q Q' : Int32 → Mem → Prop} {h_Q : Hot} {k29 k29' : Int32 → Int32 → Mem → Prop} {h_k29 : Hot} {v2 : Int32} {v4 : Int32} {M : Mem} {M0 : Mem} (hD : Dok w D)  (lQ : ∀ t, h_Q t = true → h t = true) (hQ : ∀ z0 z1, Ow w D T h_Q M0 z1 → Q z0 z1 → Q' z0 z1) (lk29 : ∀ t, h_k29 t = true → h t = true) (hk29 : ∀ z0 z1 z2, Ow w D T h_k29 M0 z2 → k29 z0 z1 z2 → k29' z0 z1 z2) : Ow w D T h M0 M → w_World_fieldKind_j52 this Q k29 v2 v4 M → w_World_fieldKind_j52 this Q' k29' v2 v4 M := by
  intro hf
  unfold w_World_fieldKind_j52
  exact (hk29 _ _ _  (Ow.dn lk29 hf))
set_option maxRecDepth 20000 in
theorem mo_w_World_fieldKind_L29 {w : Nat} {D : Nat → Nat → Prop} {T : Nat → Prop} {h : Hot} {this : Nat} {Q Q' : Int32 → Mem → Prop} {h_Q : Hot} {M0 : Mem} (hD : Dok w D)  (lQ : ∀ t, h_Q t = true → h t = true) (hQ : ∀ z0 z1, Ow w D T h_Q M0 z1 → Q z0 z1 → Q' z0 z1) : ∀ (n : Nat) (v2 : Int32) (v4 : Int32) (M : Mem), Ow w D T h M0 M → w_World_fieldKind_L29 this Q n v2 v4 M → w_World_fieldKind_L29 this Q' n v2 v4 M
  | 0, _, _, _ => fun  _ h => h
  | n + 1, v2, v4, M => fun  hf => by
    unfold w_World_fieldKind_L29
    exact (mf_and fun _ => (mf_ite (mf_and fun _ => (mf_ite (mf_and fun _ => (hQ _ _  (Ow.dn lQ hf))) (mo_w_World_fieldKind_j52 hD  lQ hQ (fun _ e => e) (fun y0 y1 y2  hf => mo_w_World_fieldKind_L29 hD  lQ hQ n y0 y1 y2  hf) hf))) (mo_w_World_fieldKind_j52 hD  lQ hQ (fun _ e => e) (fun y0 y1 y2  hf => mo_w_World_fieldKind_L29 hD  lQ hQ n y0 y1 y2  hf) hf)))
set_option maxRecDepth 20000 in
theorem mo_w_World_fieldKind_L2 {w : Nat} {D : Nat → Nat → Prop} {T : Nat → Prop} {h : Hot} {this : Nat} {Q Q' : Int32 → Mem → Prop} {h_Q : Hot} {M0 : Mem} (hD : Dok w D)  (lQ : ∀ t, h_Q t = true → h t = true) (hQ : ∀ z0 z1, Ow w D T h_Q M0 z1 → Q z0 z1 → Q' z0 z1) : ∀ (n : Nat) (v2 : Int32) (v3 : Int32) (M : Mem), Ow w D T h M0 M → w_World_fieldKind_L2 this Q n v2 v3 M → w_World_fieldKind_L2 this Q' n v2 v3 M
  | 0, _, _, _ => fun  _ h => h
  | n + 1, v2, v3, M => fun  hf => by
    unfold w_World_fieldKind_L2
    exact (mf_and fun _ => (mf_ite (mf_and fun _ => (Exists.imp fun n9 => (mo_w_World_fieldKind_L29 hD  lQ hQ _ _ _ _  hf))) (mo_w_World_up hD  (fun r11 M10 f1 => (have g2 : Ow w D T _ M0 M10 := (Ow.trans hf f1); (mo_w_World_fieldKind_L2 hD  lQ hQ _ _ _ _  g2))) hf.1)))
set_option maxRecDepth 20000 in
theorem mo_w_World_fieldKind {w : Nat} {D : Nat → Nat → Prop} {T : Nat → Prop} {h : Hot} {this : Nat} {a1 : Int32} {a2 : Int32} {Q Q' : Int32 → Mem → Prop} {M : Mem} (hD : Dok w D)  (hQ : ∀ z0 z1, Ow w D T h M z1 → Q z0 z1 → Q' z0 z1) : St w D T h M → w_World_fieldKind this a1 a2 Q M → w_World_fieldKind this a1 a2 Q' M := by
  intro hs
  unfold w_World_fieldKind
  exact (Exists.imp fun n12 => (mo_w_World_fieldKind_L2 hD  (fun _ e => e) hQ _ _ _ _  (Ow.rf hs)))
set_option maxRecDepth 20000 in
theorem mo_w_Works_object_j184 {w : Nat} {D : Nat → Nat → Prop} {T : Nat → Prop} {h : Hot} {this : Nat} {Q Q' : Int32 → Mem → Prop} {h_Q : Hot} {s0 : Int32} {s1 : Int32} {M : Mem} {M0 : Mem} (hD : Dok w D)  (lQ : ∀ t, h_Q t = true → h t = true) (hQ : ∀ z0 z1, Ow w D T h_Q M0 z1 → Q z0 z1 → Q' z0 z1) : Ow w D T h M0 M → w_Works_object_j184 this Q s0 s1 M → w_Works_object_j184 this Q' s0 s1 M := by
  intro hf
  unfold w_Works_object_j184
  exact (mo_w_Works_shown hD  (fun r37 M36 f1 => (have g2 : Ow w D T _ M0 M36 := (Ow.trans hf f1); (hQ _ _  (Ow.dn lQ g2)))) hf.1)
set_option maxRecDepth 20000 in
theorem mo_w_Works_object {w : Nat} {D : Nat → Nat → Prop} {T : Nat → Prop} {h : Hot} {this : Nat} {a1 : Int32} {a2 : Int32} {a3 : Int32} {Q Q' : Int32 → Mem → Prop} {M : Mem} (hD : Dok w D)  (hQ : ∀ z0 z1, Ow w D T h M z1 → Q z0 z1 → Q' z0 z1) : St w D T h M → w_Works_object this a1 a2 a3 Q M → w_Works_object this a1 a2 a3 Q' M := by
  intro hs
  unfold w_Works_object
  exact (mo_w_Works_isWorld hD  (fun r2 M1 f1 => (have g2 : Ow w D T _ M M1 := (Ow.trans (Ow.rf hs) f1); (mf_ite (hQ _ _  g2) (mo_w_Works_isIn hD  (fun r5 M4 f3 => (have g4 : Ow w D T _ M M4 := (Ow.trans g2 f3); (mf_ite (hQ _ _  g4) (mf_and fun _ => (Exists.imp fun i8 => (mf_and fun e5 => (mf_and fun _ => (mf_ite (hQ _ _  g4) (mf_and fun _ => (Exists.imp fun i12 => (mf_and fun e7 => (mf_ite (mf_and fun _ => (mf_ite (mf_and fun _ => (hQ _ _  g4)) (hQ _ _  g4))) (mf_ite (mf_and fun _ => (hQ _ _  g4)) (mf_ite (mf_and fun _ => (hQ _ _  g4)) (mf_and fun _ => (mo_w_Works_isIn hD  (fun r23 M22 f9 => (have g10 : Ow w D T _ M M22 := (Ow.trans g4 f9); (mf_ite (hQ _ _  g10) (mf_and fun _ => (mf_and fun _ => (Exists.imp fun x27 => (mf_and fun _ => (mf_and fun _ => (mf_ite (mf_and fun _ => (Exists.imp fun i31 => (mf_and fun e11 => (mf_and fun _ => (mo_w_World_fieldKind hD  (fun r34 M33 f13 => (have g14 : Ow w D T _ M M33 := (Ow.trans g10 f13); (mf_ite (mo_w_Works_object_j184 hD  (fun _ e => e) hQ g14) (mo_w_Works_object_j184 hD  (fun _ e => e) hQ g14)))) g10.1))))) (hQ _ _  g10)))))))))) g4.1)))))))))))))))) g2.1)))) (Ow.rf hs).1)
set_option maxRecDepth 20000 in
theorem mo_w_Writer_put {w : Nat} {D : Nat → Nat → Prop} {T : Nat → Prop} {h : Hot} {this : Nat} {a1 : Int32} {Q Q' : Mem → Prop} {M : Mem} (hD : Dok w D)  (hQ : ∀ z0, Ow w D T h M z0 → Q z0 → Q' z0) : St w D T h M → w_Writer_put this a1 Q M → w_Writer_put this a1 Q' M := by
  intro hs
  unfold w_Writer_put
  exact (mf_and fun _ => (Exists.imp fun M2 => (mf_and fun e1 => (have g2 : Ow w D T _ M M2 := Ow.of e1 (Ow.wI (ow0 rfl) (Ow.rf hs)); (hQ _  (Ow.wI (ow0 rfl) g2))))))
set_option maxRecDepth 20000 in
theorem mo_w_Writer_line_L2 {w : Nat} {D : Nat → Nat → Prop} {T : Nat → Prop} {h : Hot} {this : Nat} {Q Q' : Mem → Prop} {h_Q : Hot} {M0 : Mem} (hD : Dok w D)  (lQ : ∀ t, h_Q t = true → h t = true) (hQ : ∀ z0, Ow w D T h_Q M0 z0 → Q z0 → Q' z0) : ∀ (n : Nat) (v1 : Int32) (v2 : Int32) (M : Mem), Ow w D T h M0 M → w_Writer_line_L2 this Q n v1 v2 M → w_Writer_line_L2 this Q' n v1 v2 M
  | 0, _, _, _ => fun  _ h => h
  | n + 1, v1, v2, M => fun  hf => by
    unfold w_Writer_line_L2
    exact (mf_ite (mf_and fun _ => (mf_and fun _ => (hQ _  (Ow.dn lQ (Ow.wI (ow0 rfl) (Ow.wI (ow0 rfl) hf)))))) (mo_w_Writer_put hD  (fun M4 f1 => (have g2 : Ow w D T _ M0 M4 := (Ow.trans hf f1); (mo_w_Writer_line_L2 hD  lQ hQ _ _ _ _  g2))) hf.1))
set_option maxRecDepth 20000 in
theorem mo_w_Writer_line {w : Nat} {D : Nat → Nat → Prop} {T : Nat → Prop} {h : Hot} {this : Nat} {a1 : Int32} {Q Q' : Mem → Prop} {M : Mem} (hD : Dok w D)  (hQ : ∀ z0, Ow w D T h M z0 → Q z0 → Q' z0) : St w D T h M → w_Writer_line this a1 Q M → w_Writer_line this a1 Q' M := by
  intro hs
  unfold w_Writer_line
  exact (Exists.imp fun n5 => (mo_w_Writer_line_L2 hD  (fun _ e => e) hQ _ _ _ _  (Ow.rf hs)))
set_option maxRecDepth 20000 in
theorem mo_w_Writer_space_j20 {w : Nat} {D : Nat → Nat → Prop} {T : Nat → Prop} {h : Hot} {this : Nat} {Q Q' : Mem → Prop} {h_Q : Hot} {M : Mem} {M0 : Mem} (hD : Dok w D)  (lQ : ∀ t, h_Q t = true → h t = true) (hQ : ∀ z0, Ow w D T h_Q M0 z0 → Q z0 → Q' z0) : Ow w D T h M0 M → w_Writer_space_j20 this Q M → w_Writer_space_j20 this Q' M := by
  intro hf
  unfold w_Writer_space_j20
  exact (mf_and fun _ => (mf_and fun _ => (hQ _  (Ow.dn lQ (Ow.wI (ow0 rfl) (Ow.wI (ow0 rfl) hf))))))
set_option maxRecDepth 20000 in
theorem mo_w_Writer_space {w : Nat} {D : Nat → Nat → Prop} {T : Nat → Prop} {h : Hot} {this : Nat} {Q Q' : Mem → Prop} {M : Mem} (hD : Dok w D)  (hQ : ∀ z0, Ow w D T h M z0 → Q z0 → Q' z0) : St w D T h M → w_Writer_space this Q M → w_Writer_space this Q' M := by
  intro hs
  unfold w_Writer_space
  exact (mf_ite (mf_ite (mo_w_Writer_put hD  (fun M3 f1 => (have g2 : Ow w D T _ M M3 := (Ow.trans (Ow.rf hs) f1); (mo_w_Writer_space_j20 hD  (fun _ e => e) hQ g2))) (Ow.rf hs).1) (mo_w_Writer_space_j20 hD  (fun _ e => e) hQ (Ow.rf hs))) (mo_w_Writer_space_j20 hD  (fun _ e => e) hQ (Ow.rf hs)))
set_option maxRecDepth 20000 in
theorem mo_w_Writer_word_L6 {w : Nat} {D : Nat → Nat → Prop} {T : Nat → Prop} {h : Hot} {this : Nat} {Q Q' : Mem → Prop} {h_Q : Hot} {M0 : Mem} (hD : Dok w D)  (lQ : ∀ t, h_Q t = true → h t = true) (hQ : ∀ z0, Ow w D T h_Q M0 z0 → Q z0 → Q' z0) : ∀ (n : Nat) (v1 : Int32) (v2 : Int32) (M : Mem), Ow w D T h M0 M → w_Writer_word_L6 this Q n v1 v2 M → w_Writer_word_L6 this Q' n v1 v2 M
  | 0, _, _, _ => fun  _ h => h
  | n + 1, v1, v2, M => fun  hf => by
    unfold w_Writer_word_L6
    exact (mo_w_Names_at hD  (fun r3 M2 f1 => (have g2 : Ow w D T _ M0 M2 := (Ow.trans hf f1); (mf_ite (hQ _  (Ow.dn lQ g2)) (mo_w_Names_at hD  (fun r6 M5 f3 => (have g4 : Ow w D T _ M0 M5 := (Ow.trans g2 f3); (mo_w_Writer_put hD  (fun M7 f5 => (have g6 : Ow w D T _ M0 M7 := (Ow.trans g4 f5); (mo_w_Writer_word_L6 hD  lQ hQ _ _ _ _  g6))) g4.1))) g2.1)))) hf.1)
set_option maxRecDepth 20000 in
theorem mo_w_Writer_word {w : Nat} {D : Nat → Nat → Prop} {T : Nat → Prop} {h : Hot} {this : Nat} {a1 : Int32} {Q Q' : Mem → Prop} {M : Mem} (hD : Dok w D)  (hQ : ∀ z0, Ow w D T h M z0 → Q z0 → Q' z0) : St w D T h M → w_Writer_word this a1 Q M → w_Writer_word this a1 Q' M := by
  intro hs
  unfold w_Writer_word
  exact (mo_w_Writer_space hD  (fun M1 f1 => (have g2 : Ow w D T _ M M1 := (Ow.trans (Ow.rf hs) f1); (Exists.imp fun n8 => (mo_w_Writer_word_L6 hD  (fun _ e => e) hQ _ _ _ _  g2)))) (Ow.rf hs).1)
set_option maxRecDepth 20000 in
theorem mo_w_Writer_flags_j34 {w : Nat} {D : Nat → Nat → Prop} {T : Nat → Prop} {h : Hot} {this : Nat} {Q Q' : Mem → Prop} {h_Q : Hot} {v1 : Int32} {v5 : Int32} {M : Mem} {M0 : Mem} (hD : Dok w D)  (lQ : ∀ t, h_Q t = true → h t = true) (hQ : ∀ z0, Ow w D T h_Q M0 z0 → Q z0 → Q' z0) : Ow w D T h M0 M → w_Writer_flags_j34 this Q v1 v5 M → w_Writer_flags_j34 this Q' v1 v5 M := by
  intro hf
  unfold w_Writer_flags_j34
  exact (mf_ite (hQ _  (Ow.dn lQ hf)) (mo_w_Writer_word hD  (fun M5 f1 => (have g2 : Ow w D T _ M0 M5 := (Ow.trans hf f1); (hQ _  (Ow.dn lQ g2)))) hf.1))
set_option maxRecDepth 20000 in
theorem mo_w_Writer_flags_j22 {w : Nat} {D : Nat → Nat → Prop} {T : Nat → Prop} {h : Hot} {this : Nat} {Q Q' : Mem → Prop} {h_Q : Hot} {v1 : Int32} {v4 : Int32} {v5 : Int32} {M : Mem} {M0 : Mem} (hD : Dok w D)  (lQ : ∀ t, h_Q t = true → h t = true) (hQ : ∀ z0, Ow w D T h_Q M0 z0 → Q z0 → Q' z0) : Ow w D T h M0 M → w_Writer_flags_j22 this Q v1 v4 v5 M → w_Writer_flags_j22 this Q' v1 v4 v5 M := by
  intro hf
  unfold w_Writer_flags_j22
  exact (mf_ite (mo_w_Writer_flags_j34 hD  lQ hQ hf) (mo_w_Writer_word hD  (fun M6 f1 => (have g2 : Ow w D T _ M0 M6 := (Ow.trans hf f1); (mo_w_Writer_flags_j34 hD  lQ hQ g2))) hf.1))
set_option maxRecDepth 20000 in
theorem mo_w_Writer_flags_j11 {w : Nat} {D : Nat → Nat → Prop} {T : Nat → Prop} {h : Hot} {this : Nat} {Q Q' : Mem → Prop} {h_Q : Hot} {v1 : Int32} {v3 : Int32} {v4 : Int32} {v5 : Int32} {M : Mem} {M0 : Mem} (hD : Dok w D)  (lQ : ∀ t, h_Q t = true → h t = true) (hQ : ∀ z0, Ow w D T h_Q M0 z0 → Q z0 → Q' z0) : Ow w D T h M0 M → w_Writer_flags_j11 this Q v1 v3 v4 v5 M → w_Writer_flags_j11 this Q' v1 v3 v4 v5 M := by
  intro hf
  unfold w_Writer_flags_j11
  exact (mf_ite (mo_w_Writer_flags_j22 hD  lQ hQ hf) (mo_w_Writer_word hD  (fun M7 f1 => (have g2 : Ow w D T _ M0 M7 := (Ow.trans hf f1); (mo_w_Writer_flags_j22 hD  lQ hQ g2))) hf.1))
set_option maxRecDepth 20000 in
theorem mo_w_Writer_flags {w : Nat} {D : Nat → Nat → Prop} {T : Nat → Prop} {h : Hot} {this : Nat} {a1 : Int32} {a2 : Int32} {a3 : Int32} {a4 : Int32} {a5 : Int32} {Q Q' : Mem → Prop} {M : Mem} (hD : Dok w D)  (hQ : ∀ z0, Ow w D T h M z0 → Q z0 → Q' z0) : St w D T h M → w_Writer_flags this a1 a2 a3 a4 a5 Q M → w_Writer_flags this a1 a2 a3 a4 a5 Q' M := by
  intro hs
  unfold w_Writer_flags
  exact (mf_ite (mo_w_Writer_flags_j11 hD  (fun _ e => e) hQ (Ow.rf hs)) (mo_w_Writer_word hD  (fun M8 f1 => (have g2 : Ow w D T _ M M8 := (Ow.trans (Ow.rf hs) f1); (mo_w_Writer_flags_j11 hD  (fun _ e => e) hQ g2))) (Ow.rf hs).1))
set_option maxRecDepth 20000 in
theorem mo_w_Writer_sign_j38 {w : Nat} {D : Nat → Nat → Prop} {T : Nat → Prop} {h : Hot} {this : Nat} {Q Q' : Mem → Prop} {h_Q : Hot} {s0 : Int32} {M : Mem} {M0 : Mem} (hD : Dok w D)  (lQ : ∀ t, h_Q t = true → h t = true) (hQ : ∀ z0, Ow w D T h_Q M0 z0 → Q z0 → Q' z0) : Ow w D T h M0 M → w_Writer_sign_j38 this Q s0 M → w_Writer_sign_j38 this Q' s0 M := by
  intro hf
  unfold w_Writer_sign_j38
  exact (mf_and fun _ => (hQ _  (Ow.dn lQ (Ow.wI (ow0 rfl) hf))))
set_option maxRecDepth 20000 in
theorem mo_w_Writer_sign_j33 {w : Nat} {D : Nat → Nat → Prop} {T : Nat → Prop} {h : Hot} {this : Nat} {Q Q' : Mem → Prop} {h_Q : Hot} {M : Mem} {M0 : Mem} (hD : Dok w D)  (lQ : ∀ t, h_Q t = true → h t = true) (hQ : ∀ z0, Ow w D T h_Q M0 z0 → Q z0 → Q' z0) : Ow w D T h M0 M → w_Writer_sign_j33 this Q M → w_Writer_sign_j33 this Q' M := by
  intro hf
  unfold w_Writer_sign_j33
  exact (mo_w_Writer_sign_j38 hD  lQ hQ hf)
set_option maxRecDepth 20000 in
theorem mo_w_Writer_sign_j10 {w : Nat} {D : Nat → Nat → Prop} {T : Nat → Prop} {h : Hot} {this : Nat} {Q Q' : Mem → Prop} {h_Q : Hot} {v1 : Int32} {M : Mem} {M0 : Mem} (hD : Dok w D)  (lQ : ∀ t, h_Q t = true → h t = true) (hQ : ∀ z0, Ow w D T h_Q M0 z0 → Q z0 → Q' z0) : Ow w D T h M0 M → w_Writer_sign_j10 this Q v1 M → w_Writer_sign_j10 this Q' v1 M := by
  intro hf
  unfold w_Writer_sign_j10
  exact (mo_w_Writer_put hD  (fun M3 f1 => (have g2 : Ow w D T _ M0 M3 := (Ow.trans hf f1); (mf_and fun _ => (mf_ite (have g3 : Ow w D T _ M0 (sI M3 8 this 2 (0 : Int32)) := (Ow.wI (ow0 rfl) g2); (mo_w_Writer_sign_j33 hD  lQ hQ g3)) (mf_ite (have g4 : Ow w D T _ M0 (sI M3 8 this 2 (0 : Int32)) := (Ow.wI (ow0 rfl) g2); (mo_w_Writer_sign_j33 hD  lQ hQ g4)) (have g5 : Ow w D T _ M0 (sI M3 8 this 2 (0 : Int32)) := (Ow.wI (ow0 rfl) g2); (mo_w_Writer_sign_j38 hD  lQ hQ g5))))))) hf.1)
set_option maxRecDepth 20000 in
theorem mo_w_Writer_sign {w : Nat} {D : Nat → Nat → Prop} {T : Nat → Prop} {h : Hot} {this : Nat} {a1 : Int32} {Q Q' : Mem → Prop} {M : Mem} (hD : Dok w D)  (hQ : ∀ z0, Ow w D T h M z0 → Q z0 → Q' z0) : St w D T h M → w_Writer_sign this a1 Q M → w_Writer_sign this a1 Q' M := by
  intro hs
  unfold w_Writer_sign
  exact (mf_ite (mo_w_Writer_space hD  (fun M2 f1 => (have g2 : Ow w D T _ M M2 := (Ow.trans (Ow.rf hs) f1); (mo_w_Writer_sign_j10 hD  (fun _ e => e) hQ g2))) (Ow.rf hs).1) (mo_w_Writer_sign_j10 hD  (fun _ e => e) hQ (Ow.rf hs)))
set_option maxRecDepth 20000 in
theorem mo_w_Writer_end {w : Nat} {D : Nat → Nat → Prop} {T : Nat → Prop} {h : Hot} {this : Nat} {Q Q' : Mem → Prop} {M : Mem} (hD : Dok w D)  (hQ : ∀ z0, Ow w D T h M z0 → Q z0 → Q' z0) : St w D T h M → w_Writer_end this Q M → w_Writer_end this Q' M := by
  intro hs
  unfold w_Writer_end
  exact (mo_w_Writer_put hD  (fun M1 f1 => (have g2 : Ow w D T _ M M1 := (Ow.trans (Ow.rf hs) f1); (hQ _  g2))) (Ow.rf hs).1)
set_option maxRecDepth 20000 in
theorem mo_w_Writer_kind_j64 {w : Nat} {D : Nat → Nat → Prop} {T : Nat → Prop} {h : Hot} {this : Nat} {Q Q' : Mem → Prop} {h_Q : Hot} {s0 : Int32} {M : Mem} {M0 : Mem} (hD : Dok w D)  (lQ : ∀ t, h_Q t = true → h t = true) (hQ : ∀ z0, Ow w D T h_Q M0 z0 → Q z0 → Q' z0) : Ow w D T h M0 M → w_Writer_kind_j64 this Q s0 M → w_Writer_kind_j64 this Q' s0 M := by
  intro hf
  unfold w_Writer_kind_j64
  exact (mo_w_Writer_word hD  (fun M2 f1 => (have g2 : Ow w D T _ M0 M2 := (Ow.trans hf f1); (hQ _  (Ow.dn lQ g2)))) hf.1)
set_option maxRecDepth 20000 in
theorem mo_w_Writer_kind {w : Nat} {D : Nat → Nat → Prop} {T : Nat → Prop} {h : Hot} {this : Nat} {a1 : Int32} {Q Q' : Mem → Prop} {M : Mem} (hD : Dok w D)  (hQ : ∀ z0, Ow w D T h M z0 → Q z0 → Q' z0) : St w D T h M → w_Writer_kind this a1 Q M → w_Writer_kind this a1 Q' M := by
  intro hs
  unfold w_Writer_kind
  exact (mf_ite (mo_w_Writer_kind_j64 hD  (fun _ e => e) hQ (Ow.rf hs)) (mf_ite (mo_w_Writer_kind_j64 hD  (fun _ e => e) hQ (Ow.rf hs)) (mf_ite (mo_w_Writer_kind_j64 hD  (fun _ e => e) hQ (Ow.rf hs)) (mf_ite (mo_w_Writer_kind_j64 hD  (fun _ e => e) hQ (Ow.rf hs)) (mf_ite (mo_w_Writer_kind_j64 hD  (fun _ e => e) hQ (Ow.rf hs)) (mf_ite (mo_w_Writer_kind_j64 hD  (fun _ e => e) hQ (Ow.rf hs)) (mo_w_Writer_kind_j64 hD  (fun _ e => e) hQ (Ow.rf hs))))))))
set_option maxRecDepth 20000 in
theorem mo_w_Writer_digits_L52 {w : Nat} {D : Nat → Nat → Prop} {T : Nat → Prop} {h : Hot} {this : Nat} {Q Q' : Mem → Prop} {h_Q : Hot} {M0 : Mem} (hD : Dok w D)  (lQ : ∀ t, h_Q t = true → h t = true) (hQ : ∀ z0, Ow w D T h_Q M0 z0 → Q z0 → Q' z0) : ∀ (n : Nat) (v2 : Int64) (v4 : Int64) (M : Mem), Ow w D T h M0 M → w_Writer_digits_L52 this Q n v2 v4 M → w_Writer_digits_L52 this Q' n v2 v4 M
  | 0, _, _, _ => fun  _ h => h
  | n + 1, v2, v4, M => fun  hf => by
    unfold w_Writer_digits_L52
    exact (mf_ite (hQ _  (Ow.dn lQ hf)) (mf_and fun _ => (mf_and fun _ => (mo_w_Writer_put hD  (fun M9 f1 => (have g2 : Ow w D T _ M0 M9 := (Ow.trans hf f1); (mf_and fun _ => (mo_w_Writer_digits_L52 hD  lQ hQ _ _ _ _  g2)))) hf.1))))
set_option maxRecDepth 20000 in
theorem mo_w_Writer_digits_L30 {w : Nat} {D : Nat → Nat → Prop} {T : Nat → Prop} {h : Hot} {this : Nat} {Q Q' : Mem → Prop} {h_Q : Hot} {M0 : Mem} (hD : Dok w D)  (lQ : ∀ t, h_Q t = true → h t = true) (hQ : ∀ z0, Ow w D T h_Q M0 z0 → Q z0 → Q' z0) : ∀ (n : Nat) (v2 : Int64) (v4 : Int64) (M : Mem), Ow w D T h M0 M → w_Writer_digits_L30 this Q n v2 v4 M → w_Writer_digits_L30 this Q' n v2 v4 M
  | 0, _, _, _ => fun  _ h => h
  | n + 1, v2, v4, M => fun  hf => by
    unfold w_Writer_digits_L30
    exact (mf_and fun _ => (mf_ite (Exists.imp fun n11 => (mo_w_Writer_digits_L52 hD  lQ hQ _ _ _ _  hf)) (mo_w_Writer_digits_L30 hD  lQ hQ _ _ _ _  hf)))
set_option maxRecDepth 20000 in
theorem mo_w_Writer_digits_j27 {w : Nat} {D : Nat → Nat → Prop} {T : Nat → Prop} {h : Hot} {this : Nat} {Q Q' : Mem → Prop} {h_Q : Hot} {v2 : Int64} {M : Mem} {M0 : Mem} (hD : Dok w D)  (lQ : ∀ t, h_Q t = true → h t = true) (hQ : ∀ z0, Ow w D T h_Q M0 z0 → Q z0 → Q' z0) : Ow w D T h M0 M → w_Writer_digits_j27 this Q v2 M → w_Writer_digits_j27 this Q' v2 M := by
  intro hf
  unfold w_Writer_digits_j27
  exact (Exists.imp fun n12 => (mo_w_Writer_digits_L30 hD  lQ hQ _ _ _ _  hf))
set_option maxRecDepth 20000 in
theorem mo_w_Writer_digits_j16 {w : Nat} {D : Nat → Nat → Prop} {T : Nat → Prop} {h : Hot} {this : Nat} {Q Q' : Mem → Prop} {h_Q : Hot} {v1 : Int32} {s0 : Int64} {M : Mem} {M0 : Mem} (hD : Dok w D)  (lQ : ∀ t, h_Q t = true → h t = true) (hQ : ∀ z0, Ow w D T h_Q M0 z0 → Q z0 → Q' z0) : Ow w D T h M0 M → w_Writer_digits_j16 this Q v1 s0 M → w_Writer_digits_j16 this Q' v1 s0 M := by
  intro hf
  unfold w_Writer_digits_j16
  exact (mf_ite (mo_w_Writer_digits_j27 hD  lQ hQ hf) (mo_w_Writer_put hD  (fun M13 f1 => (have g2 : Ow w D T _ M0 M13 := (Ow.trans hf f1); (mo_w_Writer_digits_j27 hD  lQ hQ g2))) hf.1))
set_option maxRecDepth 20000 in
theorem mo_w_Writer_digits {w : Nat} {D : Nat → Nat → Prop} {T : Nat → Prop} {h : Hot} {this : Nat} {a1 : Int32} {Q Q' : Mem → Prop} {M : Mem} (hD : Dok w D)  (hQ : ∀ z0, Ow w D T h M z0 → Q z0 → Q' z0) : St w D T h M → w_Writer_digits this a1 Q M → w_Writer_digits this a1 Q' M := by
  intro hs
  unfold w_Writer_digits
  exact (mo_w_Writer_space hD  (fun M1 f1 => (have g2 : Ow w D T _ M M1 := (Ow.trans (Ow.rf hs) f1); (mf_ite (mo_w_Writer_digits_j16 hD  (fun _ e => e) hQ g2) (mo_w_Writer_digits_j16 hD  (fun _ e => e) hQ g2)))) (Ow.rf hs).1)
set_option maxRecDepth 20000 in
theorem mo_w_Writer_field_j88 {w : Nat} {D : Nat → Nat → Prop} {T : Nat → Prop} {h : Hot} {this : Nat} {Q Q' : Mem → Prop} {h_Q : Hot} {M : Mem} {M0 : Mem} (hD : Dok w D)  (lQ : ∀ t, h_Q t = true → h t = true) (hQ : ∀ z0, Ow w D T h_Q M0 z0 → Q z0 → Q' z0) : Ow w D T h M0 M → w_Writer_field_j88 this Q M → w_Writer_field_j88 this Q' M := by
  intro hf
  unfold w_Writer_field_j88
  exact (mo_w_Writer_end hD  (fun M15 f1 => (have g2 : Ow w D T _ M0 M15 := (Ow.trans hf f1); (hQ _  (Ow.dn lQ g2)))) hf.1)
set_option maxRecDepth 20000 in
theorem mo_w_Writer_field {w : Nat} {D : Nat → Nat → Prop} {T : Nat → Prop} {h : Hot} {this : Nat} {a1 : Int32} {Q Q' : Mem → Prop} {M : Mem} (hD : Dok w D)  (hQ : ∀ z0, Ow w D T h M z0 → Q z0 → Q' z0) : St w D T h M → w_Writer_field this a1 Q M → w_Writer_field this a1 Q' M := by
  intro hs
  unfold w_Writer_field
  exact (mo_w_Writer_line hD  (fun M1 f1 => (have g2 : Ow w D T _ M M1 := (Ow.trans (Ow.rf hs) f1); (mo_w_Writer_word hD  (fun M2 f3 => (have g4 : Ow w D T _ M M2 := (Ow.trans g2 f3); (Exists.imp fun i3 => (mf_and fun e5 => (mf_and fun _ => (mo_w_Writer_flags hD  (fun M5 f7 => (have g8 : Ow w D T _ M M5 := (Ow.trans g4 f7); (Exists.imp fun i6 => (mf_and fun e9 => (mf_and fun _ => (mo_w_Writer_word hD  (fun M8 f11 => (have g12 : Ow w D T _ M M8 := (Ow.trans g8 f11); (Exists.imp fun i9 => (mf_and fun e13 => (mf_and fun _ => (mo_w_Writer_kind hD  (fun M11 f15 => (have g16 : Ow w D T _ M M11 := (Ow.trans g12 f15); (Exists.imp fun i12 => (mf_and fun e17 => (mf_and fun _ => (mf_ite (mo_w_Writer_field_j88 hD  (fun _ e => e) hQ g16) (mo_w_Writer_sign hD  (fun M16 f19 => (have g20 : Ow w D T _ M M16 := (Ow.trans g16 f19); (Exists.imp fun i17 => (mf_and fun e21 => (mf_and fun _ => (mo_w_Writer_digits hD  (fun M19 f23 => (have g24 : Ow w D T _ M M19 := (Ow.trans g20 f23); (mo_w_Writer_field_j88 hD  (fun _ e => e) hQ g24))) g20.1)))))) g16.1))))))) g12.1)))))) g8.1)))))) g4.1)))))) g2.1))) (Ow.rf hs).1)
set_option maxRecDepth 20000 in
theorem mo_w_Writer_types_j26 {w : Nat} {D : Nat → Nat → Prop} {T : Nat → Prop} {h : Hot} {this : Nat} {Q Q' : Mem → Prop} {h_Q : Hot} {k9 k9' : Nat → Int32 → Int32 → Int32 → Int32 → Mem → Prop} {h_k9 : Hot} {v1 : Nat} {v2 : Int32} {v3 : Int32} {v4 : Int32} {v5 : Int32} {M : Mem} {M0 : Mem} (hD : Dok w D)  (lQ : ∀ t, h_Q t = true → h t = true) (hQ : ∀ z0, Ow w D T h_Q M0 z0 → Q z0 → Q' z0) (lk9 : ∀ t, h_k9 t = true → h t = true) (hk9 : ∀ z0 z1 z2 z3 z4 z5, Ow w D T h_k9 M0 z5 → k9 z0 z1 z2 z3 z4 z5 → k9' z0 z1 z2 z3 z4 z5) : Ow w D T h M0 M → w_Writer_types_j26 this Q k9 v1 v2 v3 v4 v5 M → w_Writer_types_j26 this Q' k9' v1 v2 v3 v4 v5 M := by
  intro hf
  unfold w_Writer_types_j26
  exact (mf_and fun _ => (mo_w_Writer_kind hD  (fun M7 f1 => (have g2 : Ow w D T _ M0 M7 := (Ow.trans hf f1); (hk9 _ _ _ _ _ _  (Ow.dn lk9 g2)))) hf.1))
set_option maxRecDepth 20000 in
theorem mo_w_Writer_types_L9 {w : Nat} {D : Nat → Nat → Prop} {T : Nat → Prop} {h : Hot} {this : Nat} {Q Q' : Mem → Prop} {h_Q : Hot} {M0 : Mem} (hD : Dok w D)  (lQ : ∀ t, h_Q t = true → h t = true) (hQ : ∀ z0, Ow w D T h_Q M0 z0 → Q z0 → Q' z0) : ∀ (n : Nat) (v1 : Nat) (v2 : Int32) (v3 : Int32) (v4 : Int32) (v5 : Int32) (M : Mem), Ow w D T h M0 M → w_Writer_types_L9 this Q n v1 v2 v3 v4 v5 M → w_Writer_types_L9 this Q' n v1 v2 v3 v4 v5 M
  | 0, _, _, _, _, _, _ => fun  _ h => h
  | n + 1, v1, v2, v3, v4, v5, M => fun  hf => by
    unfold w_Writer_types_L9
    exact (mf_ite (mo_w_Writer_sign hD  (fun M3 f1 => (have g2 : Ow w D T _ M0 M3 := (Ow.trans hf f1); (mo_w_Writer_kind hD  (fun M4 f3 => (have g4 : Ow w D T _ M0 M4 := (Ow.trans g2 f3); (hQ _  (Ow.dn lQ g4)))) g2.1))) hf.1) (mf_ite (mo_w_Writer_types_j26 hD  lQ hQ (fun _ e => e) (fun y0 y1 y2 y3 y4 y5  hf => mo_w_Writer_types_L9 hD  lQ hQ n y0 y1 y2 y3 y4 y5  hf) hf) (mo_w_Writer_sign hD  (fun M8 f5 => (have g6 : Ow w D T _ M0 M8 := (Ow.trans hf f5); (mo_w_Writer_types_j26 hD  lQ hQ (fun _ e => e) (fun y0 y1 y2 y3 y4 y5  hf => mo_w_Writer_types_L9 hD  lQ hQ n y0 y1 y2 y3 y4 y5  hf) g6))) hf.1)))
set_option maxRecDepth 20000 in
theorem mo_w_Writer_types {w : Nat} {D : Nat → Nat → Prop} {T : Nat → Prop} {h : Hot} {this : Nat} {a1 : Nat} {a2 : Int32} {a3 : Int32} {a4 : Int32} {Q Q' : Mem → Prop} {M : Mem} (hD : Dok w D)  (hQ : ∀ z0, Ow w D T h M z0 → Q z0 → Q' z0) : St w D T h M → w_Writer_types this a1 a2 a3 a4 Q M → w_Writer_types this a1 a2 a3 a4 Q' M := by
  intro hs
  unfold w_Writer_types
  exact (mo_w_Writer_sign hD  (fun M1 f1 => (have g2 : Ow w D T _ M M1 := (Ow.trans (Ow.rf hs) f1); (Exists.imp fun n9 => (mo_w_Writer_types_L9 hD  (fun _ e => e) hQ _ _ _ _ _ _ _  g2)))) (Ow.rf hs).1)
set_option maxRecDepth 20000 in
theorem mo_w_Writer_labels_j269 {w : Nat} {D : Nat → Nat → Prop} {T : Nat → Prop} {h : Hot} {this : Nat} {Q Q' : Mem → Prop} {h_Q : Hot} {k239 k239' : Int32 → Int32 → Int32 → Mem → Prop} {h_k239 : Hot} {v2 : Int32} {v3 : Int32} {v4 : Int32} {M : Mem} {M0 : Mem} (hD : Dok w D)  (lQ : ∀ t, h_Q t = true → h t = true) (hQ : ∀ z0, Ow w D T h_Q M0 z0 → Q z0 → Q' z0) (lk239 : ∀ t, h_k239 t = true → h t = true) (hk239 : ∀ z0 z1 z2 z3, Ow w D T h_k239 M0 z3 → k239 z0 z1 z2 z3 → k239' z0 z1 z2 z3) : Ow w D T h M0 M → w_Writer_labels_j269 this Q k239 v2 v3 v4 M → w_Writer_labels_j269 this Q' k239' v2 v3 v4 M := by
  intro hf
  unfold w_Writer_labels_j269
  exact (hk239 _ _ _ _  (Ow.dn lk239 hf))
set_option maxRecDepth 20000 in
theorem mo_w_Writer_labels_L239 {w : Nat} {D : Nat → Nat → Prop} {T : Nat → Prop} {h : Hot} {this : Nat} {Q Q' : Mem → Prop} {h_Q : Hot} {M0 : Mem} (hD : Dok w D)  (lQ : ∀ t, h_Q t = true → h t = true) (hQ : ∀ z0, Ow w D T h_Q M0 z0 → Q z0 → Q' z0) : ∀ (n : Nat) (v2 : Int32) (v3 : Int32) (v4 : Int32) (M : Mem), Ow w D T h M0 M → w_Writer_labels_L239 this Q n v2 v3 v4 M → w_Writer_labels_L239 this Q' n v2 v3 v4 M
  | 0, _, _, _, _ => fun  _ h => h
  | n + 1, v2, v3, v4, M => fun  hf => by
    unfold w_Writer_labels_L239
    exact (mf_ite (hQ _  (Ow.dn lQ hf)) (mf_and fun _ => (mf_ite (mf_and fun _ => (have g1 : Ow w D T _ M0 (sI M 96 this v4.toNatClampNeg v3) := (Ow.wI (ow0 rfl) hf); (mo_w_Writer_labels_j269 hD  lQ hQ (fun _ e => e) (fun y0 y1 y2 y3  hf => mo_w_Writer_labels_L239 hD  lQ hQ n y0 y1 y2 y3  hf) g1))) (mo_w_Writer_labels_j269 hD  lQ hQ (fun _ e => e) (fun y0 y1 y2 y3  hf => mo_w_Writer_labels_L239 hD  lQ hQ n y0 y1 y2 y3  hf) hf))))
set_option maxRecDepth 20000 in
theorem mo_w_Writer_labels_L198 {w : Nat} {D : Nat → Nat → Prop} {T : Nat → Prop} {h : Hot} {this : Nat} {Q Q' : Mem → Prop} {h_Q : Hot} {k170 k170' : Int32 → Int32 → Int32 → Mem → Prop} {h_k170 : Hot} {M0 : Mem} (hD : Dok w D)  (lQ : ∀ t, h_Q t = true → h t = true) (hQ : ∀ z0, Ow w D T h_Q M0 z0 → Q z0 → Q' z0) (lk170 : ∀ t, h_k170 t = true → h t = true) (hk170 : ∀ z0 z1 z2 z3, Ow w D T h_k170 M0 z3 → k170 z0 z1 z2 z3 → k170' z0 z1 z2 z3) : ∀ (n : Nat) (v1 : Int32) (v2 : Int32) (v3 : Int32) (v4 : Int32) (M : Mem), Ow w D T h M0 M → w_Writer_labels_L198 this Q k170 n v1 v2 v3 v4 M → w_Writer_labels_L198 this Q' k170' n v1 v2 v3 v4 M
  | 0, _, _, _, _, _ => fun  _ h => h
  | n + 1, v1, v2, v3, v4, M => fun  hf => by
    unfold w_Writer_labels_L198
    exact (mf_ite (hk170 _ _ _ _  (Ow.dn lk170 hf)) (Exists.imp fun i18 => (mf_and fun e1 => (mf_and fun _ => (mf_and fun _ => (Exists.imp fun M21 => (mf_and fun e3 => (have g4 : Ow w D T _ M0 M21 := Ow.of e3 (Ow.wI (ow0 rfl) hf); (mo_w_Writer_labels_L198 hD  lQ hQ lk170 hk170 _ _ _ _ _ _  g4)))))))))
set_option maxRecDepth 20000 in
theorem mo_w_Writer_labels_L170 {w : Nat} {D : Nat → Nat → Prop} {T : Nat → Prop} {h : Hot} {this : Nat} {Q Q' : Mem → Prop} {h_Q : Hot} {M0 : Mem} (hD : Dok w D)  (lQ : ∀ t, h_Q t = true → h t = true) (hQ : ∀ z0, Ow w D T h_Q M0 z0 → Q z0 → Q' z0) : ∀ (n : Nat) (v1 : Int32) (v2 : Int32) (v3 : Int32) (M : Mem), Ow w D T h M0 M → w_Writer_labels_L170 this Q n v1 v2 v3 M → w_Writer_labels_L170 this Q' n v1 v2 v3 M
  | 0, _, _, _, _ => fun  _ h => h
  | n + 1, v1, v2, v3, M => fun  hf => by
    unfold w_Writer_labels_L170
    exact (Exists.imp fun i7 => (mf_and fun e1 => (mf_and fun _ => (Exists.imp fun i9 => (mf_and fun e3 => (mf_and fun _ => (mf_ite (Exists.imp fun n16 => (mo_w_Writer_labels_L239 hD  lQ hQ _ _ _ _ _  hf)) (Exists.imp fun n22 => (mo_w_Writer_labels_L198 hD  lQ hQ (fun _ e => e) (fun y0 y1 y2 y3  hf => mo_w_Writer_labels_L170 hD  lQ hQ n y0 y1 y2 y3  hf) _ _ _ _ _ _  hf)))))))))
set_option maxRecDepth 20000 in
theorem mo_w_Writer_labels_j152 {w : Nat} {D : Nat → Nat → Prop} {T : Nat → Prop} {h : Hot} {this : Nat} {Q Q' : Mem → Prop} {h_Q : Hot} {k32 k32' : Int32 → Int32 → Int32 → Mem → Prop} {h_k32 : Hot} {v1 : Int32} {v2 : Int32} {v3 : Int32} {M : Mem} {M0 : Mem} (hD : Dok w D)  (lQ : ∀ t, h_Q t = true → h t = true) (hQ : ∀ z0, Ow w D T h_Q M0 z0 → Q z0 → Q' z0) (lk32 : ∀ t, h_k32 t = true → h t = true) (hk32 : ∀ z0 z1 z2 z3, Ow w D T h_k32 M0 z3 → k32 z0 z1 z2 z3 → k32' z0 z1 z2 z3) : Ow w D T h M0 M → w_Writer_labels_j152 this Q k32 v1 v2 v3 M → w_Writer_labels_j152 this Q' k32' v1 v2 v3 M := by
  intro hf
  unfold w_Writer_labels_j152
  exact (hk32 _ _ _ _  (Ow.dn lk32 hf))
set_option maxRecDepth 20000 in
theorem mo_w_Writer_labels_L89 {w : Nat} {D : Nat → Nat → Prop} {T : Nat → Prop} {h : Hot} {this : Nat} {Q Q' : Mem → Prop} {h_Q : Hot} {k32 k32' : Int32 → Int32 → Int32 → Mem → Prop} {h_k32 : Hot} {M0 : Mem} (hD : Dok w D)  (lQ : ∀ t, h_Q t = true → h t = true) (hQ : ∀ z0, Ow w D T h_Q M0 z0 → Q z0 → Q' z0) (lk32 : ∀ t, h_k32 t = true → h t = true) (hk32 : ∀ z0 z1 z2 z3, Ow w D T h_k32 M0 z3 → k32 z0 z1 z2 z3 → k32' z0 z1 z2 z3) : ∀ (n : Nat) (v1 : Int32) (v2 : Int32) (v3 : Int32) (v4 : Int32) (v5 : Int32) (M : Mem), Ow w D T h M0 M → w_Writer_labels_L89 this Q k32 n v1 v2 v3 v4 v5 M → w_Writer_labels_L89 this Q' k32' n v1 v2 v3 v4 v5 M
  | 0, _, _, _, _, _, _ => fun  _ h => h
  | n + 1, v1, v2, v3, v4, v5, M => fun  hf => by
    unfold w_Writer_labels_L89
    exact (Exists.imp fun i31 => (mf_and fun e1 => (mf_and fun _ => (mf_ite (Exists.imp fun i34 => (mf_and fun e3 => (mf_and fun _ => (mf_ite (mo_w_Writer_labels_j152 hD  lQ hQ lk32 hk32 hf) (Exists.imp fun i37 => (mf_and fun e5 => (Exists.imp fun i38 => (mf_and fun e7 => (mf_and fun _ => (mf_and fun _ => (mf_and fun _ => (Exists.imp fun M42 => (mf_and fun e9 => (have g10 : Ow w D T _ M0 M42 := Ow.of e9 (Ow.wI (ow0 rfl) hf); (mo_w_Writer_labels_L89 hD  lQ hQ lk32 hk32 _ _ _ _ _ _ _  g10))))))))))))))) (mo_w_Writer_labels_j152 hD  lQ hQ lk32 hk32 hf)))))
set_option maxRecDepth 20000 in
theorem mo_w_Writer_labels_j86 {w : Nat} {D : Nat → Nat → Prop} {T : Nat → Prop} {h : Hot} {this : Nat} {Q Q' : Mem → Prop} {h_Q : Hot} {k32 k32' : Int32 → Int32 → Int32 → Mem → Prop} {h_k32 : Hot} {v1 : Int32} {v2 : Int32} {v3 : Int32} {v4 : Int32} {M : Mem} {M0 : Mem} (hD : Dok w D)  (lQ : ∀ t, h_Q t = true → h t = true) (hQ : ∀ z0, Ow w D T h_Q M0 z0 → Q z0 → Q' z0) (lk32 : ∀ t, h_k32 t = true → h t = true) (hk32 : ∀ z0 z1 z2 z3, Ow w D T h_k32 M0 z3 → k32 z0 z1 z2 z3 → k32' z0 z1 z2 z3) : Ow w D T h M0 M → w_Writer_labels_j86 this Q k32 v1 v2 v3 v4 M → w_Writer_labels_j86 this Q' k32' v1 v2 v3 v4 M := by
  intro hf
  unfold w_Writer_labels_j86
  exact (Exists.imp fun n43 => (mo_w_Writer_labels_L89 hD  lQ hQ lk32 hk32 _ _ _ _ _ _ _  hf))
set_option maxRecDepth 20000 in
theorem mo_w_Writer_labels_L32 {w : Nat} {D : Nat → Nat → Prop} {T : Nat → Prop} {h : Hot} {this : Nat} {Q Q' : Mem → Prop} {h_Q : Hot} {M0 : Mem} (hD : Dok w D)  (lQ : ∀ t, h_Q t = true → h t = true) (hQ : ∀ z0, Ow w D T h_Q M0 z0 → Q z0 → Q' z0) : ∀ (n : Nat) (v1 : Int32) (v2 : Int32) (v3 : Int32) (M : Mem), Ow w D T h M0 M → w_Writer_labels_L32 this Q n v1 v2 v3 M → w_Writer_labels_L32 this Q' n v1 v2 v3 M
  | 0, _, _, _, _ => fun  _ h => h
  | n + 1, v1, v2, v3, M => fun  hf => by
    unfold w_Writer_labels_L32
    exact (mf_ite (Exists.imp fun i5 => (mf_and fun e1 => (mf_and fun _ => (Exists.imp fun n23 => (mo_w_Writer_labels_L170 hD  lQ hQ _ _ _ _ _  hf))))) (Exists.imp fun i24 => (mf_and fun e3 => (mf_and fun _ => (Exists.imp fun i26 => (mf_and fun e5 => (mf_and fun _ => (mo_w_Works_isIn hD  (fun r29 M28 f7 => (have g8 : Ow w D T _ M0 M28 := (Ow.trans hf f7); (mf_ite (mo_w_Writer_labels_j86 hD  lQ hQ (fun _ e => e) (fun y0 y1 y2 y3  hf => mo_w_Writer_labels_L32 hD  lQ hQ n y0 y1 y2 y3  hf) g8) (Exists.imp fun i44 => (mf_and fun e9 => (mf_and fun _ => (mf_and fun _ => (Exists.imp fun M47 => (mf_and fun e11 => (have g12 : Ow w D T _ M0 M47 := Ow.of e11 (Ow.wI (ow0 rfl) g8); (mo_w_Writer_labels_j86 hD  lQ hQ (fun _ e => e) (fun y0 y1 y2 y3  hf => mo_w_Writer_labels_L32 hD  lQ hQ n y0 y1 y2 y3  hf) g12))))))))))) hf.1))))))))
set_option maxRecDepth 20000 in
theorem mo_w_Writer_labels_L12 {w : Nat} {D : Nat → Nat → Prop} {T : Nat → Prop} {h : Hot} {this : Nat} {Q Q' : Mem → Prop} {h_Q : Hot} {M0 : Mem} (hD : Dok w D)  (lQ : ∀ t, h_Q t = true → h t = true) (hQ : ∀ z0, Ow w D T h_Q M0 z0 → Q z0 → Q' z0) : ∀ (n : Nat) (v1 : Int32) (v2 : Int32) (v3 : Int32) (M : Mem), Ow w D T h M0 M → w_Writer_labels_L12 this Q n v1 v2 v3 M → w_Writer_labels_L12 this Q' n v1 v2 v3 M
  | 0, _, _, _, _ => fun  _ h => h
  | n + 1, v1, v2, v3, M => fun  hf => by
    unfold w_Writer_labels_L12
    exact (mf_ite (Exists.imp fun n48 => (mo_w_Writer_labels_L32 hD  lQ hQ _ _ _ _ _  hf)) (mf_and fun _ => (have g1 : Ow w D T _ M0 (sI M 96 this v3.toNatClampNeg (-1 : Int32)) := (Ow.wI (ow0 rfl) hf); (mo_w_Writer_labels_L12 hD  lQ hQ _ _ _ _ _  g1))))
set_option maxRecDepth 20000 in
theorem mo_w_Writer_labels {w : Nat} {D : Nat → Nat → Prop} {T : Nat → Prop} {h : Hot} {this : Nat} {a1 : Int32} {Q Q' : Mem → Prop} {M : Mem} (hD : Dok w D)  (hQ : ∀ z0, Ow w D T h M z0 → Q z0 → Q' z0) : St w D T h M → w_Writer_labels this a1 Q M → w_Writer_labels this a1 Q' M := by
  intro hs
  unfold w_Writer_labels
  exact (Exists.imp fun i1 => (mf_and fun e1 => (mf_and fun _ => (Exists.imp fun n50 => (mo_w_Writer_labels_L12 hD  (fun _ e => e) hQ _ _ _ _ _  (Ow.rf hs))))))
set_option maxRecDepth 20000 in
theorem mo_w_Writer_frame_j98 {w : Nat} {D : Nat → Nat → Prop} {T : Nat → Prop} {h : Hot} {this : Nat} {Q Q' : Mem → Prop} {h_Q : Hot} {k75 k75' : Int32 → Int32 → Int32 → Mem → Prop} {h_k75 : Hot} {v1 : Int32} {v2 : Int32} {v3 : Int32} {M : Mem} {M0 : Mem} (hD : Dok w D)  (lQ : ∀ t, h_Q t = true → h t = true) (hQ : ∀ z0, Ow w D T h_Q M0 z0 → Q z0 → Q' z0) (lk75 : ∀ t, h_k75 t = true → h t = true) (hk75 : ∀ z0 z1 z2 z3, Ow w D T h_k75 M0 z3 → k75 z0 z1 z2 z3 → k75' z0 z1 z2 z3) : Ow w D T h M0 M → w_Writer_frame_j98 this Q k75 v1 v2 v3 M → w_Writer_frame_j98 this Q' k75' v1 v2 v3 M := by
  intro hf
  unfold w_Writer_frame_j98
  exact (Exists.imp fun i14 => (mf_and fun e1 => (Exists.imp fun i15 => (mf_and fun e3 => (mf_and fun _ => (mf_and fun _ => (mo_w_Writer_kind hD  (fun M18 f5 => (have g6 : Ow w D T _ M0 M18 := (Ow.trans hf f5); (hk75 _ _ _ _  (Ow.dn lk75 g6)))) hf.1)))))))
set_option maxRecDepth 20000 in
theorem mo_w_Writer_frame_L75 {w : Nat} {D : Nat → Nat → Prop} {T : Nat → Prop} {h : Hot} {this : Nat} {Q Q' : Mem → Prop} {h_Q : Hot} {M0 : Mem} (hD : Dok w D)  (lQ : ∀ t, h_Q t = true → h t = true) (hQ : ∀ z0, Ow w D T h_Q M0 z0 → Q z0 → Q' z0) : ∀ (n : Nat) (v1 : Int32) (v2 : Int32) (v3 : Int32) (M : Mem), Ow w D T h M0 M → w_Writer_frame_L75 this Q n v1 v2 v3 M → w_Writer_frame_L75 this Q' n v1 v2 v3 M
  | 0, _, _, _, _ => fun  _ h => h
  | n + 1, v1, v2, v3, M => fun  hf => by
    unfold w_Writer_frame_L75
    exact (Exists.imp fun i9 => (mf_and fun e1 => (mf_and fun _ => (mf_ite (mo_w_Writer_end hD  (fun M12 f3 => (have g4 : Ow w D T _ M0 M12 := (Ow.trans hf f3); (hQ _  (Ow.dn lQ g4)))) hf.1) (mf_ite (mo_w_Writer_frame_j98 hD  lQ hQ (fun _ e => e) (fun y0 y1 y2 y3  hf => mo_w_Writer_frame_L75 hD  lQ hQ n y0 y1 y2 y3  hf) hf) (mo_w_Writer_sign hD  (fun M19 f5 => (have g6 : Ow w D T _ M0 M19 := (Ow.trans hf f5); (mo_w_Writer_frame_j98 hD  lQ hQ (fun _ e => e) (fun y0 y1 y2 y3  hf => mo_w_Writer_frame_L75 hD  lQ hQ n y0 y1 y2 y3  hf) g6))) hf.1))))))
set_option maxRecDepth 20000 in
theorem mo_w_Writer_frame_j46 {w : Nat} {D : Nat → Nat → Prop} {T : Nat → Prop} {h : Hot} {this : Nat} {Q Q' : Mem → Prop} {h_Q : Hot} {k23 k23' : Int32 → Int32 → Int32 → Mem → Prop} {h_k23 : Hot} {v1 : Int32} {v2 : Int32} {v3 : Int32} {M : Mem} {M0 : Mem} (hD : Dok w D)  (lQ : ∀ t, h_Q t = true → h t = true) (hQ : ∀ z0, Ow w D T h_Q M0 z0 → Q z0 → Q' z0) (lk23 : ∀ t, h_k23 t = true → h t = true) (hk23 : ∀ z0 z1 z2 z3, Ow w D T h_k23 M0 z3 → k23 z0 z1 z2 z3 → k23' z0 z1 z2 z3) : Ow w D T h M0 M → w_Writer_frame_j46 this Q k23 v1 v2 v3 M → w_Writer_frame_j46 this Q' k23' v1 v2 v3 M := by
  intro hf
  unfold w_Writer_frame_j46
  exact (Exists.imp fun i22 => (mf_and fun e1 => (mf_and fun _ => (mo_w_Writer_kind hD  (fun M24 f3 => (have g4 : Ow w D T _ M0 M24 := (Ow.trans hf f3); (hk23 _ _ _ _  (Ow.dn lk23 g4)))) hf.1))))
set_option maxRecDepth 20000 in
theorem mo_w_Writer_frame_L23 {w : Nat} {D : Nat → Nat → Prop} {T : Nat → Prop} {h : Hot} {this : Nat} {Q Q' : Mem → Prop} {h_Q : Hot} {M0 : Mem} (hD : Dok w D)  (lQ : ∀ t, h_Q t = true → h t = true) (hQ : ∀ z0, Ow w D T h_Q M0 z0 → Q z0 → Q' z0) : ∀ (n : Nat) (v1 : Int32) (v2 : Int32) (v3 : Int32) (M : Mem), Ow w D T h M0 M → w_Writer_frame_L23 this Q n v1 v2 v3 M → w_Writer_frame_L23 this Q' n v1 v2 v3 M
  | 0, _, _, _, _ => fun  _ h => h
  | n + 1, v1, v2, v3, M => fun  hf => by
    unfold w_Writer_frame_L23
    exact (Exists.imp fun i5 => (mf_and fun e1 => (mf_and fun _ => (mf_ite (mo_w_Writer_sign hD  (fun M8 f3 => (have g4 : Ow w D T _ M0 M8 := (Ow.trans hf f3); (Exists.imp fun n20 => (mo_w_Writer_frame_L75 hD  lQ hQ _ _ _ _ _  g4)))) hf.1) (mf_ite (mo_w_Writer_frame_j46 hD  lQ hQ (fun _ e => e) (fun y0 y1 y2 y3  hf => mo_w_Writer_frame_L23 hD  lQ hQ n y0 y1 y2 y3  hf) hf) (mo_w_Writer_sign hD  (fun M25 f5 => (have g6 : Ow w D T _ M0 M25 := (Ow.trans hf f5); (mo_w_Writer_frame_j46 hD  lQ hQ (fun _ e => e) (fun y0 y1 y2 y3  hf => mo_w_Writer_frame_L23 hD  lQ hQ n y0 y1 y2 y3  hf) g6))) hf.1))))))
set_option maxRecDepth 20000 in
theorem mo_w_Writer_frame {w : Nat} {D : Nat → Nat → Prop} {T : Nat → Prop} {h : Hot} {this : Nat} {a1 : Int32} {Q Q' : Mem → Prop} {M : Mem} (hD : Dok w D)  (hQ : ∀ z0, Ow w D T h M z0 → Q z0 → Q' z0) : St w D T h M → w_Writer_frame this a1 Q M → w_Writer_frame this a1 Q' M := by
  intro hs
  unfold w_Writer_frame
  exact (mo_w_Writer_line hD  (fun M1 f1 => (have g2 : Ow w D T _ M M1 := (Ow.trans (Ow.rf hs) f1); (mo_w_Writer_word hD  (fun M2 f3 => (have g4 : Ow w D T _ M M2 := (Ow.trans g2 f3); (Exists.imp fun i3 => (mf_and fun e5 => (mf_and fun _ => (Exists.imp fun n26 => (mo_w_Writer_frame_L23 hD  (fun _ e => e) hQ _ _ _ _ _  g4))))))) g2.1))) (Ow.rf hs).1)
set_option maxRecDepth 20000 in
theorem mo_w_Writer_label {w : Nat} {D : Nat → Nat → Prop} {T : Nat → Prop} {h : Hot} {this : Nat} {a1 : Int32} {Q Q' : Mem → Prop} {M : Mem} (hD : Dok w D)  (hQ : ∀ z0, Ow w D T h M z0 → Q z0 → Q' z0) : St w D T h M → w_Writer_label this a1 Q M → w_Writer_label this a1 Q' M := by
  intro hs
  unfold w_Writer_label
  exact (mo_w_Writer_space hD  (fun M1 f1 => (have g2 : Ow w D T _ M M1 := (Ow.trans (Ow.rf hs) f1); (mo_w_Writer_put hD  (fun M2 f3 => (have g4 : Ow w D T _ M M2 := (Ow.trans g2 f3); (mf_and fun _ => (mf_and fun _ => (have g5 : Ow w D T _ M (sI M2 8 this 3 (1 : Int32)) := (Ow.wI (ow0 rfl) g4); (mo_w_Writer_digits hD  (fun M5 f6 => (have g7 : Ow w D T _ M M5 := (Ow.trans g5 f6); (hQ _  g7))) g5.1)))))) g2.1))) (Ow.rf hs).1)
set_option maxRecDepth 20000 in
theorem mo_w_Writer_instruction_j40 {w : Nat} {D : Nat → Nat → Prop} {T : Nat → Prop} {h : Hot} {this : Nat} {Q Q' : Mem → Prop} {h_Q : Hot} {v1 : Int32} {v2 : Int32} {v3 : Int32} {M : Mem} {M0 : Mem} (hD : Dok w D)  (lQ : ∀ t, h_Q t = true → h t = true) (hQ : ∀ z0, Ow w D T h_Q M0 z0 → Q z0 → Q' z0) : Ow w D T h M0 M → w_Writer_instruction_j40 this Q v1 v2 v3 M → w_Writer_instruction_j40 this Q' v1 v2 v3 M := by
  intro hf
  unfold w_Writer_instruction_j40
  exact (mo_w_Writer_digits hD  (fun M7 f1 => (have g2 : Ow w D T _ M0 M7 := (Ow.trans hf f1); (mf_ite (Exists.imp fun i9 => (mf_and fun e3 => (mf_and fun _ => (mo_w_Writer_digits hD  (fun M11 f5 => (have g6 : Ow w D T _ M0 M11 := (Ow.trans g2 f5); (hQ _  (Ow.dn lQ g6)))) g2.1)))) (hQ _  (Ow.dn lQ g2))))) hf.1)
set_option maxRecDepth 20000 in
theorem mo_w_Writer_instruction_j125 {w : Nat} {D : Nat → Nat → Prop} {T : Nat → Prop} {h : Hot} {this : Nat} {Q Q' : Mem → Prop} {h_Q : Hot} {k100 k100' : Int32 → Int32 → Mem → Prop} {h_k100 : Hot} {v1 : Int32} {v4 : Int32} {M : Mem} {M0 : Mem} (hD : Dok w D)  (lQ : ∀ t, h_Q t = true → h t = true) (hQ : ∀ z0, Ow w D T h_Q M0 z0 → Q z0 → Q' z0) (lk100 : ∀ t, h_k100 t = true → h t = true) (hk100 : ∀ z0 z1 z2, Ow w D T h_k100 M0 z2 → k100 z0 z1 z2 → k100' z0 z1 z2) : Ow w D T h M0 M → w_Writer_instruction_j125 this Q k100 v1 v4 M → w_Writer_instruction_j125 this Q' k100' v1 v4 M := by
  intro hf
  unfold w_Writer_instruction_j125
  exact (Exists.imp fun i24 => (mf_and fun e1 => (Exists.imp fun i25 => (mf_and fun e3 => (mf_and fun _ => (mf_and fun _ => (mo_w_Writer_label hD  (fun M28 f5 => (have g6 : Ow w D T _ M0 M28 := (Ow.trans hf f5); (hk100 _ _ _  (Ow.dn lk100 g6)))) hf.1)))))))
set_option maxRecDepth 20000 in
theorem mo_w_Writer_instruction_L100 {w : Nat} {D : Nat → Nat → Prop} {T : Nat → Prop} {h : Hot} {this : Nat} {Q Q' : Mem → Prop} {h_Q : Hot} {M0 : Mem} (hD : Dok w D)  (lQ : ∀ t, h_Q t = true → h t = true) (hQ : ∀ z0, Ow w D T h_Q M0 z0 → Q z0 → Q' z0) : ∀ (n : Nat) (v1 : Int32) (v4 : Int32) (M : Mem), Ow w D T h M0 M → w_Writer_instruction_L100 this Q n v1 v4 M → w_Writer_instruction_L100 this Q' n v1 v4 M
  | 0, _, _, _ => fun  _ h => h
  | n + 1, v1, v4, M => fun  hf => by
    unfold w_Writer_instruction_L100
    exact (Exists.imp fun i20 => (mf_and fun e1 => (mf_and fun _ => (mf_ite (hQ _  (Ow.dn lQ hf)) (mf_ite (mo_w_Writer_instruction_j125 hD  lQ hQ (fun _ e => e) (fun y0 y1 y2  hf => mo_w_Writer_instruction_L100 hD  lQ hQ n y0 y1 y2  hf) hf) (mo_w_Writer_sign hD  (fun M29 f3 => (have g4 : Ow w D T _ M0 M29 := (Ow.trans hf f3); (mo_w_Writer_instruction_j125 hD  lQ hQ (fun _ e => e) (fun y0 y1 y2  hf => mo_w_Writer_instruction_L100 hD  lQ hQ n y0 y1 y2  hf) g4))) hf.1))))))
set_option maxRecDepth 20000 in
theorem mo_w_Writer_instruction_j176 {w : Nat} {D : Nat → Nat → Prop} {T : Nat → Prop} {h : Hot} {this : Nat} {Q Q' : Mem → Prop} {h_Q : Hot} {v3 : Int32} {M : Mem} {M0 : Mem} (hD : Dok w D)  (lQ : ∀ t, h_Q t = true → h t = true) (hQ : ∀ z0, Ow w D T h_Q M0 z0 → Q z0 → Q' z0) : Ow w D T h M0 M → w_Writer_instruction_j176 this Q v3 M → w_Writer_instruction_j176 this Q' v3 M := by
  intro hf
  unfold w_Writer_instruction_j176
  exact (mo_w_Writer_word hD  (fun M32 f1 => (have g2 : Ow w D T _ M0 M32 := (Ow.trans hf f1); (hQ _  (Ow.dn lQ g2)))) hf.1)
set_option maxRecDepth 20000 in
theorem mo_w_Writer_instruction {w : Nat} {D : Nat → Nat → Prop} {T : Nat → Prop} {h : Hot} {this : Nat} {a1 : Int32} {Q Q' : Mem → Prop} {M : Mem} (hD : Dok w D)  (hQ : ∀ z0, Ow w D T h M z0 → Q z0 → Q' z0) : St w D T h M → w_Writer_instruction this a1 Q M → w_Writer_instruction this a1 Q' M := by
  intro hs
  unfold w_Writer_instruction
  exact (Exists.imp fun i1 => (mf_and fun e1 => (mf_and fun _ => (Exists.imp fun i3 => (mf_and fun e3 => (mf_and fun _ => (mo_w_Writer_word hD  (fun M5 f5 => (have g6 : Ow w D T _ M M5 := (Ow.trans (Ow.rf hs) f5); (mf_ite (mo_w_Writer_instruction_j40 hD  (fun _ e => e) hQ g6) (mo_w_Works_isIn hD  (fun r13 M12 f7 => (have g8 : Ow w D T _ M M12 := (Ow.trans g6 f7); (mf_ite (mo_w_Works_isIn hD  (fun r16 M15 f9 => (have g10 : Ow w D T _ M M15 := (Ow.trans g8 f9); (mf_ite (mf_ite (mo_w_Writer_digits hD  (fun M19 f11 => (have g12 : Ow w D T _ M M19 := (Ow.trans g10 f11); (Exists.imp fun n30 => (mo_w_Writer_instruction_L100 hD  (fun _ e => e) hQ _ _ _ _  g12)))) g10.1) (mf_ite (mo_w_Writer_instruction_j176 hD  (fun _ e => e) hQ g10) (mf_ite (mo_w_Writer_instruction_j176 hD  (fun _ e => e) hQ g10) (mf_ite (mo_w_Writer_instruction_j176 hD  (fun _ e => e) hQ g10) (mo_w_Works_isIn hD  (fun r36 M35 f13 => (have g14 : Ow w D T _ M M35 := (Ow.trans g10 f13); (mf_ite (hQ _  g14) (Exists.imp fun i38 => (mf_and fun e15 => (mo_w_World_refClass hD  (fun r40 M39 f17 => (have g18 : Ow w D T _ M M39 := (Ow.trans g14 f17); (mo_w_Writer_word hD  (fun M41 f19 => (have g20 : Ow w D T _ M M41 := (Ow.trans g18 f19); (mo_w_Writer_sign hD  (fun M42 f21 => (have g22 : Ow w D T _ M M42 := (Ow.trans g20 f21); (Exists.imp fun i43 => (mf_and fun e23 => (mo_w_World_refName hD  (fun r45 M44 f25 => (have g26 : Ow w D T _ M M44 := (Ow.trans g22 f25); (mo_w_Writer_word hD  (fun M46 f27 => (have g28 : Ow w D T _ M M46 := (Ow.trans g26 f27); (mf_ite (Exists.imp fun i48 => (mf_and fun e29 => (Exists.imp fun i49 => (mf_and fun e31 => (mo_w_World_refArguments hD  (fun r51 M50 f33 => (have g34 : Ow w D T _ M M50 := (Ow.trans g28 f33); (Exists.imp fun i52 => (mf_and fun e35 => (mo_w_World_refType hD  (fun r54 M53 f37 => (have g38 : Ow w D T _ M M53 := (Ow.trans g34 f37); (mo_w_Writer_types hD  (fun M55 f39 => (have g40 : Ow w D T _ M M55 := (Ow.trans g38 f39); (hQ _  g40))) g38.1))) g34.1))))) g28.1))))) (Exists.imp fun i56 => (mf_and fun e41 => (mo_w_World_refType hD  (fun r58 M57 f43 => (have g44 : Ow w D T _ M M57 := (Ow.trans g28 f43); (mo_w_Writer_kind hD  (fun M59 f45 => (have g46 : Ow w D T _ M M59 := (Ow.trans g44 f45); (hQ _  g46))) g44.1))) g28.1)))))) g26.1))) g22.1))))) g20.1))) g18.1))) g14.1)))))) g10.1))))) (mo_w_Writer_label hD  (fun M60 f47 => (have g48 : Ow w D T _ M M60 := (Ow.trans g10 f47); (hQ _  g48))) g10.1)))) g8.1) (mo_w_Writer_instruction_j40 hD  (fun _ e => e) hQ g8)))) g6.1)))) (Ow.rf hs).1)))))))
set_option maxRecDepth 20000 in
theorem mo_w_Writer_handler_L13 {w : Nat} {D : Nat → Nat → Prop} {T : Nat → Prop} {h : Hot} {this : Nat} {Q Q' : Mem → Prop} {h_Q : Hot} {M0 : Mem} (hD : Dok w D)  (lQ : ∀ t, h_Q t = true → h t = true) (hQ : ∀ z0, Ow w D T h_Q M0 z0 → Q z0 → Q' z0) : ∀ (n : Nat) (v1 : Int32) (v2 : Int32) (M : Mem), Ow w D T h M0 M → w_Writer_handler_L13 this Q n v1 v2 M → w_Writer_handler_L13 this Q' n v1 v2 M
  | 0, _, _, _ => fun  _ h => h
  | n + 1, v1, v2, M => fun  hf => by
    unfold w_Writer_handler_L13
    exact (mf_ite (Exists.imp fun i4 => (mf_and fun e1 => (mf_and fun _ => (mo_w_Writer_word hD  (fun M6 f3 => (have g4 : Ow w D T _ M0 M6 := (Ow.trans hf f3); (mo_w_Writer_end hD  (fun M7 f5 => (have g6 : Ow w D T _ M0 M7 := (Ow.trans g4 f5); (hQ _  (Ow.dn lQ g6)))) g4.1))) hf.1)))) (Exists.imp fun i8 => (mf_and fun e7 => (mf_and fun _ => (mo_w_Writer_label hD  (fun M10 f9 => (have g10 : Ow w D T _ M0 M10 := (Ow.trans hf f9); (mo_w_Writer_handler_L13 hD  lQ hQ _ _ _ _  g10))) hf.1)))))
set_option maxRecDepth 20000 in
theorem mo_w_Writer_handler {w : Nat} {D : Nat → Nat → Prop} {T : Nat → Prop} {h : Hot} {this : Nat} {a1 : Int32} {Q Q' : Mem → Prop} {M : Mem} (hD : Dok w D)  (hQ : ∀ z0, Ow w D T h M z0 → Q z0 → Q' z0) : St w D T h M → w_Writer_handler this a1 Q M → w_Writer_handler this a1 Q' M := by
  intro hs
  unfold w_Writer_handler
  exact (mo_w_Writer_line hD  (fun M1 f1 => (have g2 : Ow w D T _ M M1 := (Ow.trans (Ow.rf hs) f1); (mo_w_Writer_word hD  (fun M2 f3 => (have g4 : Ow w D T _ M M2 := (Ow.trans g2 f3); (Exists.imp fun n11 => (mo_w_Writer_handler_L13 hD  (fun _ e => e) hQ _ _ _ _  g4)))) g2.1))) (Ow.rf hs).1)
set_option maxRecDepth 20000 in
theorem mo_w_Writer_method_L274 {w : Nat} {D : Nat → Nat → Prop} {T : Nat → Prop} {h : Hot} {this : Nat} {Q Q' : Mem → Prop} {h_Q : Hot} {M0 : Mem} (hD : Dok w D)  (lQ : ∀ t, h_Q t = true → h t = true) (hQ : ∀ z0, Ow w D T h_Q M0 z0 → Q z0 → Q' z0) : ∀ (n : Nat) (v1 : Int32) (v3 : Int32) (M : Mem), Ow w D T h M0 M → w_Writer_method_L274 this Q n v1 v3 M → w_Writer_method_L274 this Q' n v1 v3 M
  | 0, _, _, _ => fun  _ h => h
  | n + 1, v1, v3, M => fun  hf => by
    unfold w_Writer_method_L274
    exact (Exists.imp fun i34 => (mf_and fun e1 => (mf_and fun _ => (mf_ite (hQ _  (Ow.dn lQ hf)) (Exists.imp fun i37 => (mf_and fun e3 => (mf_and fun _ => (mo_w_Writer_handler hD  (fun M39 f5 => (have g6 : Ow w D T _ M0 M39 := (Ow.trans hf f5); (mo_w_Writer_method_L274 hD  lQ hQ _ _ _ _  g6))) hf.1))))))))
set_option maxRecDepth 20000 in
theorem mo_w_Writer_method_j272 {w : Nat} {D : Nat → Nat → Prop} {T : Nat → Prop} {h : Hot} {this : Nat} {Q Q' : Mem → Prop} {h_Q : Hot} {v1 : Int32} {M : Mem} {M0 : Mem} (hD : Dok w D)  (lQ : ∀ t, h_Q t = true → h t = true) (hQ : ∀ z0, Ow w D T h_Q M0 z0 → Q z0 → Q' z0) : Ow w D T h M0 M → w_Writer_method_j272 this Q v1 M → w_Writer_method_j272 this Q' v1 M := by
  intro hf
  unfold w_Writer_method_j272
  exact (Exists.imp fun n40 => (mo_w_Writer_method_L274 hD  lQ hQ _ _ _ _  hf))
set_option maxRecDepth 20000 in
theorem mo_w_Writer_method_j227 {w : Nat} {D : Nat → Nat → Prop} {T : Nat → Prop} {h : Hot} {this : Nat} {Q Q' : Mem → Prop} {h_Q : Hot} {k156 k156' : Int32 → Int32 → Int32 → Mem → Prop} {h_k156 : Hot} {v1 : Int32} {v2 : Int32} {v3 : Int32} {v4 : Int32} {M : Mem} {M0 : Mem} (hD : Dok w D)  (lQ : ∀ t, h_Q t = true → h t = true) (hQ : ∀ z0, Ow w D T h_Q M0 z0 → Q z0 → Q' z0) (lk156 : ∀ t, h_k156 t = true → h t = true) (hk156 : ∀ z0 z1 z2 z3, Ow w D T h_k156 M0 z3 → k156 z0 z1 z2 z3 → k156' z0 z1 z2 z3) : Ow w D T h M0 M → w_Writer_method_j227 this Q k156 v1 v2 v3 v4 M → w_Writer_method_j227 this Q' k156' v1 v2 v3 v4 M := by
  intro hf
  unfold w_Writer_method_j227
  exact (mo_w_Writer_instruction hD  (fun M55 f1 => (have g2 : Ow w D T _ M0 M55 := (Ow.trans hf f1); (mo_w_Writer_end hD  (fun M56 f3 => (have g4 : Ow w D T _ M0 M56 := (Ow.trans g2 f3); (hk156 _ _ _ _  (Ow.dn lk156 g4)))) g2.1))) hf.1)
set_option maxRecDepth 20000 in
theorem mo_w_Writer_method_j212 {w : Nat} {D : Nat → Nat → Prop} {T : Nat → Prop} {h : Hot} {this : Nat} {Q Q' : Mem → Prop} {h_Q : Hot} {k156 k156' : Int32 → Int32 → Int32 → Mem → Prop} {h_k156 : Hot} {v1 : Int32} {v2 : Int32} {v3 : Int32} {v4 : Int32} {M : Mem} {M0 : Mem} (hD : Dok w D)  (lQ : ∀ t, h_Q t = true → h t = true) (hQ : ∀ z0, Ow w D T h_Q M0 z0 → Q z0 → Q' z0) (lk156 : ∀ t, h_k156 t = true → h t = true) (hk156 : ∀ z0 z1 z2 z3, Ow w D T h_k156 M0 z3 → k156 z0 z1 z2 z3 → k156' z0 z1 z2 z3) : Ow w D T h M0 M → w_Writer_method_j212 this Q k156 v1 v2 v3 v4 M → w_Writer_method_j212 this Q' k156' v1 v2 v3 v4 M := by
  intro hf
  unfold w_Writer_method_j212
  exact (mf_and fun _ => (mf_ite (mo_w_Writer_method_j227 hD  lQ hQ lk156 hk156 hf) (mo_w_Writer_sign hD  (fun M57 f1 => (have g2 : Ow w D T _ M0 M57 := (Ow.trans hf f1); (mo_w_Writer_method_j227 hD  lQ hQ lk156 hk156 g2))) hf.1)))
set_option maxRecDepth 20000 in
theorem mo_w_Writer_method_j193 {w : Nat} {D : Nat → Nat → Prop} {T : Nat → Prop} {h : Hot} {this : Nat} {Q Q' : Mem → Prop} {h_Q : Hot} {k156 k156' : Int32 → Int32 → Int32 → Mem → Prop} {h_k156 : Hot} {v1 : Int32} {v2 : Int32} {v3 : Int32} {v4 : Int32} {M : Mem} {M0 : Mem} (hD : Dok w D)  (lQ : ∀ t, h_Q t = true → h t = true) (hQ : ∀ z0, Ow w D T h_Q M0 z0 → Q z0 → Q' z0) (lk156 : ∀ t, h_k156 t = true → h t = true) (hk156 : ∀ z0 z1 z2 z3, Ow w D T h_k156 M0 z3 → k156 z0 z1 z2 z3 → k156' z0 z1 z2 z3) : Ow w D T h M0 M → w_Writer_method_j193 this Q k156 v1 v2 v3 v4 M → w_Writer_method_j193 this Q' k156' v1 v2 v3 v4 M := by
  intro hf
  unfold w_Writer_method_j193
  exact (mo_w_Writer_line hD  (fun M50 f1 => (have g2 : Ow w D T _ M0 M50 := (Ow.trans hf f1); (mf_and fun _ => (mf_ite (mo_w_Writer_method_j212 hD  lQ hQ lk156 hk156 g2) (mo_w_Writer_label hD  (fun M58 f3 => (have g4 : Ow w D T _ M0 M58 := (Ow.trans g2 f3); (mo_w_Writer_method_j212 hD  lQ hQ lk156 hk156 g4))) g2.1))))) hf.1)
set_option maxRecDepth 20000 in
theorem mo_w_Writer_method_L156 {w : Nat} {D : Nat → Nat → Prop} {T : Nat → Prop} {h : Hot} {this : Nat} {Q Q' : Mem → Prop} {h_Q : Hot} {M0 : Mem} (hD : Dok w D)  (lQ : ∀ t, h_Q t = true → h t = true) (hQ : ∀ z0, Ow w D T h_Q M0 z0 → Q z0 → Q' z0) : ∀ (n : Nat) (v1 : Int32) (v2 : Int32) (v3 : Int32) (M : Mem), Ow w D T h M0 M → w_Writer_method_L156 this Q n v1 v2 v3 M → w_Writer_method_L156 this Q' n v1 v2 v3 M
  | 0, _, _, _, _ => fun  _ h => h
  | n + 1, v1, v2, v3, M => fun  hf => by
    unfold w_Writer_method_L156
    exact (mf_ite (mf_and fun _ => (mf_ite (mo_w_Writer_method_j272 hD  lQ hQ hf) (mo_w_Writer_line hD  (fun M41 f1 => (have g2 : Ow w D T _ M0 M41 := (Ow.trans hf f1); (mo_w_Writer_label hD  (fun M42 f3 => (have g4 : Ow w D T _ M0 M42 := (Ow.trans g2 f3); (mo_w_Writer_sign hD  (fun M43 f5 => (have g6 : Ow w D T _ M0 M43 := (Ow.trans g4 f5); (mo_w_Writer_end hD  (fun M44 f7 => (have g8 : Ow w D T _ M0 M44 := (Ow.trans g6 f7); (mo_w_Writer_method_j272 hD  lQ hQ g8))) g6.1))) g4.1))) g2.1))) hf.1))) (Exists.imp fun i45 => (mf_and fun e9 => (mf_and fun _ => (Exists.imp fun i47 => (mf_and fun e11 => (mf_and fun _ => (mf_ite (mo_w_Writer_method_j193 hD  lQ hQ (fun _ e => e) (fun y0 y1 y2 y3  hf => mo_w_Writer_method_L156 hD  lQ hQ n y0 y1 y2 y3  hf) hf) (mo_w_Writer_frame hD  (fun M59 f13 => (have g14 : Ow w D T _ M0 M59 := (Ow.trans hf f13); (mo_w_Writer_method_j193 hD  lQ hQ (fun _ e => e) (fun y0 y1 y2 y3  hf => mo_w_Writer_method_L156 hD  lQ hQ n y0 y1 y2 y3  hf) g14))) hf.1)))))))))
set_option maxRecDepth 20000 in
theorem mo_w_Writer_method {w : Nat} {D : Nat → Nat → Prop} {T : Nat → Prop} {h : Hot} {this : Nat} {a1 : Int32} {Q Q' : Mem → Prop} {M : Mem} (hD : Dok w D)  (hQ : ∀ z0, Ow w D T h M z0 → Q z0 → Q' z0) : St w D T h M → w_Writer_method this a1 Q M → w_Writer_method this a1 Q' M := by
  intro hs
  unfold w_Writer_method
  exact (mo_w_Writer_line hD  (fun M1 f1 => (have g2 : Ow w D T _ M M1 := (Ow.trans (Ow.rf hs) f1); (mo_w_Writer_word hD  (fun M2 f3 => (have g4 : Ow w D T _ M M2 := (Ow.trans g2 f3); (Exists.imp fun i3 => (mf_and fun e5 => (mf_and fun _ => (mo_w_Writer_flags hD  (fun M5 f7 => (have g8 : Ow w D T _ M M5 := (Ow.trans g4 f7); (Exists.imp fun i6 => (mf_and fun e9 => (mf_and fun _ => (mo_w_Writer_word hD  (fun M8 f11 => (have g12 : Ow w D T _ M M8 := (Ow.trans g8 f11); (Exists.imp fun i9 => (mf_and fun e13 => (Exists.imp fun i10 => (mf_and fun e15 => (mf_and fun _ => (Exists.imp fun i12 => (mf_and fun e17 => (mf_and fun _ => (mo_w_Writer_types hD  (fun M14 f19 => (have g20 : Ow w D T _ M M14 := (Ow.trans g12 f19); (mo_w_Writer_end hD  (fun M15 f21 => (have g22 : Ow w D T _ M M15 := (Ow.trans g20 f21); (Exists.imp fun i16 => (mf_and fun e23 => (mf_and fun _ => (mf_ite (mo_w_Writer_line hD  (fun M19 f25 => (have g26 : Ow w D T _ M M19 := (Ow.trans g22 f25); (mo_w_Writer_word hD  (fun M20 f27 => (have g28 : Ow w D T _ M M20 := (Ow.trans g26 f27); (Exists.imp fun i21 => (mf_and fun e29 => (mf_and fun _ => (mo_w_Writer_digits hD  (fun M23 f31 => (have g32 : Ow w D T _ M M23 := (Ow.trans g28 f31); (Exists.imp fun i24 => (mf_and fun e33 => (mf_and fun _ => (mo_w_Writer_digits hD  (fun M26 f35 => (have g36 : Ow w D T _ M M26 := (Ow.trans g32 f35); (mo_w_Writer_end hD  (fun M27 f37 => (have g38 : Ow w D T _ M M27 := (Ow.trans g36 f37); (mo_w_Writer_labels hD  (fun M28 f39 => (have g40 : Ow w D T _ M M28 := (Ow.trans g38 f39); (Exists.imp fun i29 => (mf_and fun e41 => (mf_and fun _ => (Exists.imp fun n60 => (mo_w_Writer_method_L156 hD  (fun _ e => e) hQ _ _ _ _ _  g40))))))) g38.1))) g36.1))) g32.1)))))) g28.1)))))) g26.1))) g22.1) (hQ _  g22))))))) g20.1))) g12.1))))))))))) g8.1)))))) g4.1)))))) g2.1))) (Ow.rf hs).1)
set_option maxRecDepth 20000 in
theorem mo_w_Writer_write_L175 {w : Nat} {D : Nat → Nat → Prop} {T : Nat → Prop} {h : Hot} {this : Nat} {Q Q' : Int32 → Mem → Prop} {h_Q : Hot} {M0 : Mem} (hD : Dok w D)  (lQ : ∀ t, h_Q t = true → h t = true) (hQ : ∀ z0 z1, Ow w D T h_Q M0 z1 → Q z0 z1 → Q' z0 z1) : ∀ (n : Nat) (v2 : Int32) (v3 : Int32) (M : Mem), Ow w D T h M0 M → w_Writer_write_L175 this Q n v2 v3 M → w_Writer_write_L175 this Q' n v2 v3 M
  | 0, _, _, _ => fun  _ h => h
  | n + 1, v2, v3, M => fun  hf => by
    unfold w_Writer_write_L175
    exact (Exists.imp fun i26 => (mf_and fun e1 => (mf_and fun _ => (Exists.imp fun i28 => (mf_and fun e3 => (mf_and fun _ => (mf_ite (mo_w_Writer_line hD  (fun M31 f5 => (have g6 : Ow w D T _ M0 M31 := (Ow.trans hf f5); (mo_w_Writer_word hD  (fun M32 f7 => (have g8 : Ow w D T _ M0 M32 := (Ow.trans g6 f7); (mo_w_Writer_end hD  (fun M33 f9 => (have g10 : Ow w D T _ M0 M33 := (Ow.trans g8 f9); (hQ _ _  (Ow.dn lQ g10)))) g8.1))) g6.1))) hf.1) (mo_w_Writer_method hD  (fun M34 f11 => (have g12 : Ow w D T _ M0 M34 := (Ow.trans hf f11); (mo_w_Writer_write_L175 hD  lQ hQ _ _ _ _  g12))) hf.1))))))))
set_option maxRecDepth 20000 in
theorem mo_w_Writer_write_L131 {w : Nat} {D : Nat → Nat → Prop} {T : Nat → Prop} {h : Hot} {this : Nat} {Q Q' : Int32 → Mem → Prop} {h_Q : Hot} {M0 : Mem} (hD : Dok w D)  (lQ : ∀ t, h_Q t = true → h t = true) (hQ : ∀ z0 z1, Ow w D T h_Q M0 z1 → Q z0 z1 → Q' z0 z1) : ∀ (n : Nat) (v2 : Int32) (v3 : Int32) (M : Mem), Ow w D T h M0 M → w_Writer_write_L131 this Q n v2 v3 M → w_Writer_write_L131 this Q' n v2 v3 M
  | 0, _, _, _ => fun  _ h => h
  | n + 1, v2, v3, M => fun  hf => by
    unfold w_Writer_write_L131
    exact (Exists.imp fun i19 => (mf_and fun e1 => (mf_and fun _ => (Exists.imp fun i21 => (mf_and fun e3 => (mf_and fun _ => (mf_ite (Exists.imp fun i24 => (mf_and fun e5 => (mf_and fun _ => (Exists.imp fun n35 => (mo_w_Writer_write_L175 hD  lQ hQ _ _ _ _  hf))))) (mo_w_Writer_field hD  (fun M36 f7 => (have g8 : Ow w D T _ M0 M36 := (Ow.trans hf f7); (mo_w_Writer_write_L131 hD  lQ hQ _ _ _ _  g8))) hf.1))))))))
set_option maxRecDepth 20000 in
theorem mo_w_Writer_write_L75 {w : Nat} {D : Nat → Nat → Prop} {T : Nat → Prop} {h : Hot} {this : Nat} {Q Q' : Int32 → Mem → Prop} {h_Q : Hot} {M0 : Mem} (hD : Dok w D)  (lQ : ∀ t, h_Q t = true → h t = true) (hQ : ∀ z0 z1, Ow w D T h_Q M0 z1 → Q z0 z1 → Q' z0 z1) : ∀ (n : Nat) (v2 : Int32) (v3 : Int32) (M : Mem), Ow w D T h M0 M → w_Writer_write_L75 this Q n v2 v3 M → w_Writer_write_L75 this Q' n v2 v3 M
  | 0, _, _, _ => fun  _ h => h
  | n + 1, v2, v3, M => fun  hf => by
    unfold w_Writer_write_L75
    exact (Exists.imp fun i13 => (mf_and fun e1 => (mf_and fun _ => (mf_ite (mo_w_Writer_end hD  (fun M16 f3 => (have g4 : Ow w D T _ M0 M16 := (Ow.trans hf f3); (Exists.imp fun i17 => (mf_and fun e5 => (mf_and fun _ => (Exists.imp fun n37 => (mo_w_Writer_write_L131 hD  lQ hQ _ _ _ _  g4))))))) hf.1) (mo_w_Writer_sign hD  (fun M38 f7 => (have g8 : Ow w D T _ M0 M38 := (Ow.trans hf f7); (Exists.imp fun i39 => (mf_and fun e9 => (mf_and fun _ => (mo_w_Writer_word hD  (fun M41 f11 => (have g12 : Ow w D T _ M0 M41 := (Ow.trans g8 f11); (mo_w_Writer_write_L75 hD  lQ hQ _ _ _ _  g12))) g8.1)))))) hf.1)))))
set_option maxRecDepth 20000 in
theorem mo_w_Writer_write {w : Nat} {D : Nat → Nat → Prop} {T : Nat → Prop} {h : Hot} {this : Nat} {a1 : Nat} {a2 : Int32} {Q Q' : Int32 → Mem → Prop} {M : Mem} (hD : Dok w D) (n0 : ow w D 5 a1) (hQ : ∀ z0 z1, Ow w D T h M z1 → Q z0 z1 → Q' z0 z1) : St w D T h M → w_Writer_write this a1 a2 Q M → w_Writer_write this a1 a2 Q' M := by
  intro hs
  unfold w_Writer_write
  exact (have g1 : Ow w D T _ M (sI (sR M 8 this 5 (some (5, a1))) 8 this 1 (0 : Int32)) := (Ow.wI (ow0 rfl) (Ow.wRh rfl (ow0 rfl) n0 (Ow.rf hs))); (mo_w_Writer_line hD  (fun M1 f2 => (have g3 : Ow w D T _ M M1 := (Ow.trans g1 f2); (Exists.imp fun i2 => (mf_and fun e4 => (mf_and fun _ => (mo_w_Writer_flags hD  (fun M4 f6 => (have g7 : Ow w D T _ M M4 := (Ow.trans g3 f6); (mo_w_Writer_word hD  (fun M5 f8 => (have g9 : Ow w D T _ M M5 := (Ow.trans g7 f8); (Exists.imp fun i6 => (mf_and fun e10 => (mf_and fun _ => (mo_w_Writer_word hD  (fun M8 f12 => (have g13 : Ow w D T _ M M8 := (Ow.trans g9 f12); (mo_w_Writer_sign hD  (fun M9 f14 => (have g15 : Ow w D T _ M M9 := (Ow.trans g13 f14); (Exists.imp fun i10 => (mf_and fun e16 => (mf_and fun _ => (mo_w_Writer_word hD  (fun M12 f18 => (have g19 : Ow w D T _ M M12 := (Ow.trans g15 f18); (Exists.imp fun n42 => (mo_w_Writer_write_L75 hD  (leU (fun _ e => e)) hQ _ _ _ _  g19)))) g15.1)))))) g13.1))) g9.1)))))) g7.1))) g3.1)))))) g1.1))
set_option maxRecDepth 20000 in
theorem mo_w_Works_print {w : Nat} {D : Nat → Nat → Prop} {T : Nat → Prop} {h : Hot} {this : Nat} {a1 : Int32} {a2 : Int32} {Q Q' : Int32 → Mem → Prop} {M : Mem} (hD : Dok w D) (n0 : T a1.toNatClampNeg) (hQ : ∀ z0 z1, Ow w D T h M z1 → Q z0 z1 → Q' z0 z1) : St w D T h M → w_Works_print this a1 a2 Q M → w_Works_print this a1 a2 Q' M := by
  intro hs
  unfold w_Works_print
  exact (mo_w_Works_isClass hD  (fun r2 M1 f1 => (have g2 : Ow w D T _ M M1 := (Ow.trans (Ow.rf hs) f1); (mf_ite (hQ _ _  g2) (mf_ite (hQ _ _  g2) (mf_and fun _ => (Exists.imp fun i6 => (mf_and fun e3 => (have o4 : ow w D 5 i6 := (Ow.rT e3 rfl n0 g2); (mo_w_Writer_write hD o4 (fun r8 M7 f5 => (have g6 : Ow w D T _ M M7 := (Ow.trans g2 f5); (hQ _ _  g6))) g2.1))))))))) (Ow.rf hs).1)
set_option maxRecDepth 20000 in
theorem mo_w_Works_written {w : Nat} {D : Nat → Nat → Prop} {T : Nat → Prop} {h : Hot} {this : Nat} {a1 : Int32} {Q Q' : Int32 → Mem → Prop} {M : Mem} (hD : Dok w D)  (hQ : ∀ z0 z1, Ow w D T h M z1 → Q z0 z1 → Q' z0 z1) : St w D T h M → w_Works_written this a1 Q M → w_Works_written this a1 Q' M := by
  intro hs
  unfold w_Works_written
  exact (mo_w_Works_isIn hD  (fun r2 M1 f1 => (have g2 : Ow w D T _ M M1 := (Ow.trans (Ow.rf hs) f1); (mf_ite (hQ _ _  g2) (mf_and fun _ => (hQ _ _  g2))))) (Ow.rf hs).1)
set_option maxRecDepth 20000 in
theorem mo_w_Checker_ask_L37 {w : Nat} {D : Nat → Nat → Prop} {T : Nat → Prop} {h : Hot} {this : Nat} {Q Q' : Mem → Prop} {h_Q : Hot} {M0 : Mem} (hD : Dok w D)  (lQ : ∀ t, h_Q t = true → h t = true) (hQ : ∀ z0, Ow w D T h_Q M0 z0 → Q z0 → Q' z0) : ∀ (n : Nat) (v3 : Int32) (M : Mem), Ow w D T h M0 M → w_Checker_ask_L37 this Q n v3 M → w_Checker_ask_L37 this Q' n v3 M
  | 0, _, _ => fun  _ h => h
  | n + 1, v3, M => fun  hf => by
    unfold w_Checker_ask_L37
    exact (mf_ite (hQ _  (Ow.dn lQ hf)) (mf_and fun _ => (have g1 : Ow w D T _ M0 (sI M 510 this v3.toNatClampNeg ((0 : Int32) &&& 1)) := (Ow.wI (ow0 rfl) hf); (mo_w_Checker_ask_L37 hD  lQ hQ _ _ _  g1))))
set_option maxRecDepth 20000 in
theorem mo_w_Checker_ask {w : Nat} {D : Nat → Nat → Prop} {T : Nat → Prop} {h : Hot} {this : Nat} {a1 : Nat} {a2 : Int32} {Q Q' : Mem → Prop} {M : Mem} (hD : Dok w D) (n0 : ow w D 5 a1) (hQ : ∀ z0, Ow w D T h M z0 → Q z0 → Q' z0) : St w D T h M → w_Checker_ask this a1 a2 Q M → w_Checker_ask this a1 a2 Q' M := by
  intro hs
  unfold w_Checker_ask
  exact (mf_and fun _ => (Exists.imp fun M2 => (mf_and fun e1 => (have g2 : Ow w D T _ M M2 := Ow.of e1 (Ow.wI (ow0 rfl) (Ow.wRh rfl (ow0 rfl) n0 (Ow.rf hs))); (mf_and fun _ => (Exists.imp fun M4 => (mf_and fun e3 => (have g4 : Ow w D T _ M M4 := Ow.of e3 (Ow.wI (ow0 rfl) (Ow.wI (ow0 rfl) (Ow.wI (ow0 rfl) g2))); (Exists.imp fun n7 => (mo_w_Checker_ask_L37 hD  (leU (fun _ e => e)) hQ _ _ _  g4))))))))))
set_option maxRecDepth 20000 in
theorem mo_w_Checker_follows_j94 {w : Nat} {D : Nat → Nat → Prop} {T : Nat → Prop} {h : Hot} {this : Nat} {Q Q' : Int32 → Mem → Prop} {h_Q : Hot} {v2 : Int32} {M : Mem} {M0 : Mem} (hD : Dok w D)  (lQ : ∀ t, h_Q t = true → h t = true) (hQ : ∀ z0 z1, Ow w D T h_Q M0 z1 → Q z0 z1 → Q' z0 z1) : Ow w D T h M0 M → w_Checker_follows_j94 this Q v2 M → w_Checker_follows_j94 this Q' v2 M := by
  intro hf
  unfold w_Checker_follows_j94
  exact (mf_ite (hQ _ _  (Ow.dn lQ hf)) (mf_ite (hQ _ _  (Ow.dn lQ hf)) (mf_ite (hQ _ _  (Ow.dn lQ hf)) (mo_w_Works_isIn hD  (fun r14 M13 f1 => (have g2 : Ow w D T _ M0 M13 := (Ow.trans hf f1); (mf_ite (mf_ite (mo_w_Checker_breaks hD  (fun r18 M17 f3 => (have g4 : Ow w D T _ M0 M17 := (Ow.trans g2 f3); (mf_and fun _ => (hQ _ _  (Ow.dn lQ g4))))) g2.1) (mo_w_Checker_joins hD  (fun r20 M19 f5 => (have g6 : Ow w D T _ M0 M19 := (Ow.trans g2 f5); (mf_and fun _ => (hQ _ _  (Ow.dn lQ g6))))) g2.1)) (hQ _ _  (Ow.dn lQ g2))))) hf.1))))
set_option maxRecDepth 20000 in
theorem mo_w_Checker_follows_L41 {w : Nat} {D : Nat → Nat → Prop} {T : Nat → Prop} {h : Hot} {this : Nat} {Q Q' : Int32 → Mem → Prop} {h_Q : Hot} {M0 : Mem} (hD : Dok w D)  (lQ : ∀ t, h_Q t = true → h t = true) (hQ : ∀ z0 z1, Ow w D T h_Q M0 z1 → Q z0 z1 → Q' z0 z1) : ∀ (n : Nat) (v1 : Int32) (v2 : Int32) (v3 : Int32) (M : Mem), Ow w D T h M0 M → w_Checker_follows_L41 this Q n v1 v2 v3 M → w_Checker_follows_L41 this Q' n v1 v2 v3 M
  | 0, _, _, _, _ => fun  _ h => h
  | n + 1, v1, v2, v3, M => fun  hf => by
    unfold w_Checker_follows_L41
    exact (mf_ite (Exists.imp fun i7 => (mf_and fun e1 => (mf_and fun _ => (mf_ite (mo_w_Checker_follows_j94 hD  lQ hQ hf) (Exists.imp fun i21 => (mf_and fun e3 => (Exists.imp fun i22 => (mf_and fun e5 => (mf_and fun _ => (mf_and fun _ => (mo_w_Checker_joins hD  (fun r26 M25 f7 => (have g8 : Ow w D T _ M0 M25 := (Ow.trans hf f7); (mf_ite (hQ _ _  (Ow.dn lQ g8)) (mo_w_Checker_follows_L41 hD  lQ hQ _ _ _ _ _  g8)))) hf.1))))))))))) (mo_w_Checker_follows_j94 hD  lQ hQ hf))
set_option maxRecDepth 20000 in
theorem mo_w_Checker_follows_j39 {w : Nat} {D : Nat → Nat → Prop} {T : Nat → Prop} {h : Hot} {this : Nat} {Q Q' : Int32 → Mem → Prop} {h_Q : Hot} {v1 : Int32} {v2 : Int32} {M : Mem} {M0 : Mem} (hD : Dok w D)  (lQ : ∀ t, h_Q t = true → h t = true) (hQ : ∀ z0 z1, Ow w D T h_Q M0 z1 → Q z0 z1 → Q' z0 z1) : Ow w D T h M0 M → w_Checker_follows_j39 this Q v1 v2 M → w_Checker_follows_j39 this Q' v1 v2 M := by
  intro hf
  unfold w_Checker_follows_j39
  exact (Exists.imp fun n28 => (mo_w_Checker_follows_L41 hD  lQ hQ _ _ _ _ _  hf))
set_option maxRecDepth 20000 in
theorem mo_w_Checker_follows {w : Nat} {D : Nat → Nat → Prop} {T : Nat → Prop} {h : Hot} {this : Nat} {a1 : Int32} {Q Q' : Int32 → Mem → Prop} {M : Mem} (hD : Dok w D)  (hQ : ∀ z0 z1, Ow w D T h M z1 → Q z0 z1 → Q' z0 z1) : St w D T h M → w_Checker_follows this a1 Q M → w_Checker_follows this a1 Q' M := by
  intro hs
  unfold w_Checker_follows
  exact (Exists.imp fun i1 => (mf_and fun e1 => (mf_and fun _ => (mo_w_Works_isIn hD  (fun r4 M3 f3 => (have g4 : Ow w D T _ M M3 := (Ow.trans (Ow.rf hs) f3); (mf_ite (mo_w_Checker_follows_j39 hD  (fun _ e => e) hQ g4) (Exists.imp fun i29 => (mf_and fun e5 => (mf_and fun _ => (mo_w_Checker_joins hD  (fun r32 M31 f7 => (have g8 : Ow w D T _ M M31 := (Ow.trans g4 f7); (mf_ite (hQ _ _  g8) (mo_w_Checker_follows_j39 hD  (fun _ e => e) hQ g8)))) g4.1))))))) (Ow.rf hs).1))))
set_option maxRecDepth 20000 in
theorem mo_w_Checker_lookAt {w : Nat} {D : Nat → Nat → Prop} {T : Nat → Prop} {h : Hot} {this : Nat} {a1 : Int32} {Q Q' : Int32 → Mem → Prop} {M : Mem} (hD : Dok w D)  (hQ : ∀ z0 z1, Ow w D T h M z1 → Q z0 z1 → Q' z0 z1) : St w D T h M → w_Checker_lookAt this a1 Q M → w_Checker_lookAt this a1 Q' M := by
  intro hs
  unfold w_Checker_lookAt
  exact (mf_and fun _ => (mf_and fun _ => (mf_and fun _ => (mf_and fun _ => (mf_and fun _ => (Exists.imp fun M1 => (mf_and fun e1 => (have g2 : Ow w D T _ M M1 := Ow.of e1 (Ow.wcp (ow0 rfl) (Ow.rf hs)); (mf_and fun _ => (mf_and fun _ => (mf_and fun _ => (mf_and fun _ => (mf_and fun _ => (mf_and fun _ => (Exists.imp fun M8 => (mf_and fun e3 => (have g4 : Ow w D T _ M M8 := Ow.of e3 (Ow.wcp (ow0 rfl) (Ow.wI (ow0 rfl) g2)); (mo_w_Checker_handlers hD  (fun r15 M14 f5 => (have g6 : Ow w D T _ M M14 := (Ow.trans g4 f5); (mf_ite (hQ _ _  g6) (mo_w_Checker_act hD  (fun r18 M17 f7 => (have g8 : Ow w D T _ M M17 := (Ow.trans g6 f7); (mf_ite (hQ _ _  g8) (mo_w_Checker_follows hD  (fun r21 M20 f9 => (have g10 : Ow w D T _ M M20 := (Ow.trans g8 f9); (mf_ite (hQ _ _  g10) (hQ _ _  g10)))) g8.1)))) g6.1)))) g4.1))))))))))))))))))
set_option maxRecDepth 20000 in
theorem mo_w_Checker_toldKind {w : Nat} {D : Nat → Nat → Prop} {T : Nat → Prop} {h : Hot} {this : Nat} {a1 : Int32} {Q Q' : Int32 → Mem → Prop} {M : Mem} (hD : Dok w D)  (hQ : ∀ z0 z1, Ow w D T h M z1 → Q z0 z1 → Q' z0 z1) : St w D T h M → w_Checker_toldKind this a1 Q M → w_Checker_toldKind this a1 Q' M := by
  intro hs
  unfold w_Checker_toldKind
  exact (mf_ite (mf_ite (Exists.imp fun i3 => (mf_and fun e1 => (mo_w_World_find hD  (fun r5 M4 f3 => (have g4 : Ow w D T _ M M4 := (Ow.trans (Ow.rf hs) f3); (mf_ite (hQ _ _  g4) (hQ _ _  g4)))) (Ow.rf hs).1))) (hQ _ _  (Ow.rf hs))) (mf_ite (hQ _ _  (Ow.rf hs)) (mf_ite (hQ _ _  (Ow.rf hs)) (mf_ite (hQ _ _  (Ow.rf hs)) (hQ _ _  (Ow.rf hs))))))
set_option maxRecDepth 20000 in
theorem mo_w_Checker_tell_j105 {w : Nat} {D : Nat → Nat → Prop} {T : Nat → Prop} {h : Hot} {this : Nat} {Q Q' : Mem → Prop} {h_Q : Hot} {k18 k18' : Int32 → Mem → Prop} {h_k18 : Hot} {v1 : Int32} {M : Mem} {M0 : Mem} (hD : Dok w D)  (lQ : ∀ t, h_Q t = true → h t = true) (hQ : ∀ z0, Ow w D T h_Q M0 z0 → Q z0 → Q' z0) (lk18 : ∀ t, h_k18 t = true → h t = true) (hk18 : ∀ z0 z1, Ow w D T h_k18 M0 z1 → k18 z0 z1 → k18' z0 z1) : Ow w D T h M0 M → w_Checker_tell_j105 this Q k18 v1 M → w_Checker_tell_j105 this Q' k18' v1 M := by
  intro hf
  unfold w_Checker_tell_j105
  exact (hk18 _ _  (Ow.dn lk18 hf))
set_option maxRecDepth 20000 in
theorem mo_w_Checker_tell_j99 {w : Nat} {D : Nat → Nat → Prop} {T : Nat → Prop} {h : Hot} {this : Nat} {Q Q' : Mem → Prop} {h_Q : Hot} {k18 k18' : Int32 → Mem → Prop} {h_k18 : Hot} {k28 k28' : Int32 → Int32 → Mem → Prop} {h_k28 : Hot} {v1 : Int32} {v2 : Int32} {M : Mem} {M0 : Mem} (hD : Dok w D)  (lQ : ∀ t, h_Q t = true → h t = true) (hQ : ∀ z0, Ow w D T h_Q M0 z0 → Q z0 → Q' z0) (lk18 : ∀ t, h_k18 t = true → h t = true) (hk18 : ∀ z0 z1, Ow w D T h_k18 M0 z1 → k18 z0 z1 → k18' z0 z1) (lk28 : ∀ t, h_k28 t = true → h t = true) (hk28 : ∀ z0 z1 z2, Ow w D T h_k28 M0 z2 → k28 z0 z1 z2 → k28' z0 z1 z2) : Ow w D T h M0 M → w_Checker_tell_j99 this Q k18 k28 v1 v2 M → w_Checker_tell_j99 this Q' k18' k28' v1 v2 M := by
  intro hf
  unfold w_Checker_tell_j99
  exact (hk28 _ _ _  (Ow.dn lk28 hf))
set_option maxRecDepth 20000 in
theorem mo_w_Checker_tell_j73 {w : Nat} {D : Nat → Nat → Prop} {T : Nat → Prop} {h : Hot} {this : Nat} {Q Q' : Mem → Prop} {h_Q : Hot} {k18 k18' : Int32 → Mem → Prop} {h_k18 : Hot} {k28 k28' : Int32 → Int32 → Mem → Prop} {h_k28 : Hot} {v1 : Int32} {v2 : Int32} {M : Mem} {M0 : Mem} (hD : Dok w D)  (lQ : ∀ t, h_Q t = true → h t = true) (hQ : ∀ z0, Ow w D T h_Q M0 z0 → Q z0 → Q' z0) (lk18 : ∀ t, h_k18 t = true → h t = true) (hk18 : ∀ z0 z1, Ow w D T h_k18 M0 z1 → k18 z0 z1 → k18' z0 z1) (lk28 : ∀ t, h_k28 t = true → h t = true) (hk28 : ∀ z0 z1 z2, Ow w D T h_k28 M0 z2 → k28 z0 z1 z2 → k28' z0 z1 z2) : Ow w D T h M0 M → w_Checker_tell_j73 this Q k18 k28 v1 v2 M → w_Checker_tell_j73 this Q' k18' k28' v1 v2 M := by
  intro hf
  unfold w_Checker_tell_j73
  exact (mf_and fun _ => (mo_w_Checker_toldKind hD  (fun r12 M11 f1 => (have g2 : Ow w D T _ M0 M11 := (Ow.trans hf f1); (mf_and fun _ => (have g3 : Ow w D T _ M0 (sI M11 35 this (((40 : Int32) * v1) + v2).toNatClampNeg r12) := (Ow.wI (ow0 rfl) g2); (mo_w_Checker_tell_j99 hD  lQ hQ lk18 hk18 lk28 hk28 g3))))) hf.1))
set_option maxRecDepth 20000 in
theorem mo_w_Checker_tell_L28 {w : Nat} {D : Nat → Nat → Prop} {T : Nat → Prop} {h : Hot} {this : Nat} {Q Q' : Mem → Prop} {h_Q : Hot} {k18 k18' : Int32 → Mem → Prop} {h_k18 : Hot} {M0 : Mem} (hD : Dok w D)  (lQ : ∀ t, h_Q t = true → h t = true) (hQ : ∀ z0, Ow w D T h_Q M0 z0 → Q z0 → Q' z0) (lk18 : ∀ t, h_k18 t = true → h t = true) (hk18 : ∀ z0 z1, Ow w D T h_k18 M0 z1 → k18 z0 z1 → k18' z0 z1) : ∀ (n : Nat) (v1 : Int32) (v2 : Int32) (M : Mem), Ow w D T h M0 M → w_Checker_tell_L28 this Q k18 n v1 v2 M → w_Checker_tell_L28 this Q' k18' n v1 v2 M
  | 0, _, _, _ => fun  _ h => h
  | n + 1, v1, v2, M => fun  hf => by
    unfold w_Checker_tell_L28
    exact (mf_ite (mo_w_Checker_tell_j105 hD  lQ hQ lk18 hk18 hf) (mf_and fun _ => (mf_ite (mo_w_Checker_tell_j105 hD  lQ hQ lk18 hk18 hf) (mf_ite (mf_and fun _ => (mf_ite (mo_w_Checker_tell_j99 hD  lQ hQ lk18 hk18 (fun _ e => e) (fun y0 y1 y2  hf => mo_w_Checker_tell_L28 hD  lQ hQ lk18 hk18 n y0 y1 y2  hf) hf) (mo_w_Checker_tell_j73 hD  lQ hQ lk18 hk18 (fun _ e => e) (fun y0 y1 y2  hf => mo_w_Checker_tell_L28 hD  lQ hQ lk18 hk18 n y0 y1 y2  hf) hf))) (mf_ite (mo_w_Checker_tell_j99 hD  lQ hQ lk18 hk18 (fun _ e => e) (fun y0 y1 y2  hf => mo_w_Checker_tell_L28 hD  lQ hQ lk18 hk18 n y0 y1 y2  hf) hf) (mo_w_Checker_tell_j73 hD  lQ hQ lk18 hk18 (fun _ e => e) (fun y0 y1 y2  hf => mo_w_Checker_tell_L28 hD  lQ hQ lk18 hk18 n y0 y1 y2  hf) hf))))))
set_option maxRecDepth 20000 in
theorem mo_w_Checker_tell_L18 {w : Nat} {D : Nat → Nat → Prop} {T : Nat → Prop} {h : Hot} {this : Nat} {Q Q' : Mem → Prop} {h_Q : Hot} {M0 : Mem} (hD : Dok w D)  (lQ : ∀ t, h_Q t = true → h t = true) (hQ : ∀ z0, Ow w D T h_Q M0 z0 → Q z0 → Q' z0) : ∀ (n : Nat) (v1 : Int32) (M : Mem), Ow w D T h M0 M → w_Checker_tell_L18 this Q n v1 M → w_Checker_tell_L18 this Q' n v1 M
  | 0, _, _ => fun  _ h => h
  | n + 1, v1, M => fun  hf => by
    unfold w_Checker_tell_L18
    exact (mf_ite (hQ _  (Ow.dn lQ hf)) (Exists.imp fun n15 => (mo_w_Checker_tell_L28 hD  lQ hQ (fun _ e => e) (fun y0 y1  hf => mo_w_Checker_tell_L18 hD  lQ hQ n y0 y1  hf) _ _ _ _  hf)))
set_option maxRecDepth 20000 in
theorem mo_w_Checker_tell {w : Nat} {D : Nat → Nat → Prop} {T : Nat → Prop} {h : Hot} {this : Nat} {Q Q' : Mem → Prop} {M : Mem} (hD : Dok w D)  (hQ : ∀ z0, Ow w D T h M z0 → Q z0 → Q' z0) : St w D T h M → w_Checker_tell this Q M → w_Checker_tell this Q' M := by
  intro hs
  unfold w_Checker_tell
  exact (Exists.imp fun i1 => (mf_and fun e1 => (mf_and fun _ => (Exists.imp fun n16 => (have g3 : Ow w D T _ M (sI M 4 this 16 (mI M 61 i1 (mI M 4 this 6).toNatClampNeg)) := (Ow.wI (ow0 rfl) (Ow.rf hs)); (mo_w_Checker_tell_L18 hD  (fun _ e => e) hQ _ _ _  g3))))))
set_option maxRecDepth 20000 in
theorem mo_w_Checker_inferred_j187 {w : Nat} {D : Nat → Nat → Prop} {T : Nat → Prop} {h : Hot} {this : Nat} {Q Q' : Int32 → Mem → Prop} {h_Q : Hot} {M : Mem} {M0 : Mem} (hD : Dok w D)  (lQ : ∀ t, h_Q t = true → h t = true) (hQ : ∀ z0 z1, Ow w D T h_Q M0 z1 → Q z0 z1 → Q' z0 z1) : Ow w D T h M0 M → w_Checker_inferred_j187 this Q M → w_Checker_inferred_j187 this Q' M := by
  intro hf
  unfold w_Checker_inferred_j187
  exact (mf_and fun _ => (have g1 : Ow w D T _ M0 (sI M 4 this 10 (0 : Int32)) := (Ow.wI (ow0 rfl) hf); (mo_w_Checker_tell hD  (fun M16 f2 => (have g3 : Ow w D T _ M0 M16 := (Ow.trans g1 f2); (mf_ite (hQ _ _  (Ow.dn lQ g3)) (hQ _ _  (Ow.dn lQ g3))))) g1.1)))
set_option maxRecDepth 20000 in
theorem mo_w_Checker_inferred_j149 {w : Nat} {D : Nat → Nat → Prop} {T : Nat → Prop} {h : Hot} {this : Nat} {Q Q' : Int32 → Mem → Prop} {h_Q : Hot} {k51 k51' : Int32 → Int32 → Mem → Prop} {h_k51 : Hot} {v2 : Int32} {v3 : Int32} {M : Mem} {M0 : Mem} (hD : Dok w D)  (lQ : ∀ t, h_Q t = true → h t = true) (hQ : ∀ z0 z1, Ow w D T h_Q M0 z1 → Q z0 z1 → Q' z0 z1) (lk51 : ∀ t, h_k51 t = true → h t = true) (hk51 : ∀ z0 z1 z2, Ow w D T h_k51 M0 z2 → k51 z0 z1 z2 → k51' z0 z1 z2) : Ow w D T h M0 M → w_Checker_inferred_j149 this Q k51 v2 v3 M → w_Checker_inferred_j149 this Q' k51' v2 v3 M := by
  intro hf
  unfold w_Checker_inferred_j149
  exact (mf_ite (hk51 _ _ _  (Ow.dn lk51 hf)) (mf_ite (mf_ite (mo_w_Checker_breaks hD  (fun r25 M24 f1 => (have g2 : Ow w D T _ M0 M24 := (Ow.trans hf f1); (hk51 _ _ _  (Ow.dn lk51 (Ow.wI (ow0 rfl) g2))))) hf.1) (hk51 _ _ _  (Ow.dn lk51 hf))) (hk51 _ _ _  (Ow.dn lk51 hf))))
set_option maxRecDepth 20000 in
theorem mo_w_Checker_inferred_j136 {w : Nat} {D : Nat → Nat → Prop} {T : Nat → Prop} {h : Hot} {this : Nat} {Q Q' : Int32 → Mem → Prop} {h_Q : Hot} {k51 k51' : Int32 → Int32 → Mem → Prop} {h_k51 : Hot} {k75 k75' : Int32 → Int32 → Mem → Prop} {h_k75 : Hot} {v2 : Int32} {v3 : Int32} {M : Mem} {M0 : Mem} (hD : Dok w D)  (lQ : ∀ t, h_Q t = true → h t = true) (hQ : ∀ z0 z1, Ow w D T h_Q M0 z1 → Q z0 z1 → Q' z0 z1) (lk51 : ∀ t, h_k51 t = true → h t = true) (hk51 : ∀ z0 z1 z2, Ow w D T h_k51 M0 z2 → k51 z0 z1 z2 → k51' z0 z1 z2) (lk75 : ∀ t, h_k75 t = true → h t = true) (hk75 : ∀ z0 z1 z2, Ow w D T h_k75 M0 z2 → k75 z0 z1 z2 → k75' z0 z1 z2) : Ow w D T h M0 M → w_Checker_inferred_j136 this Q k51 k75 v2 v3 M → w_Checker_inferred_j136 this Q' k51' k75' v2 v3 M := by
  intro hf
  unfold w_Checker_inferred_j136
  exact (hk75 _ _ _  (Ow.dn lk75 (Ow.wI (ow0 rfl) hf)))
set_option maxRecDepth 20000 in
theorem mo_w_Checker_inferred_L75 {w : Nat} {D : Nat → Nat → Prop} {T : Nat → Prop} {h : Hot} {this : Nat} {Q Q' : Int32 → Mem → Prop} {h_Q : Hot} {k51 k51' : Int32 → Int32 → Mem → Prop} {h_k51 : Hot} {M0 : Mem} (hD : Dok w D)  (lQ : ∀ t, h_Q t = true → h t = true) (hQ : ∀ z0 z1, Ow w D T h_Q M0 z1 → Q z0 z1 → Q' z0 z1) (lk51 : ∀ t, h_k51 t = true → h t = true) (hk51 : ∀ z0 z1 z2, Ow w D T h_k51 M0 z2 → k51 z0 z1 z2 → k51' z0 z1 z2) : ∀ (n : Nat) (v2 : Int32) (v3 : Int32) (M : Mem), Ow w D T h M0 M → w_Checker_inferred_L75 this Q k51 n v2 v3 M → w_Checker_inferred_L75 this Q' k51' n v2 v3 M
  | 0, _, _, _ => fun  _ h => h
  | n + 1, v2, v3, M => fun  hf => by
    unfold w_Checker_inferred_L75
    exact (mf_ite (mo_w_Checker_inferred_j149 hD  lQ hQ lk51 hk51 hf) (mf_ite (mf_and fun _ => (mf_ite (mo_w_Checker_inferred_j136 hD  lQ hQ lk51 hk51 (fun _ e => e) (fun y0 y1 y2  hf => mo_w_Checker_inferred_L75 hD  lQ hQ lk51 hk51 n y0 y1 y2  hf) hf) (Exists.imp fun i29 => (mf_and fun e1 => (mf_and fun _ => (mo_w_Checker_lookAt hD  (fun r32 M31 f3 => (have g4 : Ow w D T _ M0 M31 := (Ow.trans hf f3); (mf_ite (have g5 : Ow w D T _ M0 (sI M31 4 this 7 ((mI M31 4 this 7) - (1 : Int32))) := (Ow.wI (ow0 rfl) g4); (mo_w_Checker_inferred_j136 hD  lQ hQ lk51 hk51 (fun _ e => e) (fun y0 y1 y2  hf => mo_w_Checker_inferred_L75 hD  lQ hQ lk51 hk51 n y0 y1 y2  hf) g5)) (mo_w_Checker_inferred_j136 hD  lQ hQ lk51 hk51 (fun _ e => e) (fun y0 y1 y2  hf => mo_w_Checker_inferred_L75 hD  lQ hQ lk51 hk51 n y0 y1 y2  hf) g4)))) hf.1)))))) (mo_w_Checker_inferred_j149 hD  lQ hQ lk51 hk51 hf)))
set_option maxRecDepth 20000 in
theorem mo_w_Checker_inferred_L51 {w : Nat} {D : Nat → Nat → Prop} {T : Nat → Prop} {h : Hot} {this : Nat} {Q Q' : Int32 → Mem → Prop} {h_Q : Hot} {M0 : Mem} (hD : Dok w D)  (lQ : ∀ t, h_Q t = true → h t = true) (hQ : ∀ z0 z1, Ow w D T h_Q M0 z1 → Q z0 z1 → Q' z0 z1) : ∀ (n : Nat) (v2 : Int32) (v3 : Int32) (M : Mem), Ow w D T h M0 M → w_Checker_inferred_L51 this Q n v2 v3 M → w_Checker_inferred_L51 this Q' n v2 v3 M
  | 0, _, _, _ => fun  _ h => h
  | n + 1, v2, v3, M => fun  hf => by
    unfold w_Checker_inferred_L51
    exact (mf_ite (mo_w_Checker_inferred_j187 hD  lQ hQ hf) (mf_ite (mf_and fun _ => (Exists.imp fun n34 => (have g1 : Ow w D T _ M0 (sI (sI M 4 this 14 (0 : Int32)) 4 this 7 (0 : Int32)) := (Ow.wI (ow0 rfl) (Ow.wI (ow0 rfl) hf)); (mo_w_Checker_inferred_L75 hD  lQ hQ (fun _ e => e) (fun y0 y1 y2  hf => mo_w_Checker_inferred_L51 hD  lQ hQ n y0 y1 y2  hf) _ _ _ _  g1)))) (mo_w_Checker_inferred_j187 hD  lQ hQ hf)))
set_option maxRecDepth 20000 in
theorem mo_w_Checker_inferred {w : Nat} {D : Nat → Nat → Prop} {T : Nat → Prop} {h : Hot} {this : Nat} {a1 : Nat} {a2 : Int32} {Q Q' : Int32 → Mem → Prop} {M : Mem} (hD : Dok w D) (n0 : ow w D 5 a1) (hQ : ∀ z0 z1, Ow w D T h M z1 → Q z0 z1 → Q' z0 z1) : St w D T h M → w_Checker_inferred this a1 a2 Q M → w_Checker_inferred this a1 a2 Q' M := by
  intro hs
  unfold w_Checker_inferred
  exact (mo_w_Checker_ask hD n0 (fun M1 f1 => (have g2 : Ow w D T _ M M1 := (Ow.trans (Ow.rf hs) f1); (mf_and fun _ => (have g3 : Ow w D T _ M (sI M1 4 this 10 (1 : Int32)) := (Ow.wI (ow0 rfl) g2); (mo_w_Checker_begin hD  (fun M3 f4 => (have g5 : Ow w D T _ M M3 := (Ow.trans g3 f4); (mf_and fun _ => (mf_and fun _ => (Exists.imp fun M6 => (mf_and fun e6 => (have g7 : Ow w D T _ M M6 := Ow.of e6 (Ow.wI (ow0 rfl) (Ow.wI (ow0 rfl) g5)); (mf_and fun _ => (mf_and fun _ => (mf_and fun _ => (mf_and fun _ => (mf_and fun _ => (Exists.imp fun M7 => (mf_and fun e8 => (have g9 : Ow w D T _ M M7 := Ow.of e8 (Ow.wcp (ow0 rfl) g7); (mf_and fun _ => (Exists.imp fun n35 => (have g10 : Ow w D T _ M (sI M7 4 this 14 (1 : Int32)) := (Ow.wI (ow0 rfl) g9); (mo_w_Checker_inferred_L51 hD  (fun _ e => e) hQ _ _ _ _  g10))))))))))))))))))) g3.1))))) (Ow.rf hs).1)
set_option maxRecDepth 20000 in
theorem mo_w_Checker_withFrames {w : Nat} {D : Nat → Nat → Prop} {T : Nat → Prop} {h : Hot} {this : Nat} {a1 : Nat} {a2 : Int32} {Q Q' : Int32 → Mem → Prop} {M : Mem} (hD : Dok w D) (n0 : ow w D 5 a1) (hQ : ∀ z0 z1, Ow w D T h M z1 → Q z0 z1 → Q' z0 z1) : St w D T h M → w_Checker_withFrames this a1 a2 Q M → w_Checker_withFrames this a1 a2 Q' M := by
  intro hs
  unfold w_Checker_withFrames
  exact (mo_w_Checker_ask hD n0 (fun M1 f1 => (have g2 : Ow w D T _ M M1 := (Ow.trans (Ow.rf hs) f1); (mf_and fun _ => (have g3 : Ow w D T _ M (sI M1 4 this 9 (1 : Int32)) := (Ow.wI (ow0 rfl) g2); (mo_w_Checker_all hD  (fun M3 f4 => (have g5 : Ow w D T _ M M3 := (Ow.trans g3 f4); (mf_and fun _ => (have g6 : Ow w D T _ M (sI M3 4 this 9 (0 : Int32)) := (Ow.wI (ow0 rfl) g5); (mo_w_Checker_tell hD  (fun M5 f7 => (have g8 : Ow w D T _ M M5 := (Ow.trans g6 f7); (mf_ite (hQ _ _  g8) (hQ _ _  g8)))) g6.1))))) g3.1))))) (Ow.rf hs).1)
set_option maxRecDepth 20000 in
theorem mo_w_Works_kinds {w : Nat} {D : Nat → Nat → Prop} {T : Nat → Prop} {h : Hot} {this : Nat} {a1 : Int32} {a2 : Int32} {a3 : Int32} {a4 : Int32} {Q Q' : Int32 → Mem → Prop} {M : Mem} (hD : Dok w D) (n0 : T a1.toNatClampNeg) (hQ : ∀ z0 z1, Ow w D T h M z1 → Q z0 z1 → Q' z0 z1) : St w D T h M → w_Works_kinds this a1 a2 a3 a4 Q M → w_Works_kinds this a1 a2 a3 a4 Q' M := by
  intro hs
  unfold w_Works_kinds
  exact (mo_w_Works_isClass hD  (fun r2 M1 f1 => (have g2 : Ow w D T _ M M1 := (Ow.trans (Ow.rf hs) f1); (mf_ite (hQ _ _  g2) (mf_and fun _ => (Exists.imp fun i5 => (mf_and fun e3 => (mo_w_Works_isMethod hD  (fun r7 M6 f5 => (have g6 : Ow w D T _ M M6 := (Ow.trans g2 f5); (mf_ite (hQ _ _  g6) (mf_and fun _ => (Exists.imp fun i10 => (mf_and fun e7 => (have o8 : ow w D 5 i10 := (Ow.rT e7 rfl n0 g6); (mf_and fun _ => (mf_and fun _ => (mf_ite (hQ _ _  g6) (mf_ite (mo_w_Checker_withFrames hD o8 (fun r16 M15 f9 => (have g10 : Ow w D T _ M M15 := (Ow.trans g6 f9); (hQ _ _  g10))) g6.1) (mo_w_Checker_inferred hD o8 (fun r18 M17 f11 => (have g12 : Ow w D T _ M M17 := (Ow.trans g6 f11); (hQ _ _  g12))) g6.1)))))))))))) g2.1))))))) (Ow.rf hs).1)
set_option maxRecDepth 20000 in
theorem mo_w_Checker_toldAt_j79 {w : Nat} {D : Nat → Nat → Prop} {T : Nat → Prop} {h : Hot} {this : Nat} {Q Q' : Int32 → Mem → Prop} {h_Q : Hot} {v1 : Int32} {v2 : Int32} {M : Mem} {M0 : Mem} (hD : Dok w D)  (lQ : ∀ t, h_Q t = true → h t = true) (hQ : ∀ z0 z1, Ow w D T h_Q M0 z1 → Q z0 z1 → Q' z0 z1) : Ow w D T h M0 M → w_Checker_toldAt_j79 this Q v1 v2 M → w_Checker_toldAt_j79 this Q' v1 v2 M := by
  intro hf
  unfold w_Checker_toldAt_j79
  exact (mf_and fun _ => (hQ _ _  (Ow.dn lQ hf)))
set_option maxRecDepth 20000 in
theorem mo_w_Checker_toldAt {w : Nat} {D : Nat → Nat → Prop} {T : Nat → Prop} {h : Hot} {this : Nat} {a1 : Int32} {a2 : Int32} {Q Q' : Int32 → Mem → Prop} {M : Mem} (hD : Dok w D)  (hQ : ∀ z0 z1, Ow w D T h M z1 → Q z0 z1 → Q' z0 z1) : St w D T h M → w_Checker_toldAt this a1 a2 Q M → w_Checker_toldAt this a1 a2 Q' M := by
  intro hs
  unfold w_Checker_toldAt
  exact (mo_w_Works_isIn hD  (fun r2 M1 f1 => (have g2 : Ow w D T _ M M1 := (Ow.trans (Ow.rf hs) f1); (mf_ite (hQ _ _  g2) (mf_and fun _ => (mf_ite (hQ _ _  g2) (mf_ite (mf_and fun _ => (hQ _ _  g2)) (mo_w_Works_isIn hD  (fun r9 M8 f3 => (have g4 : Ow w D T _ M M8 := (Ow.trans g2 f3); (mf_ite (hQ _ _  g4) (mf_ite (mf_and fun _ => (mf_ite (mo_w_Checker_toldAt_j79 hD  (fun _ e => e) hQ g4) (hQ _ _  g4))) (mf_ite (mo_w_Checker_toldAt_j79 hD  (fun _ e => e) hQ g4) (hQ _ _  g4)))))) g2.1))))))) (Ow.rf hs).1)
set_option maxRecDepth 20000 in
theorem mo_w_Works_kind {w : Nat} {D : Nat → Nat → Prop} {T : Nat → Prop} {h : Hot} {this : Nat} {a1 : Int32} {a2 : Int32} {Q Q' : Int32 → Mem → Prop} {M : Mem} (hD : Dok w D)  (hQ : ∀ z0 z1, Ow w D T h M z1 → Q z0 z1 → Q' z0 z1) : St w D T h M → w_Works_kind this a1 a2 Q M → w_Works_kind this a1 a2 Q' M := by
  intro hs
  unfold w_Works_kind
  exact (mo_w_Checker_toldAt hD  (fun r2 M1 f1 => (have g2 : Ow w D T _ M M1 := (Ow.trans (Ow.rf hs) f1); (hQ _ _  g2))) (Ow.rf hs).1)
set_option maxRecDepth 20000 in
theorem mo_w_Works_foretell_j156 {w : Nat} {D : Nat → Nat → Prop} {T : Nat → Prop} {h : Hot} {this : Nat} {Q Q' : Int32 → Mem → Prop} {h_Q : Hot} {k45 k45' : Int32 → Int32 → Nat → Int32 → Int32 → Mem → Prop} {h_k45 : Hot} {k68 k68' : Int32 → Int32 → Nat → Int32 → Int32 → Int32 → Mem → Prop} {h_k68 : Hot} {v2 : Int32} {v4 : Int32} {v5 : Nat} {v6 : Int32} {v7 : Int32} {v8 : Int32} {M : Mem} {M0 : Mem} (hD : Dok w D) (n0 : ow w D 47 v5) (lQ : ∀ t, h_Q t = true → h t = true) (hQ : ∀ z0 z1, Ow w D T h_Q M0 z1 → Q z0 z1 → Q' z0 z1) (lk45 : ∀ t, h_k45 t = true → h t = true) (hk45 : ∀ z0 z1 z2 z3 z4 z5, ow w D 47 z2 → Ow w D T h_k45 M0 z5 → k45 z0 z1 z2 z3 z4 z5 → k45' z0 z1 z2 z3 z4 z5) (lk68 : ∀ t, h_k68 t = true → h t = true) (hk68 : ∀ z0 z1 z2 z3 z4 z5 z6, ow w D 47 z2 → Ow w D T h_k68 M0 z6 → k68 z0 z1 z2 z3 z4 z5 z6 → k68' z0 z1 z2 z3 z4 z5 z6) : Ow w D T h M0 M → w_Works_foretell_j156 this Q k45 k68 v2 v4 v5 v6 v7 v8 M → w_Works_foretell_j156 this Q' k45' k68' v2 v4 v5 v6 v7 v8 M := by
  intro hf
  unfold w_Works_foretell_j156
  exact (hk68 _ _ _ _ _ _ _ n0 (Ow.dn lk68 hf))
set_option maxRecDepth 20000 in
theorem mo_w_Works_foretell_L68 {w : Nat} {D : Nat → Nat → Prop} {T : Nat → Prop} {h : Hot} {this : Nat} {Q Q' : Int32 → Mem → Prop} {h_Q : Hot} {k45 k45' : Int32 → Int32 → Nat → Int32 → Int32 → Mem → Prop} {h_k45 : Hot} {M0 : Mem} (hD : Dok w D)  (lQ : ∀ t, h_Q t = true → h t = true) (hQ : ∀ z0 z1, Ow w D T h_Q M0 z1 → Q z0 z1 → Q' z0 z1) (lk45 : ∀ t, h_k45 t = true → h t = true) (hk45 : ∀ z0 z1 z2 z3 z4 z5, ow w D 47 z2 → Ow w D T h_k45 M0 z5 → k45 z0 z1 z2 z3 z4 z5 → k45' z0 z1 z2 z3 z4 z5) : ∀ (n : Nat) (v2 : Int32) (v4 : Int32) (v5 : Nat) (v6 : Int32) (v7 : Int32) (v8 : Int32) (M : Mem), ow w D 47 v5 → Ow w D T h M0 M → w_Works_foretell_L68 this Q k45 n v2 v4 v5 v6 v7 v8 M → w_Works_foretell_L68 this Q' k45' n v2 v4 v5 v6 v7 v8 M
  | 0, _, _, _, _, _, _, _ => fun _ _ h => h
  | n + 1, v2, v4, v5, v6, v7, v8, M => fun m0 hf => by
    unfold w_Works_foretell_L68
    exact (mf_and fun _ => (mf_ite (hk45 _ _ _ _ _ _ m0 (Ow.dn lk45 hf)) (mf_and fun _ => (mo_w_Machine_finds hD m0 (fun r18 M17 f1 => (have g2 : Ow w D T _ M0 M17 := (Ow.trans hf f1); (mf_ite (mf_ite (mf_ite (mf_and fun _ => (hQ _ _  (Ow.dn lQ g2))) (mf_ite (hQ _ _  (Ow.dn lQ g2)) (mf_and fun _ => (hQ _ _  (Ow.dn lQ g2))))) (mo_w_Works_foretell_j156 hD m0 lQ hQ lk45 hk45 (fun _ e => e) (fun y0 y1 y2 y3 y4 y5 y6 u0 hf => mo_w_Works_foretell_L68 hD  lQ hQ lk45 hk45 n y0 y1 y2 y3 y4 y5 y6 u0 hf) g2)) (mo_w_Works_foretell_j156 hD m0 lQ hQ lk45 hk45 (fun _ e => e) (fun y0 y1 y2 y3 y4 y5 y6 u0 hf => mo_w_Works_foretell_L68 hD  lQ hQ lk45 hk45 n y0 y1 y2 y3 y4 y5 y6 u0 hf) g2)))) hf.1))))
set_option maxRecDepth 20000 in
theorem mo_w_Works_foretell_L45 {w : Nat} {D : Nat → Nat → Prop} {T : Nat → Prop} {h : Hot} {this : Nat} {Q Q' : Int32 → Mem → Prop} {h_Q : Hot} {M0 : Mem} (hD : Dok w D)  (lQ : ∀ t, h_Q t = true → h t = true) (hQ : ∀ z0 z1, Ow w D T h_Q M0 z1 → Q z0 z1 → Q' z0 z1) : ∀ (n : Nat) (v2 : Int32) (v4 : Int32) (v5 : Nat) (v6 : Int32) (v7 : Int32) (M : Mem), ow w D 47 v5 → Ow w D T h M0 M → w_Works_foretell_L45 this Q n v2 v4 v5 v6 v7 M → w_Works_foretell_L45 this Q' n v2 v4 v5 v6 v7 M
  | 0, _, _, _, _, _, _ => fun _ _ h => h
  | n + 1, v2, v4, v5, v6, v7, M => fun m0 hf => by
    unfold w_Works_foretell_L45
    exact (mf_and fun _ => (mf_and fun _ => (mf_ite (hQ _ _  (Ow.dn lQ hf)) (Exists.imp fun n25 => (mo_w_Works_foretell_L68 hD  lQ hQ (fun _ e => e) (fun y0 y1 y2 y3 y4 y5 u0 hf => mo_w_Works_foretell_L45 hD  lQ hQ n y0 y1 y2 y3 y4 y5 u0 hf) _ _ _ _ _ _ _ _ m0 hf)))))
set_option maxRecDepth 20000 in
theorem mo_w_Works_foretell {w : Nat} {D : Nat → Nat → Prop} {T : Nat → Prop} {h : Hot} {this : Nat} {a1 : Int32} {a2 : Int32} {a3 : Int32} {a4 : Int32} {Q Q' : Int32 → Mem → Prop} {M : Mem} (hD : Dok w D) (n0 : T a1.toNatClampNeg) (hQ : ∀ z0 z1, Ow w D T h M z1 → Q z0 z1 → Q' z0 z1) : St w D T h M → w_Works_foretell this a1 a2 a3 a4 Q M → w_Works_foretell this a1 a2 a3 a4 Q' M := by
  intro hs
  unfold w_Works_foretell
  exact (mo_w_Works_isClass hD  (fun r2 M1 f1 => (have g2 : Ow w D T _ M M1 := (Ow.trans (Ow.rf hs) f1); (mf_ite (hQ _ _  g2) (mf_ite (hQ _ _  g2) (mo_w_Works_isIn hD  (fun r6 M5 f3 => (have g4 : Ow w D T _ M M5 := (Ow.trans g2 f3); (mf_ite (hQ _ _  g4) (mf_and fun _ => (Exists.imp fun i9 => (mf_and fun e5 => (have o6 : ow w D 5 i9 := (Ow.rT e5 rfl n0 g4); (mf_and fun _ => (Exists.imp fun n26 => (mo_w_Works_foretell_L45 hD  (fun _ e => e) hQ _ _ _ _ _ _ _ (ow.to o6 rfl rfl) g4)))))))))) g2.1))))) (Ow.rf hs).1)
set_option maxRecDepth 20000 in
theorem mo_w_Machine_asks_j82 {w : Nat} {D : Nat → Nat → Prop} {T : Nat → Prop} {h : Hot} {this : Nat} {Q Q' : Int32 → Mem → Prop} {h_Q : Hot} {M : Mem} {M0 : Mem} (hD : Dok w D)  (lQ : ∀ t, h_Q t = true → h t = true) (hQ : ∀ z0 z1, Ow w D T h_Q M0 z1 → Q z0 z1 → Q' z0 z1) : Ow w D T h M0 M → w_Machine_asks_j82 this Q M → w_Machine_asks_j82 this Q' M := by
  intro hf
  unfold w_Machine_asks_j82
  exact (mo_w_Machine_thrown hD  (fun r13 M12 f1 => (have g2 : Ow w D T _ M0 M12 := (Ow.trans hf f1); (hQ _ _  (Ow.dn lQ g2)))) hf.1)
set_option maxRecDepth 20000 in
theorem mo_w_Machine_asks {w : Nat} {D : Nat → Nat → Prop} {T : Nat → Prop} {h : Hot} {this : Nat} {a1 : Int32} {Q Q' : Int32 → Mem → Prop} {M : Mem} (hD : Dok w D) (n0 : ow w D 47 this) (hQ : ∀ z0 z1, Ow w D T h M z1 → Q z0 z1 → Q' z0 z1) : St w D T h M → w_Machine_asks this a1 Q M → w_Machine_asks this a1 Q' M := by
  intro hs
  unfold w_Machine_asks
  exact (mo_w_Machine_findMethod hD n0 (fun r2 M1 f1 => (have g2 : Ow w D T _ M M1 := (Ow.trans (Ow.rf hs) f1); (mf_ite (mo_w_World_link hD n0 (fun r5 M4 f3 => (have g4 : Ow w D T _ M M4 := (Ow.trans g2 f3); (mf_ite (mf_and fun _ => (mf_ite (mo_w_World_method hD (ow.to n0 rfl rfl) (fun r10 M9 f5 => (have g6 : Ow w D T _ M M9 := (Ow.trans g4 f5); (mf_ite (mo_w_Machine_asks_j82 hD  (fun _ e => e) hQ g6) (mf_and fun _ => (mf_ite (hQ _ _  g6) (mo_w_Machine_asks_j82 hD  (fun _ e => e) hQ g6)))))) g4.1) (hQ _ _  g4))) (hQ _ _  g4)))) g2.1) (hQ _ _  g2)))) (Ow.rf hs).1)
set_option maxRecDepth 20000 in
theorem mo_w_Works_asked {w : Nat} {D : Nat → Nat → Prop} {T : Nat → Prop} {h : Hot} {this : Nat} {a1 : Int32} {a2 : Int32} {Q Q' : Int32 → Mem → Prop} {M : Mem} (hD : Dok w D) (n0 : T a1.toNatClampNeg) (hQ : ∀ z0 z1, Ow w D T h M z1 → Q z0 z1 → Q' z0 z1) : St w D T h M → w_Works_asked this a1 a2 Q M → w_Works_asked this a1 a2 Q' M := by
  intro hs
  unfold w_Works_asked
  exact (mo_w_Works_isClass hD  (fun r2 M1 f1 => (have g2 : Ow w D T _ M M1 := (Ow.trans (Ow.rf hs) f1); (mf_ite (hQ _ _  g2) (mf_and fun _ => (Exists.imp fun i5 => (mf_and fun e3 => (have o4 : ow w D 5 i5 := (Ow.rT e3 rfl n0 g2); (mo_w_Works_isTaken hD o4 (fun r7 M6 f5 => (have g6 : Ow w D T _ M M6 := (Ow.trans g2 f5); (mf_ite (hQ _ _  g6) (mo_w_Machine_asks hD (ow.to o4 rfl rfl) (fun r10 M9 f7 => (have g8 : Ow w D T _ M M9 := (Ow.trans g6 f7); (mf_ite (mf_and fun _ => (mf_and fun _ => (mf_and fun _ => (hQ _ _  g8)))) (mf_and fun _ => (hQ _ _  g8))))) g6.1)))) g2.1)))))))) (Ow.rf hs).1)
set_option maxRecDepth 20000 in
theorem mo_w_Works_trace {w : Nat} {D : Nat → Nat → Prop} {T : Nat → Prop} {h : Hot} {this : Nat} {a1 : Int32} {a2 : Int32} {a3 : Int32} {Q Q' : Int32 → Mem → Prop} {M : Mem} (hD : Dok w D)  (hQ : ∀ z0 z1, Ow w D T h M z1 → Q z0 z1 → Q' z0 z1) : St w D T h M → w_Works_trace this a1 a2 a3 Q M → w_Works_trace this a1 a2 a3 Q' M := by
  intro hs
  unfold w_Works_trace
  exact (mo_w_Works_isWorld hD  (fun r2 M1 f1 => (have g2 : Ow w D T _ M M1 := (Ow.trans (Ow.rf hs) f1); (mf_ite (hQ _ _  g2) (mf_ite (hQ _ _  g2) (mo_w_Works_isIn hD  (fun r6 M5 f3 => (have g4 : Ow w D T _ M M5 := (Ow.trans g2 f3); (mf_ite (hQ _ _  g4) (mf_and fun _ => (Exists.imp fun i9 => (mf_and fun e5 => (mf_ite (hQ _ _  g4) (mf_and fun _ => (hQ _ _  g4))))))))) g2.1))))) (Ow.rf hs).1)
set_option maxRecDepth 20000 in
theorem mo_w_Works_done {w : Nat} {D : Nat → Nat → Prop} {T : Nat → Prop} {h : Hot} {this : Nat} {a1 : Int32} {a2 : Int32} {Q Q' : Int32 → Mem → Prop} {M : Mem} (hD : Dok w D)  (hQ : ∀ z0 z1, Ow w D T h M z1 → Q z0 z1 → Q' z0 z1) : St w D T h M → w_Works_done this a1 a2 Q M → w_Works_done this a1 a2 Q' M := by
  intro hs
  unfold w_Works_done
  exact (mo_w_Works_isWorld hD  (fun r2 M1 f1 => (have g2 : Ow w D T _ M M1 := (Ow.trans (Ow.rf hs) f1); (mf_ite (hQ _ _  g2) (mo_w_Works_isIn hD  (fun r5 M4 f3 => (have g4 : Ow w D T _ M M4 := (Ow.trans g2 f3); (mf_ite (hQ _ _  g4) (mf_and fun _ => (Exists.imp fun i8 => (mf_and fun e5 => (mf_and fun _ => (hQ _ _  g4)))))))) g2.1)))) (Ow.rf hs).1)
set_option maxRecDepth 20000 in
theorem mo_w_Works_quantum {w : Nat} {D : Nat → Nat → Prop} {T : Nat → Prop} {h : Hot} {this : Nat} {a1 : Int32} {a2 : Int32} {Q Q' : Int32 → Mem → Prop} {M : Mem} (hD : Dok w D) (n0 : T a1.toNatClampNeg) (hQ : ∀ z0 z1, Ow w D T h M z1 → Q z0 z1 → Q' z0 z1) : St w D T h M → w_Works_quantum this a1 a2 Q M → w_Works_quantum this a1 a2 Q' M := by
  intro hs
  unfold w_Works_quantum
  exact (mo_w_Works_isWorld hD  (fun r2 M1 f1 => (have g2 : Ow w D T _ M M1 := (Ow.trans (Ow.rf hs) f1); (mf_ite (hQ _ _  g2) (mo_w_Works_isIn hD  (fun r5 M4 f3 => (have g4 : Ow w D T _ M M4 := (Ow.trans g2 f3); (mf_ite (hQ _ _  g4) (mf_and fun _ => (Exists.imp fun i8 => (mf_and fun e5 => (mf_and fun _ => (Exists.imp fun i10 => (mf_and fun e7 => (have o8 : ow w D 5 i10 := (Ow.rT e7 rfl n0 g4); (hQ _ _  (Ow.wI (ow.to o8 rfl rfl) g4)))))))))))) g2.1)))) (Ow.rf hs).1)
set_option maxRecDepth 20000 in
theorem mo_w_Machine_halt_L138 {w : Nat} {D : Nat → Nat → Prop} {T : Nat → Prop} {h : Hot} {this : Nat} {Q Q' : Int32 → Mem → Prop} {h_Q : Hot} {M0 : Mem} (hD : Dok w D) (n0 : ow w D 6 this) (lQ : ∀ t, h_Q t = true → h t = true) (hQ : ∀ z0 z1, Ow w D T h_Q M0 z1 → Q z0 z1 → Q' z0 z1) : ∀ (n : Nat) (v1 : Int32) (v2 : Int32) (M : Mem), Ow w D T h M0 M → w_Machine_halt_L138 this Q n v1 v2 M → w_Machine_halt_L138 this Q' n v1 v2 M
  | 0, _, _, _ => fun  _ h => h
  | n + 1, v1, v2, M => fun  hf => by
    unfold w_Machine_halt_L138
    exact (mf_ite (hQ _ _  (Ow.dn lQ hf)) (Exists.imp fun i5 => (mf_and fun e1 => (have o2 : ow w D 301 i5 := (Ow.r1 e1 rfl rfl n0 hf); (mf_and fun _ => (have g3 : Ow w D T _ M0 (sI M 301 i5 v2.toNatClampNeg (0 : Int32)) := (Ow.wI o2 hf); (mo_w_Machine_halt_L138 hD n0 lQ hQ _ _ _ _  g3)))))))
set_option maxRecDepth 20000 in
theorem mo_w_Machine_halt_L115 {w : Nat} {D : Nat → Nat → Prop} {T : Nat → Prop} {h : Hot} {this : Nat} {Q Q' : Int32 → Mem → Prop} {h_Q : Hot} {M0 : Mem} (hD : Dok w D) (n0 : ow w D 6 this) (lQ : ∀ t, h_Q t = true → h t = true) (hQ : ∀ z0 z1, Ow w D T h_Q M0 z1 → Q z0 z1 → Q' z0 z1) : ∀ (n : Nat) (v1 : Int32) (v2 : Int32) (M : Mem), Ow w D T h M0 M → w_Machine_halt_L115 this Q n v1 v2 M → w_Machine_halt_L115 this Q' n v1 v2 M
  | 0, _, _, _ => fun  _ h => h
  | n + 1, v1, v2, M => fun  hf => by
    unfold w_Machine_halt_L115
    exact (mf_ite (Exists.imp fun n7 => (mo_w_Machine_halt_L138 hD n0 lQ hQ _ _ _ _  hf)) (mf_and fun _ => (have g1 : Ow w D T _ M0 (sI M 301 (6 * this + 0) v2.toNatClampNeg (0 : Int32)) := (Ow.wI (hD.2.2.2.1 n0) hf); (mo_w_Machine_halt_L115 hD n0 lQ hQ _ _ _ _  g1))))
set_option maxRecDepth 20000 in
theorem mo_w_Machine_halt_j83 {w : Nat} {D : Nat → Nat → Prop} {T : Nat → Prop} {h : Hot} {this : Nat} {Q Q' : Int32 → Mem → Prop} {h_Q : Hot} {k13 k13' : Int32 → Int32 → Int32 → Mem → Prop} {h_k13 : Hot} {k45 k45' : Int32 → Int32 → Int32 → Nat → Int32 → Mem → Prop} {h_k45 : Hot} {v1 : Int32} {v3 : Int32} {v4 : Int32} {v5 : Nat} {v6 : Int32} {M : Mem} {M0 : Mem} (hD : Dok w D) (n0 : ow w D 7 v5) (lQ : ∀ t, h_Q t = true → h t = true) (hQ : ∀ z0 z1, Ow w D T h_Q M0 z1 → Q z0 z1 → Q' z0 z1) (lk13 : ∀ t, h_k13 t = true → h t = true) (hk13 : ∀ z0 z1 z2 z3, Ow w D T h_k13 M0 z3 → k13 z0 z1 z2 z3 → k13' z0 z1 z2 z3) (lk45 : ∀ t, h_k45 t = true → h t = true) (hk45 : ∀ z0 z1 z2 z3 z4 z5, ow w D 7 z3 → Ow w D T h_k45 M0 z5 → k45 z0 z1 z2 z3 z4 z5 → k45' z0 z1 z2 z3 z4 z5) : Ow w D T h M0 M → w_Machine_halt_j83 this Q k13 k45 v1 v3 v4 v5 v6 M → w_Machine_halt_j83 this Q' k13' k45' v1 v3 v4 v5 v6 M := by
  intro hf
  unfold w_Machine_halt_j83
  exact (hk45 _ _ _ _ _ _ n0 (Ow.dn lk45 hf))
set_option maxRecDepth 20000 in
theorem mo_w_Machine_halt_L45 {w : Nat} {D : Nat → Nat → Prop} {T : Nat → Prop} {h : Hot} {this : Nat} {Q Q' : Int32 → Mem → Prop} {h_Q : Hot} {k13 k13' : Int32 → Int32 → Int32 → Mem → Prop} {h_k13 : Hot} {M0 : Mem} (hD : Dok w D) (n0 : ow w D 46 this) (lQ : ∀ t, h_Q t = true → h t = true) (hQ : ∀ z0 z1, Ow w D T h_Q M0 z1 → Q z0 z1 → Q' z0 z1) (lk13 : ∀ t, h_k13 t = true → h t = true) (hk13 : ∀ z0 z1 z2 z3, Ow w D T h_k13 M0 z3 → k13 z0 z1 z2 z3 → k13' z0 z1 z2 z3) : ∀ (n : Nat) (v1 : Int32) (v3 : Int32) (v4 : Int32) (v5 : Nat) (v6 : Int32) (M : Mem), ow w D 7 v5 → Ow w D T h M0 M → w_Machine_halt_L45 this Q k13 n v1 v3 v4 v5 v6 M → w_Machine_halt_L45 this Q' k13' n v1 v3 v4 v5 v6 M
  | 0, _, _, _, _, _, _ => fun _ _ h => h
  | n + 1, v1, v3, v4, v5, v6, M => fun m0 hf => by
    unfold w_Machine_halt_L45
    exact (mf_ite (mo_w_Line_clear hD m0 (fun M14 f1 => (have g2 : Ow w D T _ M0 M14 := (Ow.trans hf f1); (hk13 _ _ _ _  (Ow.dn lk13 g2)))) hf.1) (mf_and fun _ => (mf_ite (mo_w_Machine_halt_j83 hD m0 lQ hQ lk13 hk13 (fun _ e => e) (fun y0 y1 y2 y3 y4 y5 u0 hf => mo_w_Machine_halt_L45 hD n0 lQ hQ lk13 hk13 n y0 y1 y2 y3 y4 y5 u0 hf) hf) (mf_and fun _ => (mf_and fun _ => (have g3 : Ow w D T _ M0 (sI M 46 this (mI M 92 v5 v6.toNatClampNeg).toNatClampNeg (3 : Int32)) := (Ow.wI n0 hf); (mo_w_Machine_halt_j83 hD m0 lQ hQ lk13 hk13 (fun _ e => e) (fun y0 y1 y2 y3 y4 y5 u0 hf => mo_w_Machine_halt_L45 hD n0 lQ hQ lk13 hk13 n y0 y1 y2 y3 y4 y5 u0 hf) g3)))))))
set_option maxRecDepth 20000 in
theorem mo_w_Machine_halt_j40 {w : Nat} {D : Nat → Nat → Prop} {T : Nat → Prop} {h : Hot} {this : Nat} {Q Q' : Int32 → Mem → Prop} {h_Q : Hot} {k13 k13' : Int32 → Int32 → Int32 → Mem → Prop} {h_k13 : Hot} {v3 : Int32} {v4 : Int32} {v5 : Nat} {s0 : Int32} {s1 : Int32} {M : Mem} {M0 : Mem} (hD : Dok w D) (n0 : ow w D 46 this) (n1 : ow w D 7 v5) (lQ : ∀ t, h_Q t = true → h t = true) (hQ : ∀ z0 z1, Ow w D T h_Q M0 z1 → Q z0 z1 → Q' z0 z1) (lk13 : ∀ t, h_k13 t = true → h t = true) (hk13 : ∀ z0 z1 z2 z3, Ow w D T h_k13 M0 z3 → k13 z0 z1 z2 z3 → k13' z0 z1 z2 z3) : Ow w D T h M0 M → w_Machine_halt_j40 this Q k13 v3 v4 v5 s0 s1 M → w_Machine_halt_j40 this Q' k13' v3 v4 v5 s0 s1 M := by
  intro hf
  unfold w_Machine_halt_j40
  exact (Exists.imp fun n19 => (mo_w_Machine_halt_L45 hD n0 lQ hQ lk13 hk13 _ _ _ _ _ _ _ n1 hf))
set_option maxRecDepth 20000 in
theorem mo_w_Machine_halt_L13 {w : Nat} {D : Nat → Nat → Prop} {T : Nat → Prop} {h : Hot} {this : Nat} {Q Q' : Int32 → Mem → Prop} {h_Q : Hot} {M0 : Mem} (hD : Dok w D) (n0 : ow w D 6 this) (lQ : ∀ t, h_Q t = true → h t = true) (hQ : ∀ z0 z1, Ow w D T h_Q M0 z1 → Q z0 z1 → Q' z0 z1) : ∀ (n : Nat) (v1 : Int32) (v3 : Int32) (v4 : Int32) (M : Mem), Ow w D T h M0 M → w_Machine_halt_L13 this Q n v1 v3 v4 M → w_Machine_halt_L13 this Q' n v1 v3 v4 M
  | 0, _, _, _, _ => fun  _ h => h
  | n + 1, v1, v3, v4, M => fun  hf => by
    unfold w_Machine_halt_L13
    exact (mf_ite (Exists.imp fun M2 => (mf_and fun e1 => (have g2 : Ow w D T _ M0 M2 := Ow.of e1 (Ow.wI n0 (Ow.wI n0 hf)); (Exists.imp fun n9 => (mo_w_Machine_halt_L115 hD n0 lQ hQ _ _ _ _  g2))))) (mf_and fun _ => (Exists.imp fun i11 => (mf_and fun e3 => (have o4 : ow w D 7 i11 := (Ow.r1 e3 rfl rfl (ow.to n0 rfl rfl) hf); (mf_ite (mo_w_Machine_halt_j40 hD (ow.to n0 rfl rfl) o4 lQ hQ (fun _ e => e) (fun y0 y1 y2 y3  hf => mo_w_Machine_halt_L13 hD n0 lQ hQ n y0 y1 y2 y3  hf) hf) (mo_w_Machine_halt_j40 hD (ow.to n0 rfl rfl) o4 lQ hQ (fun _ e => e) (fun y0 y1 y2 y3  hf => mo_w_Machine_halt_L13 hD n0 lQ hQ n y0 y1 y2 y3  hf) hf)))))))
set_option maxRecDepth 20000 in
theorem mo_w_Machine_halt {w : Nat} {D : Nat → Nat → Prop} {T : Nat → Prop} {h : Hot} {this : Nat} {Q Q' : Int32 → Mem → Prop} {M : Mem} (hD : Dok w D) (n0 : ow w D 6 this) (hQ : ∀ z0 z1, Ow w D T h M z1 → Q z0 z1 → Q' z0 z1) : St w D T h M → w_Machine_halt this Q M → w_Machine_halt this Q' M := by
  intro hs
  unfold w_Machine_halt
  exact (Exists.imp fun n20 => (mo_w_Machine_halt_L13 hD n0 (fun _ e => e) hQ _ _ _ _ _  (Ow.rf hs)))
set_option maxRecDepth 20000 in
theorem mo_w_Works_halt {w : Nat} {D : Nat → Nat → Prop} {T : Nat → Prop} {h : Hot} {this : Nat} {a1 : Int32} {Q Q' : Int32 → Mem → Prop} {M : Mem} (hD : Dok w D) (n0 : T a1.toNatClampNeg) (hQ : ∀ z0 z1, Ow w D T h M z1 → Q z0 z1 → Q' z0 z1) : St w D T h M → w_Works_halt this a1 Q M → w_Works_halt this a1 Q' M := by
  intro hs
  unfold w_Works_halt
  exact (mo_w_Works_isWorld hD  (fun r2 M1 f1 => (have g2 : Ow w D T _ M M1 := (Ow.trans (Ow.rf hs) f1); (mf_ite (hQ _ _  g2) (mf_and fun _ => (Exists.imp fun i5 => (mf_and fun e3 => (have o4 : ow w D 5 i5 := (Ow.rT e3 rfl n0 g2); (mo_w_Machine_halt hD (ow.to o4 rfl rfl) (fun r7 M6 f5 => (have g6 : Ow w D T _ M M6 := (Ow.trans g2 f5); (hQ _ _  g6))) g2.1)))))))) (Ow.rf hs).1)
set_option maxRecDepth 20000 in
theorem mo_w_Machine_reaches {w : Nat} {D : Nat → Nat → Prop} {T : Nat → Prop} {h : Hot} {this : Nat} {a1 : Int32} {Q Q' : Mem → Prop} {M : Mem} (hD : Dok w D) (n0 : ow w D 513 this) (hQ : ∀ z0, Ow w D T h M z0 → Q z0 → Q' z0) : St w D T h M → w_Machine_reaches this a1 Q M → w_Machine_reaches this a1 Q' M := by
  intro hs
  unfold w_Machine_reaches
  exact (mo_w_Works_isIn hD  (fun r2 M1 f1 => (have g2 : Ow w D T _ M M1 := (Ow.trans (Ow.rf hs) f1); (mf_ite (hQ _  g2) (mf_and fun _ => (mf_ite (mf_and fun _ => (mf_and fun _ => (Exists.imp fun M8 => (mf_and fun e3 => (have g4 : Ow w D T _ M M8 := Ow.of e3 (Ow.wI (ow.to n0 rfl rfl) (Ow.wI n0 g2)); (hQ _  (Ow.wI (ow.to n0 rfl rfl) g4))))))) (hQ _  g2)))))) (Ow.rf hs).1)
set_option maxRecDepth 20000 in
theorem mo_w_Machine_sweep_j105 {w : Nat} {D : Nat → Nat → Prop} {T : Nat → Prop} {h : Hot} {this : Nat} {Q Q' : Int32 → Mem → Prop} {h_Q : Hot} {k23 k23' : Int32 → Int32 → Int32 → Mem → Prop} {h_k23 : Hot} {v1 : Int32} {v2 : Int32} {v3 : Int32} {M : Mem} {M0 : Mem} (hD : Dok w D)  (lQ : ∀ t, h_Q t = true → h t = true) (hQ : ∀ z0 z1, Ow w D T h_Q M0 z1 → Q z0 z1 → Q' z0 z1) (lk23 : ∀ t, h_k23 t = true → h t = true) (hk23 : ∀ z0 z1 z2 z3, Ow w D T h_k23 M0 z3 → k23 z0 z1 z2 z3 → k23' z0 z1 z2 z3) : Ow w D T h M0 M → w_Machine_sweep_j105 this Q k23 v1 v2 v3 M → w_Machine_sweep_j105 this Q' k23' v1 v2 v3 M := by
  intro hf
  unfold w_Machine_sweep_j105
  exact (hk23 _ _ _ _  (Ow.dn lk23 hf))
set_option maxRecDepth 20000 in
theorem mo_w_Machine_sweep_L23 {w : Nat} {D : Nat → Nat → Prop} {T : Nat → Prop} {h : Hot} {this : Nat} {Q Q' : Int32 → Mem → Prop} {h_Q : Hot} {M0 : Mem} (hD : Dok w D) (n0 : ow w D 6 this) (lQ : ∀ t, h_Q t = true → h t = true) (hQ : ∀ z0 z1, Ow w D T h_Q M0 z1 → Q z0 z1 → Q' z0 z1) : ∀ (n : Nat) (v1 : Int32) (v2 : Int32) (v3 : Int32) (M : Mem), Ow w D T h M0 M → w_Machine_sweep_L23 this Q n v1 v2 v3 M → w_Machine_sweep_L23 this Q' n v1 v2 v3 M
  | 0, _, _, _, _ => fun  _ h => h
  | n + 1, v1, v2, v3, M => fun  hf => by
    unfold w_Machine_sweep_L23
    exact (mf_ite (Exists.imp fun M8 => (mf_and fun e1 => (have g2 : Ow w D T _ M0 M8 := Ow.of e1 (Ow.wI n0 (Ow.wI n0 (Ow.wI n0 hf))); (hQ _ _  (Ow.dn lQ g2))))) (mf_and fun _ => (mf_ite (mo_w_Machine_sweep_j105 hD  lQ hQ (fun _ e => e) (fun y0 y1 y2 y3  hf => mo_w_Machine_sweep_L23 hD n0 lQ hQ n y0 y1 y2 y3  hf) hf) (mf_and fun _ => (mf_ite (mf_and fun _ => (have g3 : Ow w D T _ M0 (sI M 512 this v3.toNatClampNeg ((0 : Int32) &&& 1)) := (Ow.wI (ow.to n0 rfl rfl) hf); (mo_w_Machine_sweep_j105 hD  lQ hQ (fun _ e => e) (fun y0 y1 y2 y3  hf => mo_w_Machine_sweep_L23 hD n0 lQ hQ n y0 y1 y2 y3  hf) g3))) (mf_and fun _ => (mf_and fun _ => (mf_and fun _ => (mf_and fun _ => (mf_and fun _ => (mf_and fun _ => (mf_and fun _ => (Exists.imp fun M16 => (mf_and fun e4 => (have g5 : Ow w D T _ M0 M16 := Ow.of e4 (Ow.wcp (ow.to n0 rfl rfl) hf); (mf_and fun _ => (mf_and fun _ => (Exists.imp fun x24 => (mf_and fun _ => (have g6 : Ow w D T _ M0 (sI M16 80 this v3.toNatClampNeg v2) := (Ow.wI (ow.to n0 rfl rfl) g5); (mo_w_Machine_sweep_j105 hD  lQ hQ (fun _ e => e) (fun y0 y1 y2 y3  hf => mo_w_Machine_sweep_L23 hD n0 lQ hQ n y0 y1 y2 y3  hf) g6)))))))))))))))))))))
set_option maxRecDepth 20000 in
theorem mo_w_Machine_sweep {w : Nat} {D : Nat → Nat → Prop} {T : Nat → Prop} {h : Hot} {this : Nat} {Q Q' : Int32 → Mem → Prop} {M : Mem} (hD : Dok w D) (n0 : ow w D 83 this) (hQ : ∀ z0 z1, Ow w D T h M z1 → Q z0 z1 → Q' z0 z1) : St w D T h M → w_Machine_sweep this Q M → w_Machine_sweep this Q' M := by
  intro hs
  unfold w_Machine_sweep
  exact (mf_and fun _ => (mf_and fun _ => (mf_and fun _ => (mf_and fun _ => (mf_and fun _ => (Exists.imp fun M1 => (mf_and fun e1 => (have g2 : Ow w D T _ M M1 := Ow.of e1 (Ow.wcp n0 (Ow.rf hs)); (Exists.imp fun n25 => (mo_w_Machine_sweep_L23 hD (ow.to n0 rfl rfl) (fun _ e => e) hQ _ _ _ _ _  g2))))))))))
set_option maxRecDepth 20000 in
theorem mo_w_Machine_collect_j315 {w : Nat} {D : Nat → Nat → Prop} {T : Nat → Prop} {h : Hot} {this : Nat} {Q Q' : Int32 → Mem → Prop} {h_Q : Hot} {k230 k230' : Mem → Prop} {h_k230 : Hot} {k271 k271' : Int32 → Int32 → Mem → Prop} {h_k271 : Hot} {v1 : Int32} {v2 : Int32} {M : Mem} {M0 : Mem} (hD : Dok w D)  (lQ : ∀ t, h_Q t = true → h t = true) (hQ : ∀ z0 z1, Ow w D T h_Q M0 z1 → Q z0 z1 → Q' z0 z1) (lk230 : ∀ t, h_k230 t = true → h t = true) (hk230 : ∀ z0, Ow w D T h_k230 M0 z0 → k230 z0 → k230' z0) (lk271 : ∀ t, h_k271 t = true → h t = true) (hk271 : ∀ z0 z1 z2, Ow w D T h_k271 M0 z2 → k271 z0 z1 z2 → k271' z0 z1 z2) : Ow w D T h M0 M → w_Machine_collect_j315 this Q k230 k271 v1 v2 M → w_Machine_collect_j315 this Q' k230' k271' v1 v2 M := by
  intro hf
  unfold w_Machine_collect_j315
  exact (hk271 _ _ _  (Ow.dn lk271 hf))
set_option maxRecDepth 20000 in
theorem mo_w_Machine_collect_L271 {w : Nat} {D : Nat → Nat → Prop} {T : Nat → Prop} {h : Hot} {this : Nat} {Q Q' : Int32 → Mem → Prop} {h_Q : Hot} {k230 k230' : Mem → Prop} {h_k230 : Hot} {M0 : Mem} (hD : Dok w D) (n0 : ow w D 513 this) (lQ : ∀ t, h_Q t = true → h t = true) (hQ : ∀ z0 z1, Ow w D T h_Q M0 z1 → Q z0 z1 → Q' z0 z1) (lk230 : ∀ t, h_k230 t = true → h t = true) (hk230 : ∀ z0, Ow w D T h_k230 M0 z0 → k230 z0 → k230' z0) : ∀ (n : Nat) (v1 : Int32) (v2 : Int32) (M : Mem), Ow w D T h M0 M → w_Machine_collect_L271 this Q k230 n v1 v2 M → w_Machine_collect_L271 this Q' k230' n v1 v2 M
  | 0, _, _, _ => fun  _ h => h
  | n + 1, v1, v2, M => fun  hf => by
    unfold w_Machine_collect_L271
    exact (mf_and fun _ => (mf_ite (hk230 _  (Ow.dn lk230 hf)) (mf_and fun _ => (mo_w_World_fieldKind hD  (fun r16 M15 f1 => (have g2 : Ow w D T _ M0 M15 := (Ow.trans hf f1); (mf_ite (mo_w_Machine_collect_j315 hD  lQ hQ lk230 hk230 (fun _ e => e) (fun y0 y1 y2  hf => mo_w_Machine_collect_L271 hD n0 lQ hQ lk230 hk230 n y0 y1 y2  hf) g2) (mf_and fun _ => (mf_and fun _ => (mo_w_Machine_reaches hD n0 (fun M20 f3 => (have g4 : Ow w D T _ M0 M20 := (Ow.trans g2 f3); (mo_w_Machine_collect_j315 hD  lQ hQ lk230 hk230 (fun _ e => e) (fun y0 y1 y2  hf => mo_w_Machine_collect_L271 hD n0 lQ hQ lk230 hk230 n y0 y1 y2  hf) g4))) g2.1)))))) hf.1))))
set_option maxRecDepth 20000 in
theorem mo_w_Machine_collect_L230 {w : Nat} {D : Nat → Nat → Prop} {T : Nat → Prop} {h : Hot} {this : Nat} {Q Q' : Int32 → Mem → Prop} {h_Q : Hot} {M0 : Mem} (hD : Dok w D) (n0 : ow w D 83 this) (lQ : ∀ t, h_Q t = true → h t = true) (hQ : ∀ z0 z1, Ow w D T h_Q M0 z1 → Q z0 z1 → Q' z0 z1) : ∀ (n : Nat) (M : Mem), Ow w D T h M0 M → w_Machine_collect_L230 this Q n M → w_Machine_collect_L230 this Q' n M
  | 0, _ => fun  _ h => h
  | n + 1, M => fun  hf => by
    unfold w_Machine_collect_L230
    exact (mf_ite (mo_w_Machine_sweep hD n0 (fun r7 M6 f1 => (have g2 : Ow w D T _ M0 M6 := (Ow.trans hf f1); (hQ _ _  (Ow.dn lQ g2)))) hf.1) (mf_and fun _ => (Exists.imp fun x9 => (mf_and fun _ => (mf_and fun _ => (mf_ite (Exists.imp fun n21 => (have g3 : Ow w D T _ M0 (sI M 6 this 18 ((mI M 6 this 18) - (1 : Int32))) := (Ow.wI (ow.to n0 rfl rfl) hf); (mo_w_Machine_collect_L271 hD (ow.to n0 rfl rfl) lQ hQ (fun _ e => e) (fun y0  hf => mo_w_Machine_collect_L230 hD n0 lQ hQ n y0  hf) _ _ _ _  g3))) (have g4 : Ow w D T _ M0 (sI M 6 this 18 ((mI M 6 this 18) - (1 : Int32))) := (Ow.wI (ow.to n0 rfl rfl) hf); (mo_w_Machine_collect_L230 hD n0 lQ hQ _ _  g4))))))))
set_option maxRecDepth 20000 in
theorem mo_w_Machine_collect_j218 {w : Nat} {D : Nat → Nat → Prop} {T : Nat → Prop} {h : Hot} {this : Nat} {Q Q' : Int32 → Mem → Prop} {h_Q : Hot} {k121 k121' : Int32 → Int32 → Mem → Prop} {h_k121 : Hot} {k134 k134' : Int32 → Int32 → Nat → Int32 → Mem → Prop} {h_k134 : Hot} {v2 : Int32} {v3 : Int32} {v4 : Nat} {v5 : Int32} {M : Mem} {M0 : Mem} (hD : Dok w D)  (lQ : ∀ t, h_Q t = true → h t = true) (hQ : ∀ z0 z1, Ow w D T h_Q M0 z1 → Q z0 z1 → Q' z0 z1) (lk121 : ∀ t, h_k121 t = true → h t = true) (hk121 : ∀ z0 z1 z2, Ow w D T h_k121 M0 z2 → k121 z0 z1 z2 → k121' z0 z1 z2) (lk134 : ∀ t, h_k134 t = true → h t = true) (hk134 : ∀ z0 z1 z2 z3 z4, Ow w D T h_k134 M0 z4 → k134 z0 z1 z2 z3 z4 → k134' z0 z1 z2 z3 z4) : Ow w D T h M0 M → w_Machine_collect_j218 this Q k121 k134 v2 v3 v4 v5 M → w_Machine_collect_j218 this Q' k121' k134' v2 v3 v4 v5 M := by
  intro hf
  unfold w_Machine_collect_j218
  exact (hk134 _ _ _ _ _  (Ow.dn lk134 hf))
set_option maxRecDepth 20000 in
theorem mo_w_Machine_collect_j212 {w : Nat} {D : Nat → Nat → Prop} {T : Nat → Prop} {h : Hot} {this : Nat} {Q Q' : Int32 → Mem → Prop} {h_Q : Hot} {k121 k121' : Int32 → Int32 → Mem → Prop} {h_k121 : Hot} {k134 k134' : Int32 → Int32 → Nat → Int32 → Mem → Prop} {h_k134 : Hot} {k161 k161' : Int32 → Int32 → Nat → Int32 → Int32 → Mem → Prop} {h_k161 : Hot} {v2 : Int32} {v3 : Int32} {v4 : Nat} {v5 : Int32} {v6 : Int32} {M : Mem} {M0 : Mem} (hD : Dok w D)  (lQ : ∀ t, h_Q t = true → h t = true) (hQ : ∀ z0 z1, Ow w D T h_Q M0 z1 → Q z0 z1 → Q' z0 z1) (lk121 : ∀ t, h_k121 t = true → h t = true) (hk121 : ∀ z0 z1 z2, Ow w D T h_k121 M0 z2 → k121 z0 z1 z2 → k121' z0 z1 z2) (lk134 : ∀ t, h_k134 t = true → h t = true) (hk134 : ∀ z0 z1 z2 z3 z4, Ow w D T h_k134 M0 z4 → k134 z0 z1 z2 z3 z4 → k134' z0 z1 z2 z3 z4) (lk161 : ∀ t, h_k161 t = true → h t = true) (hk161 : ∀ z0 z1 z2 z3 z4 z5, Ow w D T h_k161 M0 z5 → k161 z0 z1 z2 z3 z4 z5 → k161' z0 z1 z2 z3 z4 z5) : Ow w D T h M0 M → w_Machine_collect_j212 this Q k121 k134 k161 v2 v3 v4 v5 v6 M → w_Machine_collect_j212 this Q' k121' k134' k161' v2 v3 v4 v5 v6 M := by
  intro hf
  unfold w_Machine_collect_j212
  exact (hk161 _ _ _ _ _ _  (Ow.dn lk161 hf))
set_option maxRecDepth 20000 in
theorem mo_w_Machine_collect_L161 {w : Nat} {D : Nat → Nat → Prop} {T : Nat → Prop} {h : Hot} {this : Nat} {Q Q' : Int32 → Mem → Prop} {h_Q : Hot} {k121 k121' : Int32 → Int32 → Mem → Prop} {h_k121 : Hot} {k134 k134' : Int32 → Int32 → Nat → Int32 → Mem → Prop} {h_k134 : Hot} {M0 : Mem} (hD : Dok w D) (n0 : ow w D 513 this) (lQ : ∀ t, h_Q t = true → h t = true) (hQ : ∀ z0 z1, Ow w D T h_Q M0 z1 → Q z0 z1 → Q' z0 z1) (lk121 : ∀ t, h_k121 t = true → h t = true) (hk121 : ∀ z0 z1 z2, Ow w D T h_k121 M0 z2 → k121 z0 z1 z2 → k121' z0 z1 z2) (lk134 : ∀ t, h_k134 t = true → h t = true) (hk134 : ∀ z0 z1 z2 z3 z4, Ow w D T h_k134 M0 z4 → k134 z0 z1 z2 z3 z4 → k134' z0 z1 z2 z3 z4) : ∀ (n : Nat) (v2 : Int32) (v3 : Int32) (v4 : Nat) (v5 : Int32) (v6 : Int32) (M : Mem), Ow w D T h M0 M → w_Machine_collect_L161 this Q k121 k134 n v2 v3 v4 v5 v6 M → w_Machine_collect_L161 this Q' k121' k134' n v2 v3 v4 v5 v6 M
  | 0, _, _, _, _, _, _ => fun  _ h => h
  | n + 1, v2, v3, v4, v5, v6, M => fun  hf => by
    unfold w_Machine_collect_L161
    exact (mf_and fun _ => (mf_ite (mo_w_Machine_collect_j218 hD  lQ hQ lk121 hk121 lk134 hk134 hf) (mf_and fun _ => (mf_ite (mo_w_Machine_collect_j212 hD  lQ hQ lk121 hk121 lk134 hk134 (fun _ e => e) (fun y0 y1 y2 y3 y4 y5  hf => mo_w_Machine_collect_L161 hD n0 lQ hQ lk121 hk121 lk134 hk134 n y0 y1 y2 y3 y4 y5  hf) hf) (mf_and fun _ => (mo_w_Machine_reaches hD n0 (fun M33 f1 => (have g2 : Ow w D T _ M0 M33 := (Ow.trans hf f1); (mo_w_Machine_collect_j212 hD  lQ hQ lk121 hk121 lk134 hk134 (fun _ e => e) (fun y0 y1 y2 y3 y4 y5  hf => mo_w_Machine_collect_L161 hD n0 lQ hQ lk121 hk121 lk134 hk134 n y0 y1 y2 y3 y4 y5  hf) g2))) hf.1))))))
set_option maxRecDepth 20000 in
theorem mo_w_Machine_collect_L134 {w : Nat} {D : Nat → Nat → Prop} {T : Nat → Prop} {h : Hot} {this : Nat} {Q Q' : Int32 → Mem → Prop} {h_Q : Hot} {k121 k121' : Int32 → Int32 → Mem → Prop} {h_k121 : Hot} {M0 : Mem} (hD : Dok w D) (n0 : ow w D 513 this) (lQ : ∀ t, h_Q t = true → h t = true) (hQ : ∀ z0 z1, Ow w D T h_Q M0 z1 → Q z0 z1 → Q' z0 z1) (lk121 : ∀ t, h_k121 t = true → h t = true) (hk121 : ∀ z0 z1 z2, Ow w D T h_k121 M0 z2 → k121 z0 z1 z2 → k121' z0 z1 z2) : ∀ (n : Nat) (v2 : Int32) (v3 : Int32) (v4 : Nat) (v5 : Int32) (M : Mem), Ow w D T h M0 M → w_Machine_collect_L134 this Q k121 n v2 v3 v4 v5 M → w_Machine_collect_L134 this Q' k121' n v2 v3 v4 v5 M
  | 0, _, _, _, _, _ => fun  _ h => h
  | n + 1, v2, v3, v4, v5, M => fun  hf => by
    unfold w_Machine_collect_L134
    exact (mf_ite (hk121 _ _ _  (Ow.dn lk121 hf)) (mf_and fun _ => (mf_ite (Exists.imp fun n34 => (mo_w_Machine_collect_L161 hD n0 lQ hQ lk121 hk121 (fun _ e => e) (fun y0 y1 y2 y3 y4  hf => mo_w_Machine_collect_L134 hD n0 lQ hQ lk121 hk121 n y0 y1 y2 y3 y4  hf) _ _ _ _ _ _ _  hf)) (mo_w_Machine_collect_j218 hD  lQ hQ lk121 hk121 (fun _ e => e) (fun y0 y1 y2 y3 y4  hf => mo_w_Machine_collect_L134 hD n0 lQ hQ lk121 hk121 n y0 y1 y2 y3 y4  hf) hf))))
set_option maxRecDepth 20000 in
theorem mo_w_Machine_collect_L121 {w : Nat} {D : Nat → Nat → Prop} {T : Nat → Prop} {h : Hot} {this : Nat} {Q Q' : Int32 → Mem → Prop} {h_Q : Hot} {M0 : Mem} (hD : Dok w D) (n0 : ow w D 83 this) (lQ : ∀ t, h_Q t = true → h t = true) (hQ : ∀ z0 z1, Ow w D T h_Q M0 z1 → Q z0 z1 → Q' z0 z1) : ∀ (n : Nat) (v2 : Int32) (v3 : Int32) (M : Mem), Ow w D T h M0 M → w_Machine_collect_L121 this Q n v2 v3 M → w_Machine_collect_L121 this Q' n v2 v3 M
  | 0, _, _, _ => fun  _ h => h
  | n + 1, v2, v3, M => fun  hf => by
    unfold w_Machine_collect_L121
    exact (mf_ite (Exists.imp fun n22 => (mo_w_Machine_collect_L230 hD n0 lQ hQ _ _  hf)) (mf_and fun _ => (Exists.imp fun i24 => (mf_and fun e1 => (Exists.imp fun n35 => (mo_w_Machine_collect_L134 hD (ow.to n0 rfl rfl) lQ hQ (fun _ e => e) (fun y0 y1 y2  hf => mo_w_Machine_collect_L121 hD n0 lQ hQ n y0 y1 y2  hf) _ _ _ _ _ _  hf))))))
set_option maxRecDepth 20000 in
theorem mo_w_Machine_collect_j99 {w : Nat} {D : Nat → Nat → Prop} {T : Nat → Prop} {h : Hot} {this : Nat} {Q Q' : Int32 → Mem → Prop} {h_Q : Hot} {k16 k16' : Int32 → Mem → Prop} {h_k16 : Hot} {k37 k37' : Int32 → Int32 → Mem → Prop} {h_k37 : Hot} {v1 : Int32} {v2 : Int32} {M : Mem} {M0 : Mem} (hD : Dok w D)  (lQ : ∀ t, h_Q t = true → h t = true) (hQ : ∀ z0 z1, Ow w D T h_Q M0 z1 → Q z0 z1 → Q' z0 z1) (lk16 : ∀ t, h_k16 t = true → h t = true) (hk16 : ∀ z0 z1, Ow w D T h_k16 M0 z1 → k16 z0 z1 → k16' z0 z1) (lk37 : ∀ t, h_k37 t = true → h t = true) (hk37 : ∀ z0 z1 z2, Ow w D T h_k37 M0 z2 → k37 z0 z1 z2 → k37' z0 z1 z2) : Ow w D T h M0 M → w_Machine_collect_j99 this Q k16 k37 v1 v2 M → w_Machine_collect_j99 this Q' k16' k37' v1 v2 M := by
  intro hf
  unfold w_Machine_collect_j99
  exact (hk37 _ _ _  (Ow.dn lk37 hf))
set_option maxRecDepth 20000 in
theorem mo_w_Machine_collect_L37 {w : Nat} {D : Nat → Nat → Prop} {T : Nat → Prop} {h : Hot} {this : Nat} {Q Q' : Int32 → Mem → Prop} {h_Q : Hot} {k16 k16' : Int32 → Mem → Prop} {h_k16 : Hot} {M0 : Mem} (hD : Dok w D) (n0 : ow w D 513 this) (lQ : ∀ t, h_Q t = true → h t = true) (hQ : ∀ z0 z1, Ow w D T h_Q M0 z1 → Q z0 z1 → Q' z0 z1) (lk16 : ∀ t, h_k16 t = true → h t = true) (hk16 : ∀ z0 z1, Ow w D T h_k16 M0 z1 → k16 z0 z1 → k16' z0 z1) : ∀ (n : Nat) (v1 : Int32) (v2 : Int32) (M : Mem), Ow w D T h M0 M → w_Machine_collect_L37 this Q k16 n v1 v2 M → w_Machine_collect_L37 this Q' k16' n v1 v2 M
  | 0, _, _, _ => fun  _ h => h
  | n + 1, v1, v2, M => fun  hf => by
    unfold w_Machine_collect_L37
    exact (mf_and fun _ => (mf_and fun _ => (mf_ite (hk16 _ _  (Ow.dn lk16 hf)) (mf_and fun _ => (mf_ite (mo_w_Machine_collect_j99 hD  lQ hQ lk16 hk16 (fun _ e => e) (fun y0 y1 y2  hf => mo_w_Machine_collect_L37 hD n0 lQ hQ lk16 hk16 n y0 y1 y2  hf) hf) (mf_and fun _ => (mf_ite (mo_w_Machine_collect_j99 hD  lQ hQ lk16 hk16 (fun _ e => e) (fun y0 y1 y2  hf => mo_w_Machine_collect_L37 hD n0 lQ hQ lk16 hk16 n y0 y1 y2  hf) hf) (mf_and fun _ => (mo_w_Machine_reaches hD n0 (fun M46 f1 => (have g2 : Ow w D T _ M0 M46 := (Ow.trans hf f1); (mo_w_Machine_collect_j99 hD  lQ hQ lk16 hk16 (fun _ e => e) (fun y0 y1 y2  hf => mo_w_Machine_collect_L37 hD n0 lQ hQ lk16 hk16 n y0 y1 y2  hf) g2))) hf.1)))))))))
set_option maxRecDepth 20000 in
theorem mo_w_Machine_collect_L16 {w : Nat} {D : Nat → Nat → Prop} {T : Nat → Prop} {h : Hot} {this : Nat} {Q Q' : Int32 → Mem → Prop} {h_Q : Hot} {M0 : Mem} (hD : Dok w D) (n0 : ow w D 83 this) (lQ : ∀ t, h_Q t = true → h t = true) (hQ : ∀ z0 z1, Ow w D T h_Q M0 z1 → Q z0 z1 → Q' z0 z1) : ∀ (n : Nat) (v1 : Int32) (M : Mem), Ow w D T h M0 M → w_Machine_collect_L16 this Q n v1 M → w_Machine_collect_L16 this Q' n v1 M
  | 0, _, _ => fun  _ h => h
  | n + 1, v1, M => fun  hf => by
    unfold w_Machine_collect_L16
    exact (mf_ite (Exists.imp fun n36 => (mo_w_Machine_collect_L121 hD n0 lQ hQ _ _ _ _  hf)) (mf_and fun _ => (Exists.imp fun n47 => (mo_w_Machine_collect_L37 hD (ow.to n0 rfl rfl) lQ hQ (fun _ e => e) (fun y0 y1  hf => mo_w_Machine_collect_L16 hD n0 lQ hQ n y0 y1  hf) _ _ _ _  hf))))
set_option maxRecDepth 20000 in
theorem mo_w_Machine_collect {w : Nat} {D : Nat → Nat → Prop} {T : Nat → Prop} {h : Hot} {this : Nat} {Q Q' : Int32 → Mem → Prop} {M : Mem} (hD : Dok w D) (n0 : ow w D 513 this) (hQ : ∀ z0 z1, Ow w D T h M z1 → Q z0 z1 → Q' z0 z1) : St w D T h M → w_Machine_collect this Q M → w_Machine_collect this Q' M := by
  intro hs
  unfold w_Machine_collect
  exact (mf_and fun _ => (Exists.imp fun M1 => (mf_and fun e1 => (have g2 : Ow w D T _ M M1 := Ow.of e1 (Ow.wfl n0 (Ow.rf hs)); (Exists.imp fun n48 => (have g3 : Ow w D T _ M (sI M1 6 this 18 (0 : Int32)) := (Ow.wI (ow.to n0 rfl rfl) g2); (mo_w_Machine_collect_L16 hD (ow.to n0 rfl rfl) (fun _ e => e) hQ _ _ _  g3)))))))
set_option maxRecDepth 20000 in
theorem mo_w_Works_collect {w : Nat} {D : Nat → Nat → Prop} {T : Nat → Prop} {h : Hot} {this : Nat} {a1 : Int32} {Q Q' : Int32 → Mem → Prop} {M : Mem} (hD : Dok w D) (n0 : T a1.toNatClampNeg) (hQ : ∀ z0 z1, Ow w D T h M z1 → Q z0 z1 → Q' z0 z1) : St w D T h M → w_Works_collect this a1 Q M → w_Works_collect this a1 Q' M := by
  intro hs
  unfold w_Works_collect
  exact (mo_w_Works_isWorld hD  (fun r2 M1 f1 => (have g2 : Ow w D T _ M M1 := (Ow.trans (Ow.rf hs) f1); (mf_ite (hQ _ _  g2) (mf_and fun _ => (Exists.imp fun i5 => (mf_and fun e3 => (have o4 : ow w D 5 i5 := (Ow.rT e3 rfl n0 g2); (mo_w_Machine_collect hD (ow.to o4 rfl rfl) (fun r7 M6 f5 => (have g6 : Ow w D T _ M M6 := (Ow.trans g2 f5); (hQ _ _  g6))) g2.1)))))))) (Ow.rf hs).1)
set_option maxRecDepth 20000 in
theorem mo_w_Works_hasField_j123 {w : Nat} {D : Nat → Nat → Prop} {T : Nat → Prop} {h : Hot} {this : Nat} {Q Q' : Int32 → Mem → Prop} {h_Q : Hot} {k9 k9' : Nat → Int32 → Nat → Int32 → Int32 → Mem → Prop} {h_k9 : Hot} {v1 : Nat} {v2 : Int32} {v3 : Nat} {v4 : Int32} {v5 : Int32} {M : Mem} {M0 : Mem} (hD : Dok w D)  (lQ : ∀ t, h_Q t = true → h t = true) (hQ : ∀ z0 z1, Ow w D T h_Q M0 z1 → Q z0 z1 → Q' z0 z1) (lk9 : ∀ t, h_k9 t = true → h t = true) (hk9 : ∀ z0 z1 z2 z3 z4 z5, Ow w D T h_k9 M0 z5 → k9 z0 z1 z2 z3 z4 z5 → k9' z0 z1 z2 z3 z4 z5) : Ow w D T h M0 M → w_Works_hasField_j123 this Q k9 v1 v2 v3 v4 v5 M → w_Works_hasField_j123 this Q' k9' v1 v2 v3 v4 v5 M := by
  intro hf
  unfold w_Works_hasField_j123
  exact (hk9 _ _ _ _ _ _  (Ow.dn lk9 hf))
set_option maxRecDepth 20000 in
theorem mo_w_Works_hasField_j82 {w : Nat} {D : Nat → Nat → Prop} {T : Nat → Prop} {h : Hot} {this : Nat} {Q Q' : Int32 → Mem → Prop} {h_Q : Hot} {k9 k9' : Nat → Int32 → Nat → Int32 → Int32 → Mem → Prop} {h_k9 : Hot} {v1 : Nat} {v2 : Int32} {v3 : Nat} {v4 : Int32} {v5 : Int32} {s0 : Int32} {M : Mem} {M0 : Mem} (hD : Dok w D)  (lQ : ∀ t, h_Q t = true → h t = true) (hQ : ∀ z0 z1, Ow w D T h_Q M0 z1 → Q z0 z1 → Q' z0 z1) (lk9 : ∀ t, h_k9 t = true → h t = true) (hk9 : ∀ z0 z1 z2 z3 z4 z5, Ow w D T h_k9 M0 z5 → k9 z0 z1 z2 z3 z4 z5 → k9' z0 z1 z2 z3 z4 z5) : Ow w D T h M0 M → w_Works_hasField_j82 this Q k9 v1 v2 v3 v4 v5 s0 M → w_Works_hasField_j82 this Q' k9' v1 v2 v3 v4 v5 s0 M := by
  intro hf
  unfold w_Works_hasField_j82
  exact (mf_ite (mo_w_Works_hasField_j123 hD  lQ hQ lk9 hk9 hf) (mf_and fun _ => (mf_and fun _ => (mf_ite (mf_and fun _ => (mf_and fun _ => (mf_ite (hQ _ _  (Ow.dn lQ hf)) (mo_w_Works_hasField_j123 hD  lQ hQ lk9 hk9 hf)))) (mo_w_Works_hasField_j123 hD  lQ hQ lk9 hk9 hf)))))
set_option maxRecDepth 20000 in
theorem mo_w_Works_hasField_j81 {w : Nat} {D : Nat → Nat → Prop} {T : Nat → Prop} {h : Hot} {this : Nat} {Q Q' : Int32 → Mem → Prop} {h_Q : Hot} {k9 k9' : Nat → Int32 → Nat → Int32 → Int32 → Mem → Prop} {h_k9 : Hot} {v1 : Nat} {v2 : Int32} {v3 : Nat} {v4 : Int32} {v5 : Int32} {M : Mem} {M0 : Mem} (hD : Dok w D)  (lQ : ∀ t, h_Q t = true → h t = true) (hQ : ∀ z0 z1, Ow w D T h_Q M0 z1 → Q z0 z1 → Q' z0 z1) (lk9 : ∀ t, h_k9 t = true → h t = true) (hk9 : ∀ z0 z1 z2 z3 z4 z5, Ow w D T h_k9 M0 z5 → k9 z0 z1 z2 z3 z4 z5 → k9' z0 z1 z2 z3 z4 z5) : Ow w D T h M0 M → w_Works_hasField_j81 this Q k9 v1 v2 v3 v4 v5 M → w_Works_hasField_j81 this Q' k9' v1 v2 v3 v4 v5 M := by
  intro hf
  unfold w_Works_hasField_j81
  exact (mo_w_Works_hasField_j82 hD  lQ hQ lk9 hk9 hf)
set_option maxRecDepth 20000 in
theorem mo_w_Works_hasField_L9 {w : Nat} {D : Nat → Nat → Prop} {T : Nat → Prop} {h : Hot} {this : Nat} {Q Q' : Int32 → Mem → Prop} {h_Q : Hot} {M0 : Mem} (hD : Dok w D)  (lQ : ∀ t, h_Q t = true → h t = true) (hQ : ∀ z0 z1, Ow w D T h_Q M0 z1 → Q z0 z1 → Q' z0 z1) : ∀ (n : Nat) (v1 : Nat) (v2 : Int32) (v3 : Nat) (v4 : Int32) (v5 : Int32) (M : Mem), Ow w D T h M0 M → w_Works_hasField_L9 this Q n v1 v2 v3 v4 v5 M → w_Works_hasField_L9 this Q' n v1 v2 v3 v4 v5 M
  | 0, _, _, _, _, _, _ => fun  _ h => h
  | n + 1, v1, v2, v3, v4, v5, M => fun  hf => by
    unfold w_Works_hasField_L9
    exact (mf_and fun _ => (mf_and fun _ => (mf_ite (hQ _ _  (Ow.dn lQ hf)) (mf_and fun _ => (mf_and fun _ => (mf_ite (mf_and fun _ => (mf_and fun _ => (mf_ite (mf_and fun _ => (mf_and fun _ => (mf_ite (mo_w_Works_hasField_j82 hD  lQ hQ (fun _ e => e) (fun y0 y1 y2 y3 y4 y5  hf => mo_w_Works_hasField_L9 hD  lQ hQ n y0 y1 y2 y3 y4 y5  hf) hf) (mo_w_Works_hasField_j81 hD  lQ hQ (fun _ e => e) (fun y0 y1 y2 y3 y4 y5  hf => mo_w_Works_hasField_L9 hD  lQ hQ n y0 y1 y2 y3 y4 y5  hf) hf)))) (mo_w_Works_hasField_j81 hD  lQ hQ (fun _ e => e) (fun y0 y1 y2 y3 y4 y5  hf => mo_w_Works_hasField_L9 hD  lQ hQ n y0 y1 y2 y3 y4 y5  hf) hf)))) (mo_w_Works_hasField_j81 hD  lQ hQ (fun _ e => e) (fun y0 y1 y2 y3 y4 y5  hf => mo_w_Works_hasField_L9 hD  lQ hQ n y0 y1 y2 y3 y4 y5  hf) hf)))))))
set_option maxRecDepth 20000 in
theorem mo_w_Works_hasField {w : Nat} {D : Nat → Nat → Prop} {T : Nat → Prop} {h : Hot} {this : Nat} {a1 : Nat} {a2 : Int32} {a3 : Nat} {a4 : Int32} {Q Q' : Int32 → Mem → Prop} {M : Mem} (hD : Dok w D)  (hQ : ∀ z0 z1, Ow w D T h M z1 → Q z0 z1 → Q' z0 z1) : St w D T h M → w_Works_hasField this a1 a2 a3 a4 Q M → w_Works_hasField this a1 a2 a3 a4 Q' M := by
  intro hs
  unfold w_Works_hasField
  exact (mf_and fun _ => (Exists.imp fun n21 => (mo_w_Works_hasField_L9 hD  (fun _ e => e) hQ _ _ _ _ _ _ _  (Ow.rf hs))))
set_option maxRecDepth 20000 in
theorem mo_w_Works_likeMethod_j87 {w : Nat} {D : Nat → Nat → Prop} {T : Nat → Prop} {h : Hot} {this : Nat} {Q Q' : Int32 → Mem → Prop} {h_Q : Hot} {k9 k9' : Nat → Int32 → Nat → Int32 → Int32 → Mem → Prop} {h_k9 : Hot} {v1 : Nat} {v2 : Int32} {v3 : Nat} {v4 : Int32} {v5 : Int32} {M : Mem} {M0 : Mem} (hD : Dok w D)  (lQ : ∀ t, h_Q t = true → h t = true) (hQ : ∀ z0 z1, Ow w D T h_Q M0 z1 → Q z0 z1 → Q' z0 z1) (lk9 : ∀ t, h_k9 t = true → h t = true) (hk9 : ∀ z0 z1 z2 z3 z4 z5, Ow w D T h_k9 M0 z5 → k9 z0 z1 z2 z3 z4 z5 → k9' z0 z1 z2 z3 z4 z5) : Ow w D T h M0 M → w_Works_likeMethod_j87 this Q k9 v1 v2 v3 v4 v5 M → w_Works_likeMethod_j87 this Q' k9' v1 v2 v3 v4 v5 M := by
  intro hf
  unfold w_Works_likeMethod_j87
  exact (hk9 _ _ _ _ _ _  (Ow.dn lk9 hf))
set_option maxRecDepth 20000 in
theorem mo_w_Works_likeMethod_L9 {w : Nat} {D : Nat → Nat → Prop} {T : Nat → Prop} {h : Hot} {this : Nat} {Q Q' : Int32 → Mem → Prop} {h_Q : Hot} {M0 : Mem} (hD : Dok w D)  (lQ : ∀ t, h_Q t = true → h t = true) (hQ : ∀ z0 z1, Ow w D T h_Q M0 z1 → Q z0 z1 → Q' z0 z1) : ∀ (n : Nat) (v1 : Nat) (v2 : Int32) (v3 : Nat) (v4 : Int32) (v5 : Int32) (M : Mem), Ow w D T h M0 M → w_Works_likeMethod_L9 this Q n v1 v2 v3 v4 v5 M → w_Works_likeMethod_L9 this Q' n v1 v2 v3 v4 v5 M
  | 0, _, _, _, _, _, _ => fun  _ h => h
  | n + 1, v1, v2, v3, v4, v5, M => fun  hf => by
    unfold w_Works_likeMethod_L9
    exact (mf_and fun _ => (mf_and fun _ => (mf_ite (hQ _ _  (Ow.dn lQ hf)) (mf_and fun _ => (mf_and fun _ => (mf_ite (mf_and fun _ => (mf_and fun _ => (mf_ite (mf_and fun _ => (mo_w_World_sameArguments hD  (fun r13 M12 f1 => (have g2 : Ow w D T _ M0 M12 := (Ow.trans hf f1); (mf_ite (mo_w_Works_likeMethod_j87 hD  lQ hQ (fun _ e => e) (fun y0 y1 y2 y3 y4 y5  hf => mo_w_Works_likeMethod_L9 hD  lQ hQ n y0 y1 y2 y3 y4 y5  hf) g2) (hQ _ _  (Ow.dn lQ g2))))) hf.1)) (mo_w_Works_likeMethod_j87 hD  lQ hQ (fun _ e => e) (fun y0 y1 y2 y3 y4 y5  hf => mo_w_Works_likeMethod_L9 hD  lQ hQ n y0 y1 y2 y3 y4 y5  hf) hf)))) (mo_w_Works_likeMethod_j87 hD  lQ hQ (fun _ e => e) (fun y0 y1 y2 y3 y4 y5  hf => mo_w_Works_likeMethod_L9 hD  lQ hQ n y0 y1 y2 y3 y4 y5  hf) hf)))))))
set_option maxRecDepth 20000 in
theorem mo_w_Works_likeMethod {w : Nat} {D : Nat → Nat → Prop} {T : Nat → Prop} {h : Hot} {this : Nat} {a1 : Nat} {a2 : Int32} {a3 : Nat} {a4 : Int32} {Q Q' : Int32 → Mem → Prop} {M : Mem} (hD : Dok w D)  (hQ : ∀ z0 z1, Ow w D T h M z1 → Q z0 z1 → Q' z0 z1) : St w D T h M → w_Works_likeMethod this a1 a2 a3 a4 Q M → w_Works_likeMethod this a1 a2 a3 a4 Q' M := by
  intro hs
  unfold w_Works_likeMethod
  exact (mf_and fun _ => (Exists.imp fun n15 => (mo_w_Works_likeMethod_L9 hD  (fun _ e => e) hQ _ _ _ _ _ _ _  (Ow.rf hs))))
set_option maxRecDepth 20000 in
theorem mo_w_Works_isSameMember_j114 {w : Nat} {D : Nat → Nat → Prop} {T : Nat → Prop} {h : Hot} {this : Nat} {Q Q' : Int32 → Mem → Prop} {h_Q : Hot} {k66 k66' : Nat → Int32 → Nat → Int32 → Int32 → Int32 → Mem → Prop} {h_k66 : Hot} {v1 : Nat} {v2 : Int32} {v3 : Nat} {v4 : Int32} {v6 : Int32} {s0 : Int32} {M : Mem} {M0 : Mem} (hD : Dok w D)  (lQ : ∀ t, h_Q t = true → h t = true) (hQ : ∀ z0 z1, Ow w D T h_Q M0 z1 → Q z0 z1 → Q' z0 z1) (lk66 : ∀ t, h_k66 t = true → h t = true) (hk66 : ∀ z0 z1 z2 z3 z4 z5 z6, Ow w D T h_k66 M0 z6 → k66 z0 z1 z2 z3 z4 z5 z6 → k66' z0 z1 z2 z3 z4 z5 z6) : Ow w D T h M0 M → w_Works_isSameMember_j114 this Q k66 v1 v2 v3 v4 v6 s0 M → w_Works_isSameMember_j114 this Q' k66' v1 v2 v3 v4 v6 s0 M := by
  intro hf
  unfold w_Works_isSameMember_j114
  exact (hk66 _ _ _ _ _ _ _  (Ow.dn lk66 hf))
set_option maxRecDepth 20000 in
theorem mo_w_Works_isSameMember_L66 {w : Nat} {D : Nat → Nat → Prop} {T : Nat → Prop} {h : Hot} {this : Nat} {Q Q' : Int32 → Mem → Prop} {h_Q : Hot} {M0 : Mem} (hD : Dok w D)  (lQ : ∀ t, h_Q t = true → h t = true) (hQ : ∀ z0 z1, Ow w D T h_Q M0 z1 → Q z0 z1 → Q' z0 z1) : ∀ (n : Nat) (v1 : Nat) (v2 : Int32) (v3 : Nat) (v4 : Int32) (v5 : Int32) (v6 : Int32) (M : Mem), Ow w D T h M0 M → w_Works_isSameMember_L66 this Q n v1 v2 v3 v4 v5 v6 M → w_Works_isSameMember_L66 this Q' n v1 v2 v3 v4 v5 v6 M
  | 0, _, _, _, _, _, _, _ => fun  _ h => h
  | n + 1, v1, v2, v3, v4, v5, v6, M => fun  hf => by
    unfold w_Works_isSameMember_L66
    exact (mo_w_World_refArguments hD  (fun r22 M21 f1 => (have g2 : Ow w D T _ M0 M21 := (Ow.trans hf f1); (mf_ite (mf_and fun _ => (hQ _ _  (Ow.dn lQ g2))) (mf_ite (mf_and fun _ => (hQ _ _  (Ow.dn lQ g2))) (mf_and fun _ => (mf_and fun _ => (mf_ite (mo_w_Works_isSameMember_j114 hD  lQ hQ (fun _ e => e) (fun y0 y1 y2 y3 y4 y5 y6  hf => mo_w_Works_isSameMember_L66 hD  lQ hQ n y0 y1 y2 y3 y4 y5 y6  hf) g2) (mo_w_Works_isSameMember_j114 hD  lQ hQ (fun _ e => e) (fun y0 y1 y2 y3 y4 y5 y6  hf => mo_w_Works_isSameMember_L66 hD  lQ hQ n y0 y1 y2 y3 y4 y5 y6  hf) g2)))))))) hf.1)
set_option maxRecDepth 20000 in
theorem mo_w_Works_isSameMember_j61 {w : Nat} {D : Nat → Nat → Prop} {T : Nat → Prop} {h : Hot} {this : Nat} {Q Q' : Int32 → Mem → Prop} {h_Q : Hot} {v1 : Nat} {v2 : Int32} {v3 : Nat} {v4 : Int32} {s0 : Int32} {M : Mem} {M0 : Mem} (hD : Dok w D)  (lQ : ∀ t, h_Q t = true → h t = true) (hQ : ∀ z0 z1, Ow w D T h_Q M0 z1 → Q z0 z1 → Q' z0 z1) : Ow w D T h M0 M → w_Works_isSameMember_j61 this Q v1 v2 v3 v4 s0 M → w_Works_isSameMember_j61 this Q' v1 v2 v3 v4 s0 M := by
  intro hf
  unfold w_Works_isSameMember_j61
  exact (Exists.imp fun n28 => (mo_w_Works_isSameMember_L66 hD  lQ hQ _ _ _ _ _ _ _ _  hf))
set_option maxRecDepth 20000 in
theorem mo_w_Works_isSameMember_j60 {w : Nat} {D : Nat → Nat → Prop} {T : Nat → Prop} {h : Hot} {this : Nat} {Q Q' : Int32 → Mem → Prop} {h_Q : Hot} {v1 : Nat} {v2 : Int32} {v3 : Nat} {v4 : Int32} {M : Mem} {M0 : Mem} (hD : Dok w D)  (lQ : ∀ t, h_Q t = true → h t = true) (hQ : ∀ z0 z1, Ow w D T h_Q M0 z1 → Q z0 z1 → Q' z0 z1) : Ow w D T h M0 M → w_Works_isSameMember_j60 this Q v1 v2 v3 v4 M → w_Works_isSameMember_j60 this Q' v1 v2 v3 v4 M := by
  intro hf
  unfold w_Works_isSameMember_j60
  exact (mo_w_Works_isSameMember_j61 hD  lQ hQ hf)
set_option maxRecDepth 20000 in
theorem mo_w_Works_isSameMember {w : Nat} {D : Nat → Nat → Prop} {T : Nat → Prop} {h : Hot} {this : Nat} {a1 : Nat} {a2 : Int32} {a3 : Nat} {a4 : Int32} {Q Q' : Int32 → Mem → Prop} {M : Mem} (hD : Dok w D)  (hQ : ∀ z0 z1, Ow w D T h M z1 → Q z0 z1 → Q' z0 z1) : St w D T h M → w_Works_isSameMember this a1 a2 a3 a4 Q M → w_Works_isSameMember this a1 a2 a3 a4 Q' M := by
  intro hs
  unfold w_Works_isSameMember
  exact (mo_w_World_refClass hD  (fun r2 M1 f1 => (have g2 : Ow w D T _ M M1 := (Ow.trans (Ow.rf hs) f1); (mo_w_World_refClass hD  (fun r4 M3 f3 => (have g4 : Ow w D T _ M M3 := (Ow.trans g2 f3); (mf_ite (mo_w_World_refName hD  (fun r7 M6 f5 => (have g6 : Ow w D T _ M M6 := (Ow.trans g4 f5); (mo_w_World_refName hD  (fun r9 M8 f7 => (have g8 : Ow w D T _ M M8 := (Ow.trans g6 f7); (mf_ite (mo_w_World_refType hD  (fun r12 M11 f9 => (have g10 : Ow w D T _ M M11 := (Ow.trans g8 f9); (mo_w_World_refType hD  (fun r14 M13 f11 => (have g12 : Ow w D T _ M M13 := (Ow.trans g10 f11); (mf_ite (mo_w_World_refArguments hD  (fun r17 M16 f13 => (have g14 : Ow w D T _ M M16 := (Ow.trans g12 f13); (mo_w_World_refArguments hD  (fun r19 M18 f15 => (have g16 : Ow w D T _ M M18 := (Ow.trans g14 f15); (mf_ite (mo_w_Works_isSameMember_j61 hD  (fun _ e => e) hQ g16) (mo_w_Works_isSameMember_j60 hD  (fun _ e => e) hQ g16)))) g14.1))) g12.1) (mo_w_Works_isSameMember_j60 hD  (fun _ e => e) hQ g12)))) g10.1))) g8.1) (mo_w_Works_isSameMember_j60 hD  (fun _ e => e) hQ g8)))) g6.1))) g4.1) (mo_w_Works_isSameMember_j60 hD  (fun _ e => e) hQ g4)))) g2.1))) (Ow.rf hs).1)
set_option maxRecDepth 20000 in
theorem mo_w_Works_isAlike_L248 {w : Nat} {D : Nat → Nat → Prop} {T : Nat → Prop} {h : Hot} {this : Nat} {Q Q' : Int32 → Mem → Prop} {h_Q : Hot} {M0 : Mem} (hD : Dok w D)  (lQ : ∀ t, h_Q t = true → h t = true) (hQ : ∀ z0 z1, Ow w D T h_Q M0 z1 → Q z0 z1 → Q' z0 z1) : ∀ (n : Nat) (v1 : Nat) (v2 : Int32) (v3 : Nat) (v4 : Int32) (v5 : Int32) (v6 : Int32) (M : Mem), Ow w D T h M0 M → w_Works_isAlike_L248 this Q n v1 v2 v3 v4 v5 v6 M → w_Works_isAlike_L248 this Q' n v1 v2 v3 v4 v5 v6 M
  | 0, _, _, _, _, _, _, _ => fun  _ h => h
  | n + 1, v1, v2, v3, v4, v5, v6, M => fun  hf => by
    unfold w_Works_isAlike_L248
    exact (mf_ite (mf_and fun _ => (mf_ite (hQ _ _  (Ow.dn lQ hf)) (mf_and fun _ => (mf_and fun _ => (mf_and fun _ => (mf_and fun _ => (mf_ite (mo_w_Works_isAlike_L248 hD  lQ hQ _ _ _ _ _ _ _ _  hf) (hQ _ _  (Ow.dn lQ hf))))))))) (hQ _ _  (Ow.dn lQ hf)))
set_option maxRecDepth 20000 in
theorem mo_w_Works_isAlike_j227 {w : Nat} {D : Nat → Nat → Prop} {T : Nat → Prop} {h : Hot} {this : Nat} {Q Q' : Int32 → Mem → Prop} {h_Q : Hot} {v1 : Nat} {v2 : Int32} {v3 : Nat} {v4 : Int32} {v5 : Int32} {M : Mem} {M0 : Mem} (hD : Dok w D)  (lQ : ∀ t, h_Q t = true → h t = true) (hQ : ∀ z0 z1, Ow w D T h_Q M0 z1 → Q z0 z1 → Q' z0 z1) : Ow w D T h M0 M → w_Works_isAlike_j227 this Q v1 v2 v3 v4 v5 M → w_Works_isAlike_j227 this Q' v1 v2 v3 v4 v5 M := by
  intro hf
  unfold w_Works_isAlike_j227
  exact (mf_and fun _ => (mf_and fun _ => (mf_ite (Exists.imp fun n38 => (mo_w_Works_isAlike_L248 hD  lQ hQ _ _ _ _ _ _ _ _  hf)) (hQ _ _  (Ow.dn lQ hf)))))
set_option maxRecDepth 20000 in
theorem mo_w_Works_isAlike_j156 {w : Nat} {D : Nat → Nat → Prop} {T : Nat → Prop} {h : Hot} {this : Nat} {Q Q' : Int32 → Mem → Prop} {h_Q : Hot} {v1 : Nat} {v2 : Int32} {v3 : Nat} {v4 : Int32} {v5 : Int32} {M : Mem} {M0 : Mem} (hD : Dok w D)  (lQ : ∀ t, h_Q t = true → h t = true) (hQ : ∀ z0 z1, Ow w D T h_Q M0 z1 → Q z0 z1 → Q' z0 z1) : Ow w D T h M0 M → w_Works_isAlike_j156 this Q v1 v2 v3 v4 v5 M → w_Works_isAlike_j156 this Q' v1 v2 v3 v4 v5 M := by
  intro hf
  unfold w_Works_isAlike_j156
  exact (mo_w_Works_isIn hD  (fun r18 M17 f1 => (have g2 : Ow w D T _ M0 M17 := (Ow.trans hf f1); (mf_ite (mf_and fun _ => (mf_and fun _ => (mf_ite (mf_ite (mf_and fun _ => (mf_and fun _ => (mf_ite (mo_w_Works_isAlike_j227 hD  lQ hQ g2) (hQ _ _  (Ow.dn lQ g2))))) (mo_w_Works_isAlike_j227 hD  lQ hQ g2)) (hQ _ _  (Ow.dn lQ g2))))) (mf_and fun _ => (mf_and fun _ => (mo_w_Works_isSameMember hD  (fun r42 M41 f3 => (have g4 : Ow w D T _ M0 M41 := (Ow.trans g2 f3); (mf_and fun _ => (hQ _ _  (Ow.dn lQ g4))))) g2.1)))))) hf.1)
set_option maxRecDepth 20000 in
theorem mo_w_Works_isAlike_L89 {w : Nat} {D : Nat → Nat → Prop} {T : Nat → Prop} {h : Hot} {this : Nat} {Q Q' : Int32 → Mem → Prop} {h_Q : Hot} {M0 : Mem} (hD : Dok w D)  (lQ : ∀ t, h_Q t = true → h t = true) (hQ : ∀ z0 z1, Ow w D T h_Q M0 z1 → Q z0 z1 → Q' z0 z1) : ∀ (n : Nat) (v1 : Nat) (v2 : Int32) (v3 : Nat) (v4 : Int32) (v5 : Int32) (v6 : Int32) (M : Mem), Ow w D T h M0 M → w_Works_isAlike_L89 this Q n v1 v2 v3 v4 v5 v6 M → w_Works_isAlike_L89 this Q' n v1 v2 v3 v4 v5 v6 M
  | 0, _, _, _, _, _, _, _ => fun  _ h => h
  | n + 1, v1, v2, v3, v4, v5, v6, M => fun  hf => by
    unfold w_Works_isAlike_L89
    exact (mf_and fun _ => (mf_ite (mo_w_Works_isAlike_j156 hD  lQ hQ hf) (mf_and fun _ => (mf_and fun _ => (mf_ite (mo_w_Works_isAlike_j156 hD  lQ hQ hf) (mf_and fun _ => (mf_and fun _ => (mf_and fun _ => (mf_and fun _ => (mf_ite (mo_w_Works_isAlike_L89 hD  lQ hQ _ _ _ _ _ _ _ _  hf) (hQ _ _  (Ow.dn lQ hf))))))))))))
set_option maxRecDepth 20000 in
theorem mo_w_Works_isAlike_j49 {w : Nat} {D : Nat → Nat → Prop} {T : Nat → Prop} {h : Hot} {this : Nat} {Q Q' : Int32 → Mem → Prop} {h_Q : Hot} {v1 : Nat} {v2 : Int32} {v3 : Nat} {v4 : Int32} {v5 : Int32} {s0 : Int32} {s1 : Int32} {M : Mem} {M0 : Mem} (hD : Dok w D)  (lQ : ∀ t, h_Q t = true → h t = true) (hQ : ∀ z0 z1, Ow w D T h_Q M0 z1 → Q z0 z1 → Q' z0 z1) : Ow w D T h M0 M → w_Works_isAlike_j49 this Q v1 v2 v3 v4 v5 s0 s1 M → w_Works_isAlike_j49 this Q' v1 v2 v3 v4 v5 s0 s1 M := by
  intro hf
  unfold w_Works_isAlike_j49
  exact (mf_ite (mf_and fun _ => (mf_and fun _ => (mf_ite (mf_and fun _ => (mf_and fun _ => (mf_ite (Exists.imp fun n51 => (mo_w_Works_isAlike_L89 hD  lQ hQ _ _ _ _ _ _ _ _  hf)) (hQ _ _  (Ow.dn lQ hf))))) (hQ _ _  (Ow.dn lQ hf))))) (hQ _ _  (Ow.dn lQ hf)))
set_option maxRecDepth 20000 in
theorem mo_w_Works_isAlike_j34 {w : Nat} {D : Nat → Nat → Prop} {T : Nat → Prop} {h : Hot} {this : Nat} {Q Q' : Int32 → Mem → Prop} {h_Q : Hot} {v1 : Nat} {v2 : Int32} {v3 : Nat} {v4 : Int32} {v5 : Int32} {s0 : Int32} {M : Mem} {M0 : Mem} (hD : Dok w D)  (lQ : ∀ t, h_Q t = true → h t = true) (hQ : ∀ z0 z1, Ow w D T h_Q M0 z1 → Q z0 z1 → Q' z0 z1) : Ow w D T h M0 M → w_Works_isAlike_j34 this Q v1 v2 v3 v4 v5 s0 M → w_Works_isAlike_j34 this Q' v1 v2 v3 v4 v5 s0 M := by
  intro hf
  unfold w_Works_isAlike_j34
  exact (mf_and fun _ => (mf_ite (mo_w_Works_isAlike_j49 hD  lQ hQ hf) (mo_w_Works_isAlike_j49 hD  lQ hQ hf)))
set_option maxRecDepth 20000 in
theorem mo_w_Works_isAlike {w : Nat} {D : Nat → Nat → Prop} {T : Nat → Prop} {h : Hot} {this : Nat} {a1 : Nat} {a2 : Int32} {a3 : Nat} {a4 : Int32} {Q Q' : Int32 → Mem → Prop} {M : Mem} (hD : Dok w D)  (hQ : ∀ z0 z1, Ow w D T h M z1 → Q z0 z1 → Q' z0 z1) : St w D T h M → w_Works_isAlike this a1 a2 a3 a4 Q M → w_Works_isAlike this a1 a2 a3 a4 Q' M := by
  intro hs
  unfold w_Works_isAlike
  exact (mf_and fun _ => (mf_and fun _ => (mf_ite (mf_and fun _ => (mf_ite (mo_w_Works_isAlike_j34 hD  (fun _ e => e) hQ (Ow.rf hs)) (mo_w_Works_isAlike_j34 hD  (fun _ e => e) hQ (Ow.rf hs)))) (hQ _ _  (Ow.rf hs)))))
set_option maxRecDepth 20000 in
theorem mo_w_Works_isWrittenAlike_j201 {w : Nat} {D : Nat → Nat → Prop} {T : Nat → Prop} {h : Hot} {this : Nat} {Q Q' : Int32 → Mem → Prop} {h_Q : Hot} {k142 k142' : Nat → Int32 → Nat → Int32 → Int32 → Int32 → Mem → Prop} {h_k142 : Hot} {v1 : Nat} {v2 : Int32} {v3 : Nat} {v4 : Int32} {v6 : Int32} {s0 : Int32} {M : Mem} {M0 : Mem} (hD : Dok w D)  (lQ : ∀ t, h_Q t = true → h t = true) (hQ : ∀ z0 z1, Ow w D T h_Q M0 z1 → Q z0 z1 → Q' z0 z1) (lk142 : ∀ t, h_k142 t = true → h t = true) (hk142 : ∀ z0 z1 z2 z3 z4 z5 z6, Ow w D T h_k142 M0 z6 → k142 z0 z1 z2 z3 z4 z5 z6 → k142' z0 z1 z2 z3 z4 z5 z6) : Ow w D T h M0 M → w_Works_isWrittenAlike_j201 this Q k142 v1 v2 v3 v4 v6 s0 M → w_Works_isWrittenAlike_j201 this Q' k142' v1 v2 v3 v4 v6 s0 M := by
  intro hf
  unfold w_Works_isWrittenAlike_j201
  exact (hk142 _ _ _ _ _ _ _  (Ow.dn lk142 hf))
set_option maxRecDepth 20000 in
theorem mo_w_Works_isWrittenAlike_L142 {w : Nat} {D : Nat → Nat → Prop} {T : Nat → Prop} {h : Hot} {this : Nat} {Q Q' : Int32 → Mem → Prop} {h_Q : Hot} {M0 : Mem} (hD : Dok w D)  (lQ : ∀ t, h_Q t = true → h t = true) (hQ : ∀ z0 z1, Ow w D T h_Q M0 z1 → Q z0 z1 → Q' z0 z1) : ∀ (n : Nat) (v1 : Nat) (v2 : Int32) (v3 : Nat) (v4 : Int32) (v5 : Int32) (v6 : Int32) (M : Mem), Ow w D T h M0 M → w_Works_isWrittenAlike_L142 this Q n v1 v2 v3 v4 v5 v6 M → w_Works_isWrittenAlike_L142 this Q' n v1 v2 v3 v4 v5 v6 M
  | 0, _, _, _, _, _, _, _ => fun  _ h => h
  | n + 1, v1, v2, v3, v4, v5, v6, M => fun  hf => by
    unfold w_Works_isWrittenAlike_L142
    exact (mf_and fun _ => (mf_ite (mf_and fun _ => (hQ _ _  (Ow.dn lQ hf))) (mf_ite (mf_and fun _ => (hQ _ _  (Ow.dn lQ hf))) (mf_and fun _ => (mf_and fun _ => (mf_and fun _ => (mf_and fun _ => (mf_ite (mo_w_Works_isWrittenAlike_j201 hD  lQ hQ (fun _ e => e) (fun y0 y1 y2 y3 y4 y5 y6  hf => mo_w_Works_isWrittenAlike_L142 hD  lQ hQ n y0 y1 y2 y3 y4 y5 y6  hf) hf) (mo_w_Works_isWrittenAlike_j201 hD  lQ hQ (fun _ e => e) (fun y0 y1 y2 y3 y4 y5 y6  hf => mo_w_Works_isWrittenAlike_L142 hD  lQ hQ n y0 y1 y2 y3 y4 y5 y6  hf) hf)))))))))
set_option maxRecDepth 20000 in
theorem mo_w_Works_isWrittenAlike_j139 {w : Nat} {D : Nat → Nat → Prop} {T : Nat → Prop} {h : Hot} {this : Nat} {Q Q' : Int32 → Mem → Prop} {h_Q : Hot} {v1 : Nat} {v2 : Int32} {v3 : Nat} {v4 : Int32} {v5 : Int32} {M : Mem} {M0 : Mem} (hD : Dok w D)  (lQ : ∀ t, h_Q t = true → h t = true) (hQ : ∀ z0 z1, Ow w D T h_Q M0 z1 → Q z0 z1 → Q' z0 z1) : Ow w D T h M0 M → w_Works_isWrittenAlike_j139 this Q v1 v2 v3 v4 v5 M → w_Works_isWrittenAlike_j139 this Q' v1 v2 v3 v4 v5 M := by
  intro hf
  unfold w_Works_isWrittenAlike_j139
  exact (Exists.imp fun n26 => (mo_w_Works_isWrittenAlike_L142 hD  lQ hQ _ _ _ _ _ _ _ _  hf))
set_option maxRecDepth 20000 in
theorem mo_w_Works_isWrittenAlike_L90 {w : Nat} {D : Nat → Nat → Prop} {T : Nat → Prop} {h : Hot} {this : Nat} {Q Q' : Int32 → Mem → Prop} {h_Q : Hot} {M0 : Mem} (hD : Dok w D)  (lQ : ∀ t, h_Q t = true → h t = true) (hQ : ∀ z0 z1, Ow w D T h_Q M0 z1 → Q z0 z1 → Q' z0 z1) : ∀ (n : Nat) (v1 : Nat) (v2 : Int32) (v3 : Nat) (v4 : Int32) (v5 : Int32) (v6 : Int32) (M : Mem), Ow w D T h M0 M → w_Works_isWrittenAlike_L90 this Q n v1 v2 v3 v4 v5 v6 M → w_Works_isWrittenAlike_L90 this Q' n v1 v2 v3 v4 v5 v6 M
  | 0, _, _, _, _, _, _, _ => fun  _ h => h
  | n + 1, v1, v2, v3, v4, v5, v6, M => fun  hf => by
    unfold w_Works_isWrittenAlike_L90
    exact (mf_and fun _ => (mf_ite (mo_w_Works_isWrittenAlike_j139 hD  lQ hQ hf) (mf_ite (mo_w_Works_isWrittenAlike_j139 hD  lQ hQ hf) (mf_and fun _ => (mf_and fun _ => (mo_w_Works_isAlike hD  (fun r31 M30 f1 => (have g2 : Ow w D T _ M0 M30 := (Ow.trans hf f1); (mo_w_Works_isWrittenAlike_L90 hD  lQ hQ _ _ _ _ _ _ _ _  g2))) hf.1))))))
set_option maxRecDepth 20000 in
theorem mo_w_Works_isWrittenAlike_j85 {w : Nat} {D : Nat → Nat → Prop} {T : Nat → Prop} {h : Hot} {this : Nat} {Q Q' : Int32 → Mem → Prop} {h_Q : Hot} {v1 : Nat} {v2 : Int32} {v3 : Nat} {v4 : Int32} {s0 : Int32} {M : Mem} {M0 : Mem} (hD : Dok w D)  (lQ : ∀ t, h_Q t = true → h t = true) (hQ : ∀ z0 z1, Ow w D T h_Q M0 z1 → Q z0 z1 → Q' z0 z1) : Ow w D T h M0 M → w_Works_isWrittenAlike_j85 this Q v1 v2 v3 v4 s0 M → w_Works_isWrittenAlike_j85 this Q' v1 v2 v3 v4 s0 M := by
  intro hf
  unfold w_Works_isWrittenAlike_j85
  exact (Exists.imp fun n32 => (mo_w_Works_isWrittenAlike_L90 hD  lQ hQ _ _ _ _ _ _ _ _  hf))
set_option maxRecDepth 20000 in
theorem mo_w_Works_isWrittenAlike_j84 {w : Nat} {D : Nat → Nat → Prop} {T : Nat → Prop} {h : Hot} {this : Nat} {Q Q' : Int32 → Mem → Prop} {h_Q : Hot} {v1 : Nat} {v2 : Int32} {v3 : Nat} {v4 : Int32} {M : Mem} {M0 : Mem} (hD : Dok w D)  (lQ : ∀ t, h_Q t = true → h t = true) (hQ : ∀ z0 z1, Ow w D T h_Q M0 z1 → Q z0 z1 → Q' z0 z1) : Ow w D T h M0 M → w_Works_isWrittenAlike_j84 this Q v1 v2 v3 v4 M → w_Works_isWrittenAlike_j84 this Q' v1 v2 v3 v4 M := by
  intro hf
  unfold w_Works_isWrittenAlike_j84
  exact (mo_w_Works_isWrittenAlike_j85 hD  lQ hQ hf)
set_option maxRecDepth 20000 in
theorem mo_w_Works_isWrittenAlike {w : Nat} {D : Nat → Nat → Prop} {T : Nat → Prop} {h : Hot} {this : Nat} {a1 : Nat} {a2 : Int32} {a3 : Nat} {a4 : Int32} {Q Q' : Int32 → Mem → Prop} {M : Mem} (hD : Dok w D)  (hQ : ∀ z0 z1, Ow w D T h M z1 → Q z0 z1 → Q' z0 z1) : St w D T h M → w_Works_isWrittenAlike this a1 a2 a3 a4 Q M → w_Works_isWrittenAlike this a1 a2 a3 a4 Q' M := by
  intro hs
  unfold w_Works_isWrittenAlike
  exact (mf_and fun _ => (mf_and fun _ => (mf_ite (mf_and fun _ => (mf_and fun _ => (mf_ite (mf_and fun _ => (mf_and fun _ => (mf_ite (mf_and fun _ => (mf_and fun _ => (mf_ite (mf_and fun _ => (mf_and fun _ => (mf_ite (mo_w_Works_isWrittenAlike_j85 hD  (fun _ e => e) hQ (Ow.rf hs)) (mo_w_Works_isWrittenAlike_j84 hD  (fun _ e => e) hQ (Ow.rf hs))))) (mo_w_Works_isWrittenAlike_j84 hD  (fun _ e => e) hQ (Ow.rf hs))))) (mo_w_Works_isWrittenAlike_j84 hD  (fun _ e => e) hQ (Ow.rf hs))))) (mo_w_Works_isWrittenAlike_j84 hD  (fun _ e => e) hQ (Ow.rf hs))))) (mo_w_Works_isWrittenAlike_j84 hD  (fun _ e => e) hQ (Ow.rf hs)))))
set_option maxRecDepth 20000 in
theorem mo_w_Works_differ_j174 {w : Nat} {D : Nat → Nat → Prop} {T : Nat → Prop} {h : Hot} {this : Nat} {Q Q' : Int32 → Mem → Prop} {h_Q : Hot} {v8 : Int32} {M : Mem} {M0 : Mem} (hD : Dok w D)  (lQ : ∀ t, h_Q t = true → h t = true) (hQ : ∀ z0 z1, Ow w D T h_Q M0 z1 → Q z0 z1 → Q' z0 z1) : Ow w D T h M0 M → w_Works_differ_j174 this Q v8 M → w_Works_differ_j174 this Q' v8 M := by
  intro hf
  unfold w_Works_differ_j174
  exact (mf_ite (hQ _ _  (Ow.dn lQ hf)) (hQ _ _  (Ow.dn lQ hf)))
set_option maxRecDepth 20000 in
theorem mo_w_Works_differ_j166 {w : Nat} {D : Nat → Nat → Prop} {T : Nat → Prop} {h : Hot} {this : Nat} {Q Q' : Int32 → Mem → Prop} {h_Q : Hot} {k116 k116' : Int32 → Int32 → Nat → Nat → Int32 → Int32 → Mem → Prop} {h_k116 : Hot} {v2 : Int32} {v4 : Int32} {v6 : Nat} {v7 : Nat} {v9 : Int32} {s0 : Int32} {M : Mem} {M0 : Mem} (hD : Dok w D)  (lQ : ∀ t, h_Q t = true → h t = true) (hQ : ∀ z0 z1, Ow w D T h_Q M0 z1 → Q z0 z1 → Q' z0 z1) (lk116 : ∀ t, h_k116 t = true → h t = true) (hk116 : ∀ z0 z1 z2 z3 z4 z5 z6, Ow w D T h_k116 M0 z6 → k116 z0 z1 z2 z3 z4 z5 z6 → k116' z0 z1 z2 z3 z4 z5 z6) : Ow w D T h M0 M → w_Works_differ_j166 this Q k116 v2 v4 v6 v7 v9 s0 M → w_Works_differ_j166 this Q' k116' v2 v4 v6 v7 v9 s0 M := by
  intro hf
  unfold w_Works_differ_j166
  exact (hk116 _ _ _ _ _ _ _  (Ow.dn lk116 hf))
set_option maxRecDepth 20000 in
theorem mo_w_Works_differ_L116 {w : Nat} {D : Nat → Nat → Prop} {T : Nat → Prop} {h : Hot} {this : Nat} {Q Q' : Int32 → Mem → Prop} {h_Q : Hot} {M0 : Mem} (hD : Dok w D)  (lQ : ∀ t, h_Q t = true → h t = true) (hQ : ∀ z0 z1, Ow w D T h_Q M0 z1 → Q z0 z1 → Q' z0 z1) : ∀ (n : Nat) (v2 : Int32) (v4 : Int32) (v6 : Nat) (v7 : Nat) (v8 : Int32) (v9 : Int32) (M : Mem), Ow w D T h M0 M → w_Works_differ_L116 this Q n v2 v4 v6 v7 v8 v9 M → w_Works_differ_L116 this Q' n v2 v4 v6 v7 v8 v9 M
  | 0, _, _, _, _, _, _, _ => fun  _ h => h
  | n + 1, v2, v4, v6, v7, v8, v9, M => fun  hf => by
    unfold w_Works_differ_L116
    exact (mf_and fun _ => (mf_ite (mo_w_Works_differ_j174 hD  lQ hQ hf) (mf_ite (mo_w_Works_differ_j174 hD  lQ hQ hf) (mf_and fun _ => (mf_and fun _ => (mf_ite (mo_w_Works_differ_j166 hD  lQ hQ (fun _ e => e) (fun y0 y1 y2 y3 y4 y5 y6  hf => mo_w_Works_differ_L116 hD  lQ hQ n y0 y1 y2 y3 y4 y5 y6  hf) hf) (mo_w_Works_differ_j166 hD  lQ hQ (fun _ e => e) (fun y0 y1 y2 y3 y4 y5 y6  hf => mo_w_Works_differ_L116 hD  lQ hQ n y0 y1 y2 y3 y4 y5 y6  hf) hf)))))))
set_option maxRecDepth 20000 in
theorem mo_w_Works_differ_j111 {w : Nat} {D : Nat → Nat → Prop} {T : Nat → Prop} {h : Hot} {this : Nat} {Q Q' : Int32 → Mem → Prop} {h_Q : Hot} {v2 : Int32} {v4 : Int32} {v6 : Nat} {v7 : Nat} {s0 : Int32} {M : Mem} {M0 : Mem} (hD : Dok w D)  (lQ : ∀ t, h_Q t = true → h t = true) (hQ : ∀ z0 z1, Ow w D T h_Q M0 z1 → Q z0 z1 → Q' z0 z1) : Ow w D T h M0 M → w_Works_differ_j111 this Q v2 v4 v6 v7 s0 M → w_Works_differ_j111 this Q' v2 v4 v6 v7 s0 M := by
  intro hf
  unfold w_Works_differ_j111
  exact (Exists.imp fun n31 => (mo_w_Works_differ_L116 hD  lQ hQ _ _ _ _ _ _ _ _  hf))
set_option maxRecDepth 20000 in
theorem mo_w_Works_differ_j110 {w : Nat} {D : Nat → Nat → Prop} {T : Nat → Prop} {h : Hot} {this : Nat} {Q Q' : Int32 → Mem → Prop} {h_Q : Hot} {v2 : Int32} {v4 : Int32} {v6 : Nat} {v7 : Nat} {M : Mem} {M0 : Mem} (hD : Dok w D)  (lQ : ∀ t, h_Q t = true → h t = true) (hQ : ∀ z0 z1, Ow w D T h_Q M0 z1 → Q z0 z1 → Q' z0 z1) : Ow w D T h M0 M → w_Works_differ_j110 this Q v2 v4 v6 v7 M → w_Works_differ_j110 this Q' v2 v4 v6 v7 M := by
  intro hf
  unfold w_Works_differ_j110
  exact (mo_w_Works_differ_j111 hD  lQ hQ hf)
set_option maxRecDepth 20000 in
theorem mo_w_Works_differ_j239 {w : Nat} {D : Nat → Nat → Prop} {T : Nat → Prop} {h : Hot} {this : Nat} {Q Q' : Int32 → Mem → Prop} {h_Q : Hot} {k197 k197' : Int32 → Int32 → Nat → Nat → Int32 → Int32 → Mem → Prop} {h_k197 : Hot} {v2 : Int32} {v4 : Int32} {v6 : Nat} {v7 : Nat} {v9 : Int32} {s0 : Int32} {s1 : Int32} {M : Mem} {M0 : Mem} (hD : Dok w D)  (lQ : ∀ t, h_Q t = true → h t = true) (hQ : ∀ z0 z1, Ow w D T h_Q M0 z1 → Q z0 z1 → Q' z0 z1) (lk197 : ∀ t, h_k197 t = true → h t = true) (hk197 : ∀ z0 z1 z2 z3 z4 z5 z6, Ow w D T h_k197 M0 z6 → k197 z0 z1 z2 z3 z4 z5 z6 → k197' z0 z1 z2 z3 z4 z5 z6) : Ow w D T h M0 M → w_Works_differ_j239 this Q k197 v2 v4 v6 v7 v9 s0 s1 M → w_Works_differ_j239 this Q' k197' v2 v4 v6 v7 v9 s0 s1 M := by
  intro hf
  unfold w_Works_differ_j239
  exact (hk197 _ _ _ _ _ _ _  (Ow.dn lk197 hf))
set_option maxRecDepth 20000 in
theorem mo_w_Works_differ_L197 {w : Nat} {D : Nat → Nat → Prop} {T : Nat → Prop} {h : Hot} {this : Nat} {Q Q' : Int32 → Mem → Prop} {h_Q : Hot} {M0 : Mem} (hD : Dok w D)  (lQ : ∀ t, h_Q t = true → h t = true) (hQ : ∀ z0 z1, Ow w D T h_Q M0 z1 → Q z0 z1 → Q' z0 z1) : ∀ (n : Nat) (v2 : Int32) (v4 : Int32) (v6 : Nat) (v7 : Nat) (v8 : Int32) (v9 : Int32) (M : Mem), Ow w D T h M0 M → w_Works_differ_L197 this Q n v2 v4 v6 v7 v8 v9 M → w_Works_differ_L197 this Q' n v2 v4 v6 v7 v8 v9 M
  | 0, _, _, _, _, _, _, _ => fun  _ h => h
  | n + 1, v2, v4, v6, v7, v8, v9, M => fun  hf => by
    unfold w_Works_differ_L197
    exact (mf_and fun _ => (mf_ite (hQ _ _  (Ow.dn lQ hf)) (mf_and fun _ => (mo_w_Works_hasField hD  (fun r37 M36 f1 => (have g2 : Ow w D T _ M0 M36 := (Ow.trans hf f1); (mf_ite (mo_w_Works_differ_j239 hD  lQ hQ (fun _ e => e) (fun y0 y1 y2 y3 y4 y5 y6  hf => mo_w_Works_differ_L197 hD  lQ hQ n y0 y1 y2 y3 y4 y5 y6  hf) g2) (mo_w_Works_differ_j239 hD  lQ hQ (fun _ e => e) (fun y0 y1 y2 y3 y4 y5 y6  hf => mo_w_Works_differ_L197 hD  lQ hQ n y0 y1 y2 y3 y4 y5 y6  hf) g2)))) hf.1))))
set_option maxRecDepth 20000 in
theorem mo_w_Works_differ_j346 {w : Nat} {D : Nat → Nat → Prop} {T : Nat → Prop} {h : Hot} {this : Nat} {Q Q' : Int32 → Mem → Prop} {h_Q : Hot} {k254 k254' : Int32 → Int32 → Int32 → Nat → Nat → Int32 → Int32 → Mem → Prop} {h_k254 : Hot} {v2 : Int32} {v4 : Int32} {v5 : Int32} {v6 : Nat} {v7 : Nat} {v8 : Int32} {v9 : Int32} {M : Mem} {M0 : Mem} (hD : Dok w D)  (lQ : ∀ t, h_Q t = true → h t = true) (hQ : ∀ z0 z1, Ow w D T h_Q M0 z1 → Q z0 z1 → Q' z0 z1) (lk254 : ∀ t, h_k254 t = true → h t = true) (hk254 : ∀ z0 z1 z2 z3 z4 z5 z6 z7, Ow w D T h_k254 M0 z7 → k254 z0 z1 z2 z3 z4 z5 z6 z7 → k254' z0 z1 z2 z3 z4 z5 z6 z7) : Ow w D T h M0 M → w_Works_differ_j346 this Q k254 v2 v4 v5 v6 v7 v8 v9 M → w_Works_differ_j346 this Q' k254' v2 v4 v5 v6 v7 v8 v9 M := by
  intro hf
  unfold w_Works_differ_j346
  exact (hk254 _ _ _ _ _ _ _ _  (Ow.dn lk254 hf))
set_option maxRecDepth 20000 in
theorem mo_w_Works_differ_j310 {w : Nat} {D : Nat → Nat → Prop} {T : Nat → Prop} {h : Hot} {this : Nat} {Q Q' : Int32 → Mem → Prop} {h_Q : Hot} {k254 k254' : Int32 → Int32 → Int32 → Nat → Nat → Int32 → Int32 → Mem → Prop} {h_k254 : Hot} {v2 : Int32} {v4 : Int32} {v5 : Int32} {v6 : Nat} {v7 : Nat} {v9 : Int32} {s0 : Int32} {s1 : Int32} {M : Mem} {M0 : Mem} (hD : Dok w D)  (lQ : ∀ t, h_Q t = true → h t = true) (hQ : ∀ z0 z1, Ow w D T h_Q M0 z1 → Q z0 z1 → Q' z0 z1) (lk254 : ∀ t, h_k254 t = true → h t = true) (hk254 : ∀ z0 z1 z2 z3 z4 z5 z6 z7, Ow w D T h_k254 M0 z7 → k254 z0 z1 z2 z3 z4 z5 z6 z7 → k254' z0 z1 z2 z3 z4 z5 z6 z7) : Ow w D T h M0 M → w_Works_differ_j310 this Q k254 v2 v4 v5 v6 v7 v9 s0 s1 M → w_Works_differ_j310 this Q' k254' v2 v4 v5 v6 v7 v9 s0 s1 M := by
  intro hf
  unfold w_Works_differ_j310
  exact (mo_w_Works_differ_j346 hD  lQ hQ lk254 hk254 hf)
set_option maxRecDepth 20000 in
theorem mo_w_Works_differ_j343 {w : Nat} {D : Nat → Nat → Prop} {T : Nat → Prop} {h : Hot} {this : Nat} {Q Q' : Int32 → Mem → Prop} {h_Q : Hot} {k254 k254' : Int32 → Int32 → Int32 → Nat → Nat → Int32 → Int32 → Mem → Prop} {h_k254 : Hot} {v2 : Int32} {v4 : Int32} {v5 : Int32} {v6 : Nat} {v7 : Nat} {v9 : Int32} {s0 : Int32} {s1 : Int32} {M : Mem} {M0 : Mem} (hD : Dok w D)  (lQ : ∀ t, h_Q t = true → h t = true) (hQ : ∀ z0 z1, Ow w D T h_Q M0 z1 → Q z0 z1 → Q' z0 z1) (lk254 : ∀ t, h_k254 t = true → h t = true) (hk254 : ∀ z0 z1 z2 z3 z4 z5 z6 z7, Ow w D T h_k254 M0 z7 → k254 z0 z1 z2 z3 z4 z5 z6 z7 → k254' z0 z1 z2 z3 z4 z5 z6 z7) : Ow w D T h M0 M → w_Works_differ_j343 this Q k254 v2 v4 v5 v6 v7 v9 s0 s1 M → w_Works_differ_j343 this Q' k254' v2 v4 v5 v6 v7 v9 s0 s1 M := by
  intro hf
  unfold w_Works_differ_j343
  exact (mo_w_Works_differ_j346 hD  lQ hQ lk254 hk254 hf)
set_option maxRecDepth 20000 in
theorem mo_w_Works_differ_j342 {w : Nat} {D : Nat → Nat → Prop} {T : Nat → Prop} {h : Hot} {this : Nat} {Q Q' : Int32 → Mem → Prop} {h_Q : Hot} {k254 k254' : Int32 → Int32 → Int32 → Nat → Nat → Int32 → Int32 → Mem → Prop} {h_k254 : Hot} {v2 : Int32} {v4 : Int32} {v5 : Int32} {v6 : Nat} {v7 : Nat} {v9 : Int32} {s0 : Int32} {M : Mem} {M0 : Mem} (hD : Dok w D)  (lQ : ∀ t, h_Q t = true → h t = true) (hQ : ∀ z0 z1, Ow w D T h_Q M0 z1 → Q z0 z1 → Q' z0 z1) (lk254 : ∀ t, h_k254 t = true → h t = true) (hk254 : ∀ z0 z1 z2 z3 z4 z5 z6 z7, Ow w D T h_k254 M0 z7 → k254 z0 z1 z2 z3 z4 z5 z6 z7 → k254' z0 z1 z2 z3 z4 z5 z6 z7) : Ow w D T h M0 M → w_Works_differ_j342 this Q k254 v2 v4 v5 v6 v7 v9 s0 M → w_Works_differ_j342 this Q' k254' v2 v4 v5 v6 v7 v9 s0 M := by
  intro hf
  unfold w_Works_differ_j342
  exact (mo_w_Works_differ_j343 hD  lQ hQ lk254 hk254 hf)
set_option maxRecDepth 20000 in
theorem mo_w_Works_differ_L254 {w : Nat} {D : Nat → Nat → Prop} {T : Nat → Prop} {h : Hot} {this : Nat} {Q Q' : Int32 → Mem → Prop} {h_Q : Hot} {M0 : Mem} (hD : Dok w D)  (lQ : ∀ t, h_Q t = true → h t = true) (hQ : ∀ z0 z1, Ow w D T h_Q M0 z1 → Q z0 z1 → Q' z0 z1) : ∀ (n : Nat) (v2 : Int32) (v4 : Int32) (v5 : Int32) (v6 : Nat) (v7 : Nat) (v8 : Int32) (v9 : Int32) (M : Mem), Ow w D T h M0 M → w_Works_differ_L254 this Q n v2 v4 v5 v6 v7 v8 v9 M → w_Works_differ_L254 this Q' n v2 v4 v5 v6 v7 v8 v9 M
  | 0, _, _, _, _, _, _, _, _ => fun  _ h => h
  | n + 1, v2, v4, v5, v6, v7, v8, v9, M => fun  hf => by
    unfold w_Works_differ_L254
    exact (mf_and fun _ => (mf_ite (hQ _ _  (Ow.dn lQ hf)) (mf_and fun _ => (mo_w_Works_likeMethod hD  (fun r44 M43 f1 => (have g2 : Ow w D T _ M0 M43 := (Ow.trans hf f1); (mf_ite (mf_ite (mo_w_Works_differ_j310 hD  lQ hQ (fun _ e => e) (fun y0 y1 y2 y3 y4 y5 y6 y7  hf => mo_w_Works_differ_L254 hD  lQ hQ n y0 y1 y2 y3 y4 y5 y6 y7  hf) g2) (mo_w_Works_differ_j310 hD  lQ hQ (fun _ e => e) (fun y0 y1 y2 y3 y4 y5 y6 y7  hf => mo_w_Works_differ_L254 hD  lQ hQ n y0 y1 y2 y3 y4 y5 y6 y7  hf) g2)) (mf_ite (mo_w_Works_differ_j342 hD  lQ hQ (fun _ e => e) (fun y0 y1 y2 y3 y4 y5 y6 y7  hf => mo_w_Works_differ_L254 hD  lQ hQ n y0 y1 y2 y3 y4 y5 y6 y7  hf) g2) (mo_w_Works_isWrittenAlike hD  (fun r49 M48 f3 => (have g4 : Ow w D T _ M0 M48 := (Ow.trans g2 f3); (mf_ite (mo_w_Works_differ_j343 hD  lQ hQ (fun _ e => e) (fun y0 y1 y2 y3 y4 y5 y6 y7  hf => mo_w_Works_differ_L254 hD  lQ hQ n y0 y1 y2 y3 y4 y5 y6 y7  hf) g4) (mo_w_Works_differ_j342 hD  lQ hQ (fun _ e => e) (fun y0 y1 y2 y3 y4 y5 y6 y7  hf => mo_w_Works_differ_L254 hD  lQ hQ n y0 y1 y2 y3 y4 y5 y6 y7  hf) g4)))) g2.1))))) hf.1))))
set_option maxRecDepth 20000 in
theorem mo_w_Works_differ {w : Nat} {D : Nat → Nat → Prop} {T : Nat → Prop} {h : Hot} {this : Nat} {a1 : Int32} {a2 : Int32} {a3 : Int32} {a4 : Int32} {a5 : Int32} {Q Q' : Int32 → Mem → Prop} {M : Mem} (hD : Dok w D)  (hQ : ∀ z0 z1, Ow w D T h M z1 → Q z0 z1 → Q' z0 z1) : St w D T h M → w_Works_differ this a1 a2 a3 a4 a5 Q M → w_Works_differ this a1 a2 a3 a4 a5 Q' M := by
  intro hs
  unfold w_Works_differ
  exact (mo_w_Works_isClass hD  (fun r2 M1 f1 => (have g2 : Ow w D T _ M M1 := (Ow.trans (Ow.rf hs) f1); (mf_ite (hQ _ _  g2) (mo_w_Works_isClass hD  (fun r5 M4 f3 => (have g4 : Ow w D T _ M M4 := (Ow.trans g2 f3); (mf_ite (hQ _ _  g4) (mo_w_Works_isIn hD  (fun r8 M7 f5 => (have g6 : Ow w D T _ M M7 := (Ow.trans g4 f5); (mf_ite (hQ _ _  g6) (mf_and fun _ => (Exists.imp fun i11 => (mf_and fun e7 => (mf_and fun _ => (Exists.imp fun i13 => (mf_and fun e9 => (mf_ite (mf_and fun _ => (mf_and fun _ => (mf_ite (mf_and fun _ => (mf_and fun _ => (mf_ite (mf_and fun _ => (mf_and fun _ => (mf_ite (mo_w_Works_differ_j111 hD  (fun _ e => e) hQ g6) (mo_w_Works_differ_j110 hD  (fun _ e => e) hQ g6)))) (mo_w_Works_differ_j110 hD  (fun _ e => e) hQ g6)))) (mo_w_Works_differ_j110 hD  (fun _ e => e) hQ g6)))) (mf_ite (Exists.imp fun n39 => (mo_w_Works_differ_L197 hD  (fun _ e => e) hQ _ _ _ _ _ _ _ _  g6)) (Exists.imp fun n51 => (mo_w_Works_differ_L254 hD  (fun _ e => e) hQ _ _ _ _ _ _ _ _ _  g6))))))))))))) g4.1)))) g2.1)))) (Ow.rf hs).1)
set_option maxRecDepth 20000 in
theorem mo_w_Works_comes {w : Nat} {D : Nat → Nat → Prop} {T : Nat → Prop} {h : Hot} {this : Nat} {a1 : Nat} {a2 : Int32} {Q Q' : Mem → Prop} {M : Mem} (hD : Dok w D)  (hQ : ∀ z0, Ow w D T h M z0 → Q z0 → Q' z0) : St w D T h M → w_Works_comes this a1 a2 Q M → w_Works_comes this a1 a2 Q' M := by
  intro hs
  unfold w_Works_comes
  exact (mf_and fun _ => (mf_ite (mf_and fun _ => (mf_and fun _ => (mf_and fun _ => (Exists.imp fun M6 => (mf_and fun e1 => (have g2 : Ow w D T _ M M6 := Ow.of e1 (Ow.wI (ow0 rfl) (Ow.wI (ow0 rfl) (Ow.rf hs))); (mf_and fun _ => (mf_and fun _ => (mf_and fun _ => (Exists.imp fun M10 => (mf_and fun e3 => (have g4 : Ow w D T _ M M10 := Ow.of e3 (Ow.wI (ow0 rfl) g2); (hQ _  (Ow.wI (ow0 rfl) g4)))))))))))))) (hQ _  (Ow.rf hs))))
set_option maxRecDepth 20000 in
theorem mo_w_Works_isBuiltIn {w : Nat} {D : Nat → Nat → Prop} {T : Nat → Prop} {h : Hot} {this : Nat} {a1 : Nat} {a2 : Int32} {Q Q' : Int32 → Mem → Prop} {M : Mem} (hD : Dok w D)  (hQ : ∀ z0 z1, Ow w D T h M z1 → Q z0 z1 → Q' z0 z1) : St w D T h M → w_Works_isBuiltIn this a1 a2 Q M → w_Works_isBuiltIn this a1 a2 Q' M := by
  intro hs
  unfold w_Works_isBuiltIn
  exact (mf_and fun _ => (mf_ite (hQ _ _  (Ow.rf hs)) (hQ _ _  (Ow.rf hs))))
set_option maxRecDepth 20000 in
theorem mo_w_Works_callsOf_j33 {w : Nat} {D : Nat → Nat → Prop} {T : Nat → Prop} {h : Hot} {this : Nat} {Q Q' : Mem → Prop} {h_Q : Hot} {v1 : Nat} {v3 : Int32} {M : Mem} {M0 : Mem} (hD : Dok w D)  (lQ : ∀ t, h_Q t = true → h t = true) (hQ : ∀ z0, Ow w D T h_Q M0 z0 → Q z0 → Q' z0) : Ow w D T h M0 M → w_Works_callsOf_j33 this Q v1 v3 M → w_Works_callsOf_j33 this Q' v1 v3 M := by
  intro hf
  unfold w_Works_callsOf_j33
  exact (mo_w_Works_isBuiltIn hD  (fun r4 M3 f1 => (have g2 : Ow w D T _ M0 M3 := (Ow.trans hf f1); (mf_ite (mo_w_Works_comes hD  (fun M6 f3 => (have g4 : Ow w D T _ M0 M6 := (Ow.trans g2 f3); (hQ _  (Ow.dn lQ g4)))) g2.1) (hQ _  (Ow.dn lQ g2))))) hf.1)
set_option maxRecDepth 20000 in
theorem mo_w_Works_callsOf_j165 {w : Nat} {D : Nat → Nat → Prop} {T : Nat → Prop} {h : Hot} {this : Nat} {Q Q' : Mem → Prop} {h_Q : Hot} {k69 k69' : Nat → Int32 → Int32 → Int32 → Mem → Prop} {h_k69 : Hot} {v1 : Nat} {v2 : Int32} {v5 : Int32} {v6 : Int32} {M : Mem} {M0 : Mem} (hD : Dok w D) (n0 : ow w D 5 v1) (lQ : ∀ t, h_Q t = true → h t = true) (hQ : ∀ z0, Ow w D T h_Q M0 z0 → Q z0 → Q' z0) (lk69 : ∀ t, h_k69 t = true → h t = true) (hk69 : ∀ z0 z1 z2 z3 z4, ow w D 5 z0 → Ow w D T h_k69 M0 z4 → k69 z0 z1 z2 z3 z4 → k69' z0 z1 z2 z3 z4) : Ow w D T h M0 M → w_Works_callsOf_j165 this Q k69 v1 v2 v5 v6 M → w_Works_callsOf_j165 this Q' k69' v1 v2 v5 v6 M := by
  intro hf
  unfold w_Works_callsOf_j165
  exact (hk69 _ _ _ _ _ n0 (Ow.dn lk69 hf))
set_option maxRecDepth 20000 in
theorem mo_w_Works_callsOf_L69 {w : Nat} {D : Nat → Nat → Prop} {T : Nat → Prop} {h : Hot} {this : Nat} {Q Q' : Mem → Prop} {h_Q : Hot} {M0 : Mem} (hD : Dok w D)  (lQ : ∀ t, h_Q t = true → h t = true) (hQ : ∀ z0, Ow w D T h_Q M0 z0 → Q z0 → Q' z0) : ∀ (n : Nat) (v1 : Nat) (v2 : Int32) (v5 : Int32) (v6 : Int32) (M : Mem), ow w D 5 v1 → Ow w D T h M0 M → w_Works_callsOf_L69 this Q n v1 v2 v5 v6 M → w_Works_callsOf_L69 this Q' n v1 v2 v5 v6 M
  | 0, _, _, _, _, _ => fun _ _ h => h
  | n + 1, v1, v2, v5, v6, M => fun m0 hf => by
    unfold w_Works_callsOf_L69
    exact (mf_ite (hQ _  (Ow.dn lQ hf)) (mf_and fun _ => (mf_ite (mo_w_World_isBelow hD m0 (fun r19 M18 f1 => (have g2 : Ow w D T _ M0 M18 := (Ow.trans hf f1); (mf_ite (mo_w_Works_callsOf_j165 hD m0 lQ hQ (fun _ e => e) (fun y0 y1 y2 y3 y4 u0 hf => mo_w_Works_callsOf_L69 hD  lQ hQ n y0 y1 y2 y3 y4 u0 hf) g2) (mo_w_World_link hD (ow.to m0 rfl rfl) (fun r22 M21 f3 => (have g4 : Ow w D T _ M0 M21 := (Ow.trans g2 f3); (mf_ite (mf_and fun _ => (mo_w_World_method hD m0 (fun r26 M25 f5 => (have g6 : Ow w D T _ M0 M25 := (Ow.trans g4 f5); (mf_ite (mo_w_Works_callsOf_j165 hD m0 lQ hQ (fun _ e => e) (fun y0 y1 y2 y3 y4 u0 hf => mo_w_Works_callsOf_L69 hD  lQ hQ n y0 y1 y2 y3 y4 u0 hf) g6) (mf_and fun _ => (mf_ite (mo_w_Works_isBuiltIn hD  (fun r31 M30 f7 => (have g8 : Ow w D T _ M0 M30 := (Ow.trans g6 f7); (mf_ite (mo_w_Works_comes hD  (fun M33 f9 => (have g10 : Ow w D T _ M0 M33 := (Ow.trans g8 f9); (mo_w_Works_callsOf_j165 hD m0 lQ hQ (fun _ e => e) (fun y0 y1 y2 y3 y4 u0 hf => mo_w_Works_callsOf_L69 hD  lQ hQ n y0 y1 y2 y3 y4 u0 hf) g10))) g8.1) (mo_w_Works_callsOf_j165 hD m0 lQ hQ (fun _ e => e) (fun y0 y1 y2 y3 y4 u0 hf => mo_w_Works_callsOf_L69 hD  lQ hQ n y0 y1 y2 y3 y4 u0 hf) g8)))) g6.1) (mo_w_Works_callsOf_j165 hD m0 lQ hQ (fun _ e => e) (fun y0 y1 y2 y3 y4 u0 hf => mo_w_Works_callsOf_L69 hD  lQ hQ n y0 y1 y2 y3 y4 u0 hf) g6)))))) g4.1)) (mo_w_Works_callsOf_j165 hD m0 lQ hQ (fun _ e => e) (fun y0 y1 y2 y3 y4 u0 hf => mo_w_Works_callsOf_L69 hD  lQ hQ n y0 y1 y2 y3 y4 u0 hf) g4)))) g2.1)))) hf.1) (mo_w_Works_callsOf_j165 hD m0 lQ hQ (fun _ e => e) (fun y0 y1 y2 y3 y4 u0 hf => mo_w_Works_callsOf_L69 hD  lQ hQ n y0 y1 y2 y3 y4 u0 hf) hf))))
set_option maxRecDepth 20000 in
theorem mo_w_Works_callsOf {w : Nat} {D : Nat → Nat → Prop} {T : Nat → Prop} {h : Hot} {this : Nat} {a1 : Nat} {a2 : Int32} {a3 : Int32} {Q Q' : Mem → Prop} {M : Mem} (hD : Dok w D) (n0 : ow w D 5 a1) (hQ : ∀ z0, Ow w D T h M z0 → Q z0 → Q' z0) : St w D T h M → w_Works_callsOf this a1 a2 a3 Q M → w_Works_callsOf this a1 a2 a3 Q' M := by
  intro hs
  unfold w_Works_callsOf
  exact (mf_and fun _ => (mf_ite (mo_w_Works_callsOf_j33 hD  (fun _ e => e) hQ (Ow.rf hs)) (mf_ite (mo_w_Works_callsOf_j33 hD  (fun _ e => e) hQ (Ow.rf hs)) (mf_and fun _ => (mf_ite (mf_and fun _ => (mo_w_World_refClass hD  (fun r12 M11 f1 => (have g2 : Ow w D T _ M M11 := (Ow.trans (Ow.rf hs) f1); (mo_w_World_find hD  (fun r14 M13 f3 => (have g4 : Ow w D T _ M M13 := (Ow.trans g2 f3); (Exists.imp fun n34 => (mo_w_Works_callsOf_L69 hD  (fun _ e => e) hQ _ _ _ _ _ _ n0 g4)))) g2.1))) (Ow.rf hs).1)) (mo_w_Works_callsOf_j33 hD  (fun _ e => e) hQ (Ow.rf hs)))))))
set_option maxRecDepth 20000 in
theorem mo_w_Works_startsOf_j58 {w : Nat} {D : Nat → Nat → Prop} {T : Nat → Prop} {h : Hot} {this : Nat} {Q Q' : Mem → Prop} {h_Q : Hot} {k2 k2' : Nat → Int32 → Mem → Prop} {h_k2 : Hot} {v1 : Nat} {s0 : Int32} {M : Mem} {M0 : Mem} (hD : Dok w D)  (lQ : ∀ t, h_Q t = true → h t = true) (hQ : ∀ z0, Ow w D T h_Q M0 z0 → Q z0 → Q' z0) (lk2 : ∀ t, h_k2 t = true → h t = true) (hk2 : ∀ z0 z1 z2, Ow w D T h_k2 M0 z2 → k2 z0 z1 z2 → k2' z0 z1 z2) : Ow w D T h M0 M → w_Works_startsOf_j58 this Q k2 v1 s0 M → w_Works_startsOf_j58 this Q' k2' v1 s0 M := by
  intro hf
  unfold w_Works_startsOf_j58
  exact (hk2 _ _ _  (Ow.dn lk2 hf))
set_option maxRecDepth 20000 in
theorem mo_w_Works_startsOf_j40 {w : Nat} {D : Nat → Nat → Prop} {T : Nat → Prop} {h : Hot} {this : Nat} {Q Q' : Mem → Prop} {h_Q : Hot} {k2 k2' : Nat → Int32 → Mem → Prop} {h_k2 : Hot} {v1 : Nat} {v3 : Int32} {M : Mem} {M0 : Mem} (hD : Dok w D)  (lQ : ∀ t, h_Q t = true → h t = true) (hQ : ∀ z0, Ow w D T h_Q M0 z0 → Q z0 → Q' z0) (lk2 : ∀ t, h_k2 t = true → h t = true) (hk2 : ∀ z0 z1 z2, Ow w D T h_k2 M0 z2 → k2 z0 z1 z2 → k2' z0 z1 z2) : Ow w D T h M0 M → w_Works_startsOf_j40 this Q k2 v1 v3 M → w_Works_startsOf_j40 this Q' k2' v1 v3 M := by
  intro hf
  unfold w_Works_startsOf_j40
  exact (mo_w_World_isFace hD  (fun r8 M7 f1 => (have g2 : Ow w D T _ M0 M7 := (Ow.trans hf f1); (mf_ite (mo_w_World_up hD  (fun r11 M10 f3 => (have g4 : Ow w D T _ M0 M10 := (Ow.trans g2 f3); (mo_w_Works_startsOf_j58 hD  lQ hQ lk2 hk2 g4))) g2.1) (mo_w_Works_startsOf_j58 hD  lQ hQ lk2 hk2 g2)))) hf.1)
set_option maxRecDepth 20000 in
theorem mo_w_Works_startsOf_L2 {w : Nat} {D : Nat → Nat → Prop} {T : Nat → Prop} {h : Hot} {this : Nat} {Q Q' : Mem → Prop} {h_Q : Hot} {M0 : Mem} (hD : Dok w D)  (lQ : ∀ t, h_Q t = true → h t = true) (hQ : ∀ z0, Ow w D T h_Q M0 z0 → Q z0 → Q' z0) : ∀ (n : Nat) (v1 : Nat) (v3 : Int32) (M : Mem), Ow w D T h M0 M → w_Works_startsOf_L2 this Q n v1 v3 M → w_Works_startsOf_L2 this Q' n v1 v3 M
  | 0, _, _, _ => fun  _ h => h
  | n + 1, v1, v3, M => fun  hf => by
    unfold w_Works_startsOf_L2
    exact (mf_ite (hQ _  (Ow.dn lQ hf)) (mf_and fun _ => (mf_ite (hQ _  (Ow.dn lQ hf)) (mo_w_Machine_ownStart hD  (fun r5 M4 f1 => (have g2 : Ow w D T _ M0 M4 := (Ow.trans hf f1); (mf_ite (mo_w_Works_startsOf_j40 hD  lQ hQ (fun _ e => e) (fun y0 y1 y2  hf => mo_w_Works_startsOf_L2 hD  lQ hQ n y0 y1 y2  hf) g2) (mo_w_Works_comes hD  (fun M12 f3 => (have g4 : Ow w D T _ M0 M12 := (Ow.trans g2 f3); (mo_w_Works_startsOf_j40 hD  lQ hQ (fun _ e => e) (fun y0 y1 y2  hf => mo_w_Works_startsOf_L2 hD  lQ hQ n y0 y1 y2  hf) g4))) g2.1)))) hf.1))))
set_option maxRecDepth 20000 in
theorem mo_w_Works_startsOf {w : Nat} {D : Nat → Nat → Prop} {T : Nat → Prop} {h : Hot} {this : Nat} {a1 : Nat} {a2 : Int32} {Q Q' : Mem → Prop} {M : Mem} (hD : Dok w D)  (hQ : ∀ z0, Ow w D T h M z0 → Q z0 → Q' z0) : St w D T h M → w_Works_startsOf this a1 a2 Q M → w_Works_startsOf this a1 a2 Q' M := by
  intro hs
  unfold w_Works_startsOf
  exact (Exists.imp fun n13 => (mo_w_Works_startsOf_L2 hD  (fun _ e => e) hQ _ _ _ _  (Ow.rf hs)))
set_option maxRecDepth 20000 in
theorem mo_w_Works_comesBy_j140 {w : Nat} {D : Nat → Nat → Prop} {T : Nat → Prop} {h : Hot} {this : Nat} {Q Q' : Mem → Prop} {h_Q : Hot} {s0 : Int32} {s1 : Nat} {M : Mem} {M0 : Mem} (hD : Dok w D)  (lQ : ∀ t, h_Q t = true → h t = true) (hQ : ∀ z0, Ow w D T h_Q M0 z0 → Q z0 → Q' z0) : Ow w D T h M0 M → w_Works_comesBy_j140 this Q s0 s1 M → w_Works_comesBy_j140 this Q' s0 s1 M := by
  intro hf
  unfold w_Works_comesBy_j140
  exact (mo_w_Works_startsOf hD  (fun M15 f1 => (have g2 : Ow w D T _ M0 M15 := (Ow.trans hf f1); (hQ _  (Ow.dn lQ g2)))) hf.1)
set_option maxRecDepth 20000 in
theorem mo_w_Works_comesBy_j98 {w : Nat} {D : Nat → Nat → Prop} {T : Nat → Prop} {h : Hot} {this : Nat} {Q Q' : Mem → Prop} {h_Q : Hot} {v1 : Nat} {v4 : Int32} {v5 : Int32} {v6 : Int32} {M : Mem} {M0 : Mem} (hD : Dok w D)  (lQ : ∀ t, h_Q t = true → h t = true) (hQ : ∀ z0, Ow w D T h_Q M0 z0 → Q z0 → Q' z0) : Ow w D T h M0 M → w_Works_comesBy_j98 this Q v1 v4 v5 v6 M → w_Works_comesBy_j98 this Q' v1 v4 v5 v6 M := by
  intro hf
  unfold w_Works_comesBy_j98
  exact (mf_ite (hQ _  (Ow.dn lQ hf)) (mf_ite (mo_w_Works_comesBy_j140 hD  lQ hQ hf) (mf_ite (mf_and fun _ => (mo_w_Works_comesBy_j140 hD  lQ hQ hf)) (mo_w_World_classOfField hD  (fun r19 M18 f1 => (have g2 : Ow w D T _ M0 M18 := (Ow.trans hf f1); (mo_w_Works_comesBy_j140 hD  lQ hQ g2))) hf.1))))
set_option maxRecDepth 20000 in
theorem mo_w_Works_comesBy_j61 {w : Nat} {D : Nat → Nat → Prop} {T : Nat → Prop} {h : Hot} {this : Nat} {Q Q' : Mem → Prop} {h_Q : Hot} {v1 : Nat} {v2 : Int32} {v3 : Int32} {v4 : Int32} {v5 : Int32} {M : Mem} {M0 : Mem} (hD : Dok w D) (n0 : ow w D 47 v1) (lQ : ∀ t, h_Q t = true → h t = true) (hQ : ∀ z0, Ow w D T h_Q M0 z0 → Q z0 → Q' z0) : Ow w D T h M0 M → w_Works_comesBy_j61 this Q v1 v2 v3 v4 v5 M → w_Works_comesBy_j61 this Q' v1 v2 v3 v4 v5 M := by
  intro hf
  unfold w_Works_comesBy_j61
  exact (mo_w_Machine_finds hD n0 (fun r8 M7 f1 => (have g2 : Ow w D T _ M0 M7 := (Ow.trans hf f1); (mf_ite (mo_w_Works_isIn hD  (fun r11 M10 f3 => (have g4 : Ow w D T _ M0 M10 := (Ow.trans g2 f3); (mf_ite (mo_w_Works_comesBy_j98 hD  lQ hQ g4) (mo_w_Works_callsOf hD (ow.to n0 rfl rfl) (fun M20 f5 => (have g6 : Ow w D T _ M0 M20 := (Ow.trans g4 f5); (mo_w_Works_comesBy_j98 hD  lQ hQ g6))) g4.1)))) g2.1) (hQ _  (Ow.dn lQ g2))))) hf.1)
set_option maxRecDepth 20000 in
theorem mo_w_Works_comesBy_j41 {w : Nat} {D : Nat → Nat → Prop} {T : Nat → Prop} {h : Hot} {this : Nat} {Q Q' : Mem → Prop} {h_Q : Hot} {v1 : Nat} {v2 : Int32} {v3 : Int32} {v4 : Int32} {s0 : Int32} {M : Mem} {M0 : Mem} (hD : Dok w D) (n0 : ow w D 47 v1) (lQ : ∀ t, h_Q t = true → h t = true) (hQ : ∀ z0, Ow w D T h_Q M0 z0 → Q z0 → Q' z0) : Ow w D T h M0 M → w_Works_comesBy_j41 this Q v1 v2 v3 v4 s0 M → w_Works_comesBy_j41 this Q' v1 v2 v3 v4 s0 M := by
  intro hf
  unfold w_Works_comesBy_j41
  exact (mf_ite (mo_w_Works_isIn hD  (fun r5 M4 f1 => (have g2 : Ow w D T _ M0 M4 := (Ow.trans hf f1); (mf_ite (hQ _  (Ow.dn lQ g2)) (mo_w_Works_comesBy_j61 hD n0 lQ hQ g2)))) hf.1) (mo_w_Works_comesBy_j61 hD n0 lQ hQ hf))
set_option maxRecDepth 20000 in
theorem mo_w_Works_comesBy_j36 {w : Nat} {D : Nat → Nat → Prop} {T : Nat → Prop} {h : Hot} {this : Nat} {Q Q' : Mem → Prop} {h_Q : Hot} {v1 : Nat} {v2 : Int32} {v3 : Int32} {v4 : Int32} {M : Mem} {M0 : Mem} (hD : Dok w D) (n0 : ow w D 47 v1) (lQ : ∀ t, h_Q t = true → h t = true) (hQ : ∀ z0, Ow w D T h_Q M0 z0 → Q z0 → Q' z0) : Ow w D T h M0 M → w_Works_comesBy_j36 this Q v1 v2 v3 v4 M → w_Works_comesBy_j36 this Q' v1 v2 v3 v4 M := by
  intro hf
  unfold w_Works_comesBy_j36
  exact (mo_w_Works_comesBy_j41 hD n0 lQ hQ hf)
set_option maxRecDepth 20000 in
theorem mo_w_Works_comesBy {w : Nat} {D : Nat → Nat → Prop} {T : Nat → Prop} {h : Hot} {this : Nat} {a1 : Nat} {a2 : Int32} {a3 : Int32} {Q Q' : Mem → Prop} {M : Mem} (hD : Dok w D) (n0 : ow w D 47 a1) (hQ : ∀ z0, Ow w D T h M z0 → Q z0 → Q' z0) : St w D T h M → w_Works_comesBy this a1 a2 a3 Q M → w_Works_comesBy this a1 a2 a3 Q' M := by
  intro hs
  unfold w_Works_comesBy
  exact (mf_and fun _ => (mf_ite (mo_w_Works_comesBy_j36 hD n0 (fun _ e => e) hQ (Ow.rf hs)) (mf_ite (mo_w_Works_comesBy_j36 hD n0 (fun _ e => e) hQ (Ow.rf hs)) (mf_ite (mo_w_Works_comesBy_j36 hD n0 (fun _ e => e) hQ (Ow.rf hs)) (mf_ite (mo_w_Works_comesBy_j36 hD n0 (fun _ e => e) hQ (Ow.rf hs)) (mo_w_Works_comesBy_j41 hD n0 (fun _ e => e) hQ (Ow.rf hs)))))))
set_option maxRecDepth 20000 in
theorem mo_w_Works_reach_L100 {w : Nat} {D : Nat → Nat → Prop} {T : Nat → Prop} {h : Hot} {this : Nat} {Q Q' : Int32 → Mem → Prop} {h_Q : Hot} {k65 k65' : Nat → Int32 → Mem → Prop} {h_k65 : Hot} {M0 : Mem} (hD : Dok w D)  (lQ : ∀ t, h_Q t = true → h t = true) (hQ : ∀ z0 z1, Ow w D T h_Q M0 z1 → Q z0 z1 → Q' z0 z1) (lk65 : ∀ t, h_k65 t = true → h t = true) (hk65 : ∀ z0 z1 z2, ow w D 47 z0 → Ow w D T h_k65 M0 z2 → k65 z0 z1 z2 → k65' z0 z1 z2) : ∀ (n : Nat) (v4 : Nat) (v5 : Int32) (v6 : Int32) (v7 : Int32) (M : Mem), ow w D 47 v4 → Ow w D T h M0 M → w_Works_reach_L100 this Q k65 n v4 v5 v6 v7 M → w_Works_reach_L100 this Q' k65' n v4 v5 v6 v7 M
  | 0, _, _, _, _, _ => fun _ _ h => h
  | n + 1, v4, v5, v6, v7, M => fun m0 hf => by
    unfold w_Works_reach_L100
    exact (mf_and fun _ => (mf_ite (hk65 _ _ _ m0 (Ow.dn lk65 hf)) (mf_and fun _ => (mo_w_Works_comesBy hD m0 (fun M23 f1 => (have g2 : Ow w D T _ M0 M23 := (Ow.trans hf f1); (mo_w_Works_reach_L100 hD  lQ hQ lk65 hk65 _ _ _ _ _ _ m0 g2))) hf.1))))
set_option maxRecDepth 20000 in
theorem mo_w_Works_reach_L65 {w : Nat} {D : Nat → Nat → Prop} {T : Nat → Prop} {h : Hot} {this : Nat} {Q Q' : Int32 → Mem → Prop} {h_Q : Hot} {M0 : Mem} (hD : Dok w D)  (lQ : ∀ t, h_Q t = true → h t = true) (hQ : ∀ z0 z1, Ow w D T h_Q M0 z1 → Q z0 z1 → Q' z0 z1) : ∀ (n : Nat) (v4 : Nat) (v5 : Int32) (M : Mem), ow w D 47 v4 → Ow w D T h M0 M → w_Works_reach_L65 this Q n v4 v5 M → w_Works_reach_L65 this Q' n v4 v5 M
  | 0, _, _, _ => fun _ _ h => h
  | n + 1, v4, v5, M => fun m0 hf => by
    unfold w_Works_reach_L65
    exact (mf_ite (hQ _ _  (Ow.dn lQ hf)) (mf_and fun _ => (mf_and fun _ => (mf_and fun _ => (Exists.imp fun x19 => (mf_and fun _ => (Exists.imp fun n24 => (mo_w_Works_reach_L100 hD  lQ hQ (fun _ e => e) (fun y0 y1 y2 u0 hf => mo_w_Works_reach_L65 hD  lQ hQ n y0 y1 y2 u0 hf) _ _ _ _ _ _ m0 hf))))))))
set_option maxRecDepth 20000 in
theorem mo_w_Works_reach {w : Nat} {D : Nat → Nat → Prop} {T : Nat → Prop} {h : Hot} {this : Nat} {a1 : Int32} {a2 : Int32} {a3 : Int32} {Q Q' : Int32 → Mem → Prop} {M : Mem} (hD : Dok w D) (n0 : T a1.toNatClampNeg) (hQ : ∀ z0 z1, Ow w D T h M z1 → Q z0 z1 → Q' z0 z1) : St w D T h M → w_Works_reach this a1 a2 a3 Q M → w_Works_reach this a1 a2 a3 Q' M := by
  intro hs
  unfold w_Works_reach
  exact (mo_w_Works_isClass hD  (fun r2 M1 f1 => (have g2 : Ow w D T _ M M1 := (Ow.trans (Ow.rf hs) f1); (mf_ite (hQ _ _  g2) (mf_and fun _ => (Exists.imp fun i5 => (mf_and fun e3 => (mo_w_Works_isMethod hD  (fun r7 M6 f5 => (have g6 : Ow w D T _ M M6 := (Ow.trans g2 f5); (mf_ite (hQ _ _  g6) (mf_and fun _ => (Exists.imp fun i10 => (mf_and fun e7 => (have o8 : ow w D 5 i10 := (Ow.rT e7 rfl n0 g6); (mf_and fun _ => (Exists.imp fun M11 => (mf_and fun e9 => (have g10 : Ow w D T _ M M11 := Ow.of e9 (Ow.wfl (ow0 rfl) (Ow.wI (ow0 rfl) g6)); (mf_and fun _ => (mo_w_Works_comes hD  (fun M14 f11 => (have g12 : Ow w D T _ M M14 := (Ow.trans g10 f11); (Exists.imp fun n25 => (mo_w_Works_reach_L65 hD  (fun _ e => e) hQ _ _ _ _ (ow.to o8 rfl rfl) g12)))) g10.1))))))))))))) g2.1))))))) (Ow.rf hs).1)
set_option maxRecDepth 20000 in
theorem mo_w_Works_reached {w : Nat} {D : Nat → Nat → Prop} {T : Nat → Prop} {h : Hot} {this : Nat} {a1 : Int32} {Q Q' : Int32 → Mem → Prop} {M : Mem} (hD : Dok w D)  (hQ : ∀ z0 z1, Ow w D T h M z1 → Q z0 z1 → Q' z0 z1) : St w D T h M → w_Works_reached this a1 Q M → w_Works_reached this a1 Q' M := by
  intro hs
  unfold w_Works_reached
  exact (mo_w_Works_isIn hD  (fun r2 M1 f1 => (have g2 : Ow w D T _ M M1 := (Ow.trans (Ow.rf hs) f1); (mf_ite (hQ _ _  g2) (mf_and fun _ => (mf_and fun _ => (hQ _ _  g2)))))) (Ow.rf hs).1)
set_option maxRecDepth 20000 in
theorem mo_w_Works_breaksFound_j29 {w : Nat} {D : Nat → Nat → Prop} {T : Nat → Prop} {h : Hot} {this : Nat} {Q Q' : Int32 → Mem → Prop} {h_Q : Hot} {X X' : Mem → Prop} {h_X : Hot} {k4 k4' : Int32 → Int32 → Int32 → Mem → Prop} {h_k4 : Hot} {v1 : Int32} {v3 : Int32} {s0 : Int32} {s1 : Int32} {M : Mem} {M0 : Mem} (hD : Dok w D)  (lQ : ∀ t, h_Q t = true → h t = true) (hQ : ∀ z0 z1, Ow w D T h_Q M0 z1 → Q z0 z1 → Q' z0 z1) (lX : ∀ t, h_X t = true → h t = true) (hX : ∀ z0, Ow w D T h_X M0 z0 → X z0 → X' z0) (lk4 : ∀ t, h_k4 t = true → h t = true) (hk4 : ∀ z0 z1 z2 z3, Ow w D T h_k4 M0 z3 → k4 z0 z1 z2 z3 → k4' z0 z1 z2 z3) : Ow w D T h M0 M → w_Works_breaksFound_j29 this Q X k4 v1 v3 s0 s1 M → w_Works_breaksFound_j29 this Q' X' k4' v1 v3 s0 s1 M := by
  intro hf
  unfold w_Works_breaksFound_j29
  exact (hk4 _ _ _ _  (Ow.dn lk4 hf))
set_option maxRecDepth 20000 in
theorem mo_w_Works_breaksFound_L4 {w : Nat} {D : Nat → Nat → Prop} {T : Nat → Prop} {h : Hot} {this : Nat} {Q Q' : Int32 → Mem → Prop} {h_Q : Hot} {X X' : Mem → Prop} {h_X : Hot} {M0 : Mem} (hD : Dok w D) (n0 : w = 0) (lQ : ∀ t, h_Q t = true → h t = true) (hQ : ∀ z0 z1, Ow w D T h_Q M0 z1 → Q z0 z1 → Q' z0 z1) (lX : ∀ t, h_X t = true → h t = true) (hX : ∀ z0, Ow w D T h_X M0 z0 → X z0 → X' z0) : ∀ (n : Nat) (v1 : Int32) (v2 : Int32) (v3 : Int32) (M : Mem), Ow w D T h M0 M → w_Works_breaksFound_L4 this Q X n v1 v2 v3 M → w_Works_breaksFound_L4 this Q' X' n v1 v2 v3 M
  | 0, _, _, _, _ => fun  _ h => h
  | n + 1, v1, v2, v3, M => fun  hf => by
    unfold w_Works_breaksFound_L4
    exact (mf_ite (hQ _ _  (Ow.dn lQ hf)) (mo_w_Works_finds0 hD n0 (fun r3 M2 f1 => (have g2 : Ow w D T _ M0 M2 := (Ow.trans hf f1); (mf_ite (mo_w_Works_breaksFound_j29 hD  lQ hQ lX hX (fun _ e => e) (fun y0 y1 y2 y3  hf => mo_w_Works_breaksFound_L4 hD n0 lQ hQ lX hX n y0 y1 y2 y3  hf) g2) (mo_w_Works_breaksFound_j29 hD  lQ hQ lX hX (fun _ e => e) (fun y0 y1 y2 y3  hf => mo_w_Works_breaksFound_L4 hD n0 lQ hQ lX hX n y0 y1 y2 y3  hf) g2)))) (fun z4 f3 => hX z4 (Ow.dn lX (Ow.trans hf f3))) hf.1))
set_option maxRecDepth 20000 in
theorem mo_w_Works_breaksFound {w : Nat} {D : Nat → Nat → Prop} {T : Nat → Prop} {h : Hot} {this : Nat} {a1 : Int32} {Q Q' : Int32 → Mem → Prop} {X X' : Mem → Prop} {M : Mem} (hD : Dok w D) (n0 : w = 0) (hQ : ∀ z0 z1, Ow w D T h M z1 → Q z0 z1 → Q' z0 z1) (hX : ∀ z0, Ow w D T h M z0 → X z0 → X' z0) : St w D T h M → w_Works_breaksFound this a1 Q X M → w_Works_breaksFound this a1 Q' X' M := by
  intro hs
  unfold w_Works_breaksFound
  exact (Exists.imp fun n5 => (mo_w_Works_breaksFound_L4 hD n0 (fun _ e => e) hQ (fun _ e => e) hX _ _ _ _ _  (Ow.rf hs)))
set_option maxRecDepth 20000 in
theorem mo_w_Works_meetOne_j92 {w : Nat} {D : Nat → Nat → Prop} {T : Nat → Prop} {h : Hot} {this : Nat} {Q Q' : Mem → Prop} {h_Q : Hot} {X X' : Mem → Prop} {h_X : Hot} {k14 k14' : Int32 → Int32 → Int32 → Mem → Prop} {h_k14 : Hot} {v1 : Int32} {v2 : Int32} {v3 : Int32} {M : Mem} {M0 : Mem} (hD : Dok w D)  (lQ : ∀ t, h_Q t = true → h t = true) (hQ : ∀ z0, Ow w D T h_Q M0 z0 → Q z0 → Q' z0) (lX : ∀ t, h_X t = true → h t = true) (hX : ∀ z0, Ow w D T h_X M0 z0 → X z0 → X' z0) (lk14 : ∀ t, h_k14 t = true → h t = true) (hk14 : ∀ z0 z1 z2 z3, Ow w D T h_k14 M0 z3 → k14 z0 z1 z2 z3 → k14' z0 z1 z2 z3) : Ow w D T h M0 M → w_Works_meetOne_j92 this Q X k14 v1 v2 v3 M → w_Works_meetOne_j92 this Q' X' k14' v1 v2 v3 M := by
  intro hf
  unfold w_Works_meetOne_j92
  exact (hk14 _ _ _ _  (Ow.dn lk14 hf))
set_option maxRecDepth 20000 in
theorem mo_w_Works_meetOne_L46 {w : Nat} {D : Nat → Nat → Prop} {T : Nat → Prop} {h : Hot} {this : Nat} {Q Q' : Mem → Prop} {h_Q : Hot} {X X' : Mem → Prop} {h_X : Hot} {k14 k14' : Int32 → Int32 → Int32 → Mem → Prop} {h_k14 : Hot} {M0 : Mem} (hD : Dok w D)  (lQ : ∀ t, h_Q t = true → h t = true) (hQ : ∀ z0, Ow w D T h_Q M0 z0 → Q z0 → Q' z0) (lX : ∀ t, h_X t = true → h t = true) (hX : ∀ z0, Ow w D T h_X M0 z0 → X z0 → X' z0) (lk14 : ∀ t, h_k14 t = true → h t = true) (hk14 : ∀ z0 z1 z2 z3, Ow w D T h_k14 M0 z3 → k14 z0 z1 z2 z3 → k14' z0 z1 z2 z3) : ∀ (n : Nat) (v1 : Int32) (v2 : Int32) (v3 : Int32) (v4 : Int32) (v5 : Int32) (M : Mem), Ow w D T h M0 M → w_Works_meetOne_L46 this Q X k14 n v1 v2 v3 v4 v5 M → w_Works_meetOne_L46 this Q' X' k14' n v1 v2 v3 v4 v5 M
  | 0, _, _, _, _, _, _ => fun  _ h => h
  | n + 1, v1, v2, v3, v4, v5, M => fun  hf => by
    unfold w_Works_meetOne_L46
    exact (mf_ite (mo_w_Works_meetOne_j92 hD  lQ hQ lX hX lk14 hk14 hf) (mf_and fun _ => (mf_and fun _ => (mo_w_JMath_min hD  (fun r20 M19 f1 => (have g2 : Ow w D T _ M0 M19 := (Ow.trans hf f1); (mf_and fun _ => (have g3 : Ow w D T _ M0 (sI M19 104 this (v5 ||| v4).toNatClampNeg r20) := (Ow.wI (ow0 rfl) g2); (mo_w_Works_meetOne_L46 hD  lQ hQ lX hX lk14 hk14 _ _ _ _ _ _ _  g3))))) hf.1))))
set_option maxRecDepth 20000 in
theorem mo_w_Works_meetOne_L14 {w : Nat} {D : Nat → Nat → Prop} {T : Nat → Prop} {h : Hot} {this : Nat} {Q Q' : Mem → Prop} {h_Q : Hot} {X X' : Mem → Prop} {h_X : Hot} {M0 : Mem} (hD : Dok w D) (n0 : w = 0) (lQ : ∀ t, h_Q t = true → h t = true) (hQ : ∀ z0, Ow w D T h_Q M0 z0 → Q z0 → Q' z0) (lX : ∀ t, h_X t = true → h t = true) (hX : ∀ z0, Ow w D T h_X M0 z0 → X z0 → X' z0) : ∀ (n : Nat) (v1 : Int32) (v2 : Int32) (v3 : Int32) (M : Mem), Ow w D T h M0 M → w_Works_meetOne_L14 this Q X n v1 v2 v3 M → w_Works_meetOne_L14 this Q' X' n v1 v2 v3 M
  | 0, _, _, _, _ => fun  _ h => h
  | n + 1, v1, v2, v3, M => fun  hf => by
    unfold w_Works_meetOne_L14
    exact (mf_ite (mf_ite (hQ _  (Ow.dn lQ hf)) (mf_and fun _ => (mf_and fun _ => (mf_and fun _ => (mf_and fun _ => (mf_and fun _ => (Exists.imp fun M5 => (mf_and fun e1 => (have g2 : Ow w D T _ M0 M5 := Ow.of e1 (Ow.wcp (ow0 rfl) hf); (hQ _  (Ow.dn lQ g2))))))))))) (mo_w_Works_ruleMet hD n0 (fun r12 M11 f3 => (have g4 : Ow w D T _ M0 M11 := (Ow.trans hf f3); (mf_ite (mo_w_Works_breaksFound hD n0 (fun r15 M14 f5 => (have g6 : Ow w D T _ M0 M14 := (Ow.trans g4 f5); (Exists.imp fun n22 => (mo_w_Works_meetOne_L46 hD  lQ hQ lX hX (fun _ e => e) (fun y0 y1 y2 y3  hf => mo_w_Works_meetOne_L14 hD n0 lQ hQ lX hX n y0 y1 y2 y3  hf) _ _ _ _ _ _ _  g6)))) (fun z8 f7 => hX z8 (Ow.dn lX (Ow.trans g4 f7))) g4.1) (mo_w_Works_meetOne_j92 hD  lQ hQ lX hX (fun _ e => e) (fun y0 y1 y2 y3  hf => mo_w_Works_meetOne_L14 hD n0 lQ hQ lX hX n y0 y1 y2 y3  hf) g4)))) (fun z10 f9 => hX z10 (Ow.dn lX (Ow.trans hf f9))) hf.1))
set_option maxRecDepth 20000 in
theorem mo_w_Works_meetOne {w : Nat} {D : Nat → Nat → Prop} {T : Nat → Prop} {h : Hot} {this : Nat} {a1 : Int32} {Q Q' : Mem → Prop} {X X' : Mem → Prop} {M : Mem} (hD : Dok w D) (n0 : w = 0) (hQ : ∀ z0, Ow w D T h M z0 → Q z0 → Q' z0) (hX : ∀ z0, Ow w D T h M z0 → X z0 → X' z0) : St w D T h M → w_Works_meetOne this a1 Q X M → w_Works_meetOne this a1 Q' X' M := by
  intro hs
  unfold w_Works_meetOne
  exact (mf_and fun _ => (Exists.imp fun M1 => (mf_and fun e1 => (have g2 : Ow w D T _ M M1 := Ow.of e1 (Ow.wfl (ow0 rfl) (Ow.rf hs)); (Exists.imp fun n23 => (mo_w_Works_meetOne_L14 hD n0 (fun _ e => e) hQ (fun _ e => e) hX _ _ _ _ _  g2))))))
set_option maxRecDepth 20000 in
theorem mo_w_Works_fewest_L98 {w : Nat} {D : Nat → Nat → Prop} {T : Nat → Prop} {h : Hot} {this : Nat} {Q Q' : Int32 → Mem → Prop} {h_Q : Hot} {X X' : Mem → Prop} {h_X : Hot} {k72 k72' : Int32 → Int32 → Mem → Prop} {h_k72 : Hot} {k80 k80' : Int32 → Int32 → Int32 → Mem → Prop} {h_k80 : Hot} {M0 : Mem} (hD : Dok w D)  (lQ : ∀ t, h_Q t = true → h t = true) (hQ : ∀ z0 z1, Ow w D T h_Q M0 z1 → Q z0 z1 → Q' z0 z1) (lX : ∀ t, h_X t = true → h t = true) (hX : ∀ z0, Ow w D T h_X M0 z0 → X z0 → X' z0) (lk72 : ∀ t, h_k72 t = true → h t = true) (hk72 : ∀ z0 z1 z2, Ow w D T h_k72 M0 z2 → k72 z0 z1 z2 → k72' z0 z1 z2) (lk80 : ∀ t, h_k80 t = true → h t = true) (hk80 : ∀ z0 z1 z2 z3, Ow w D T h_k80 M0 z3 → k80 z0 z1 z2 z3 → k80' z0 z1 z2 z3) : ∀ (n : Nat) (v1 : Int32) (v2 : Int32) (v3 : Int32) (v4 : Int32) (v5 : Int32) (M : Mem), Ow w D T h M0 M → w_Works_fewest_L98 this Q X k72 k80 n v1 v2 v3 v4 v5 M → w_Works_fewest_L98 this Q' X' k72' k80' n v1 v2 v3 v4 v5 M
  | 0, _, _, _, _, _, _ => fun  _ h => h
  | n + 1, v1, v2, v3, v4, v5, M => fun  hf => by
    unfold w_Works_fewest_L98
    exact (mf_ite (hk80 _ _ _ _  (Ow.dn lk80 hf)) (mf_and fun _ => (mf_and fun _ => (mo_w_JMath_min hD  (fun r15 M14 f1 => (have g2 : Ow w D T _ M0 M14 := (Ow.trans hf f1); (mf_and fun _ => (have g3 : Ow w D T _ M0 (sI M14 103 this (v5 ||| v4).toNatClampNeg r15) := (Ow.wI (ow0 rfl) g2); (mo_w_Works_fewest_L98 hD  lQ hQ lX hX lk72 hk72 lk80 hk80 _ _ _ _ _ _ _  g3))))) hf.1))))
set_option maxRecDepth 20000 in
theorem mo_w_Works_fewest_L80 {w : Nat} {D : Nat → Nat → Prop} {T : Nat → Prop} {h : Hot} {this : Nat} {Q Q' : Int32 → Mem → Prop} {h_Q : Hot} {X X' : Mem → Prop} {h_X : Hot} {k72 k72' : Int32 → Int32 → Mem → Prop} {h_k72 : Hot} {M0 : Mem} (hD : Dok w D) (n0 : w = 0) (lQ : ∀ t, h_Q t = true → h t = true) (hQ : ∀ z0 z1, Ow w D T h_Q M0 z1 → Q z0 z1 → Q' z0 z1) (lX : ∀ t, h_X t = true → h t = true) (hX : ∀ z0, Ow w D T h_X M0 z0 → X z0 → X' z0) (lk72 : ∀ t, h_k72 t = true → h t = true) (hk72 : ∀ z0 z1 z2, Ow w D T h_k72 M0 z2 → k72 z0 z1 z2 → k72' z0 z1 z2) : ∀ (n : Nat) (v1 : Int32) (v2 : Int32) (v3 : Int32) (M : Mem), Ow w D T h M0 M → w_Works_fewest_L80 this Q X k72 n v1 v2 v3 M → w_Works_fewest_L80 this Q' X' k72' n v1 v2 v3 M
  | 0, _, _, _, _ => fun  _ h => h
  | n + 1, v1, v2, v3, M => fun  hf => by
    unfold w_Works_fewest_L80
    exact (mf_ite (hk72 _ _ _  (Ow.dn lk72 hf)) (mo_w_Works_breaksFound hD n0 (fun r10 M9 f1 => (have g2 : Ow w D T _ M0 M9 := (Ow.trans hf f1); (Exists.imp fun n17 => (mo_w_Works_fewest_L98 hD  lQ hQ lX hX lk72 hk72 (fun _ e => e) (fun y0 y1 y2 y3  hf => mo_w_Works_fewest_L80 hD n0 lQ hQ lX hX lk72 hk72 n y0 y1 y2 y3  hf) _ _ _ _ _ _ _  g2)))) (fun z4 f3 => hX z4 (Ow.dn lX (Ow.trans hf f3))) hf.1))
set_option maxRecDepth 20000 in
theorem mo_w_Works_fewest_L72 {w : Nat} {D : Nat → Nat → Prop} {T : Nat → Prop} {h : Hot} {this : Nat} {Q Q' : Int32 → Mem → Prop} {h_Q : Hot} {X X' : Mem → Prop} {h_X : Hot} {M0 : Mem} (hD : Dok w D) (n0 : w = 0) (lQ : ∀ t, h_Q t = true → h t = true) (hQ : ∀ z0 z1, Ow w D T h_Q M0 z1 → Q z0 z1 → Q' z0 z1) (lX : ∀ t, h_X t = true → h t = true) (hX : ∀ z0, Ow w D T h_X M0 z0 → X z0 → X' z0) : ∀ (n : Nat) (v1 : Int32) (v2 : Int32) (M : Mem), Ow w D T h M0 M → w_Works_fewest_L72 this Q X n v1 v2 M → w_Works_fewest_L72 this Q' X' n v1 v2 M
  | 0, _, _, _ => fun  _ h => h
  | n + 1, v1, v2, M => fun  hf => by
    unfold w_Works_fewest_L72
    exact (mf_ite (mf_and fun _ => (hQ _ _  (Ow.dn lQ hf))) (Exists.imp fun n18 => (mo_w_Works_fewest_L80 hD n0 lQ hQ lX hX (fun _ e => e) (fun y0 y1 y2  hf => mo_w_Works_fewest_L72 hD n0 lQ hQ lX hX n y0 y1 y2  hf) _ _ _ _ _  hf)))
set_option maxRecDepth 20000 in
theorem mo_w_Works_fewest_j64 {w : Nat} {D : Nat → Nat → Prop} {T : Nat → Prop} {h : Hot} {this : Nat} {Q Q' : Int32 → Mem → Prop} {h_Q : Hot} {X X' : Mem → Prop} {h_X : Hot} {k45 k45' : Int32 → Int32 → Mem → Prop} {h_k45 : Hot} {v1 : Int32} {v2 : Int32} {M : Mem} {M0 : Mem} (hD : Dok w D)  (lQ : ∀ t, h_Q t = true → h t = true) (hQ : ∀ z0 z1, Ow w D T h_Q M0 z1 → Q z0 z1 → Q' z0 z1) (lX : ∀ t, h_X t = true → h t = true) (hX : ∀ z0, Ow w D T h_X M0 z0 → X z0 → X' z0) (lk45 : ∀ t, h_k45 t = true → h t = true) (hk45 : ∀ z0 z1 z2, Ow w D T h_k45 M0 z2 → k45 z0 z1 z2 → k45' z0 z1 z2) : Ow w D T h M0 M → w_Works_fewest_j64 this Q X k45 v1 v2 M → w_Works_fewest_j64 this Q' X' k45' v1 v2 M := by
  intro hf
  unfold w_Works_fewest_j64
  exact (hk45 _ _ _  (Ow.dn lk45 hf))
set_option maxRecDepth 20000 in
theorem mo_w_Works_fewest_L45 {w : Nat} {D : Nat → Nat → Prop} {T : Nat → Prop} {h : Hot} {this : Nat} {Q Q' : Int32 → Mem → Prop} {h_Q : Hot} {X X' : Mem → Prop} {h_X : Hot} {M0 : Mem} (hD : Dok w D) (n0 : w = 0) (lQ : ∀ t, h_Q t = true → h t = true) (hQ : ∀ z0 z1, Ow w D T h_Q M0 z1 → Q z0 z1 → Q' z0 z1) (lX : ∀ t, h_X t = true → h t = true) (hX : ∀ z0, Ow w D T h_X M0 z0 → X z0 → X' z0) : ∀ (n : Nat) (v1 : Int32) (v2 : Int32) (M : Mem), Ow w D T h M0 M → w_Works_fewest_L45 this Q X n v1 v2 M → w_Works_fewest_L45 this Q' X' n v1 v2 M
  | 0, _, _, _ => fun  _ h => h
  | n + 1, v1, v2, M => fun  hf => by
    unfold w_Works_fewest_L45
    exact (mf_ite (Exists.imp fun n19 => (mo_w_Works_fewest_L72 hD n0 lQ hQ lX hX _ _ _ _  hf)) (mo_w_Works_isRule hD  (fun r21 M20 f1 => (have g2 : Ow w D T _ M0 M20 := (Ow.trans hf f1); (mf_ite (mo_w_Works_fewest_j64 hD  lQ hQ lX hX (fun _ e => e) (fun y0 y1 y2  hf => mo_w_Works_fewest_L45 hD n0 lQ hQ lX hX n y0 y1 y2  hf) g2) (mo_w_Works_meetOne hD n0 (fun M23 f3 => (have g4 : Ow w D T _ M0 M23 := (Ow.trans g2 f3); (mo_w_Works_fewest_j64 hD  lQ hQ lX hX (fun _ e => e) (fun y0 y1 y2  hf => mo_w_Works_fewest_L45 hD n0 lQ hQ lX hX n y0 y1 y2  hf) g4))) (fun z6 f5 => hX z6 (Ow.dn lX (Ow.trans g2 f5))) g2.1)))) hf.1))
set_option maxRecDepth 20000 in
theorem mo_w_Works_fewest_L4 {w : Nat} {D : Nat → Nat → Prop} {T : Nat → Prop} {h : Hot} {this : Nat} {Q Q' : Int32 → Mem → Prop} {h_Q : Hot} {X X' : Mem → Prop} {h_X : Hot} {M0 : Mem} (hD : Dok w D) (n0 : w = 0) (lQ : ∀ t, h_Q t = true → h t = true) (hQ : ∀ z0 z1, Ow w D T h_Q M0 z1 → Q z0 z1 → Q' z0 z1) (lX : ∀ t, h_X t = true → h t = true) (hX : ∀ z0, Ow w D T h_X M0 z0 → X z0 → X' z0) : ∀ (n : Nat) (v1 : Int32) (v2 : Int32) (M : Mem), Ow w D T h M0 M → w_Works_fewest_L4 this Q X n v1 v2 M → w_Works_fewest_L4 this Q' X' n v1 v2 M
  | 0, _, _, _ => fun  _ h => h
  | n + 1, v1, v2, M => fun  hf => by
    unfold w_Works_fewest_L4
    exact (mf_ite (mf_and fun _ => (Exists.imp fun M2 => (mf_and fun e1 => (have g2 : Ow w D T _ M0 M2 := Ow.of e1 (Ow.wfl (ow0 rfl) hf); (mf_and fun _ => (Exists.imp fun n24 => (have g3 : Ow w D T _ M0 (sI M2 103 this (0 : Int32).toNatClampNeg (0 : Int32)) := (Ow.wI (ow0 rfl) g2); (mo_w_Works_fewest_L45 hD n0 lQ hQ lX hX _ _ _ _  g3)))))))) (mo_w_Works_breaksFound hD n0 (fun r26 M25 f4 => (have g5 : Ow w D T _ M0 M25 := (Ow.trans hf f4); (mo_w_Works_fewest_L4 hD n0 lQ hQ lX hX _ _ _ _  g5))) (fun z7 f6 => hX z7 (Ow.dn lX (Ow.trans hf f6))) hf.1))
set_option maxRecDepth 20000 in
theorem mo_w_Works_fewest {w : Nat} {D : Nat → Nat → Prop} {T : Nat → Prop} {h : Hot} {this : Nat} {Q Q' : Int32 → Mem → Prop} {X X' : Mem → Prop} {M : Mem} (hD : Dok w D) (n0 : w = 0) (hQ : ∀ z0 z1, Ow w D T h M z1 → Q z0 z1 → Q' z0 z1) (hX : ∀ z0, Ow w D T h M z0 → X z0 → X' z0) : St w D T h M → w_Works_fewest this Q X M → w_Works_fewest this Q' X' M := by
  intro hs
  unfold w_Works_fewest
  exact (Exists.imp fun n27 => (mo_w_Works_fewest_L4 hD n0 (fun _ e => e) hQ (fun _ e => e) hX _ _ _ _  (Ow.rf hs)))
set_option maxRecDepth 20000 in
theorem mo_w_Works_lineFrom_L11 {w : Nat} {D : Nat → Nat → Prop} {T : Nat → Prop} {h : Hot} {this : Nat} {Q Q' : Int32 → Mem → Prop} {h_Q : Hot} {k5 k5' : Nat → Int32 → Int32 → Int32 → Mem → Prop} {h_k5 : Hot} {M0 : Mem} (hD : Dok w D)  (lQ : ∀ t, h_Q t = true → h t = true) (hQ : ∀ z0 z1, Ow w D T h_Q M0 z1 → Q z0 z1 → Q' z0 z1) (lk5 : ∀ t, h_k5 t = true → h t = true) (hk5 : ∀ z0 z1 z2 z3 z4, Ow w D T h_k5 M0 z4 → k5 z0 z1 z2 z3 z4 → k5' z0 z1 z2 z3 z4) : ∀ (n : Nat) (v1 : Nat) (v2 : Int32) (v3 : Int32) (v4 : Int32) (M : Mem), Ow w D T h M0 M → w_Works_lineFrom_L11 this Q k5 n v1 v2 v3 v4 M → w_Works_lineFrom_L11 this Q' k5' n v1 v2 v3 v4 M
  | 0, _, _, _, _, _ => fun  _ h => h
  | n + 1, v1, v2, v3, v4, M => fun  hf => by
    unfold w_Works_lineFrom_L11
    exact (mf_and fun _ => (mf_ite (hk5 _ _ _ _ _  (Ow.dn lk5 hf)) (mo_w_Works_lineFrom_L11 hD  lQ hQ lk5 hk5 _ _ _ _ _ _  hf)))
set_option maxRecDepth 20000 in
theorem mo_w_Works_lineFrom_L5 {w : Nat} {D : Nat → Nat → Prop} {T : Nat → Prop} {h : Hot} {this : Nat} {Q Q' : Int32 → Mem → Prop} {h_Q : Hot} {M0 : Mem} (hD : Dok w D)  (lQ : ∀ t, h_Q t = true → h t = true) (hQ : ∀ z0 z1, Ow w D T h_Q M0 z1 → Q z0 z1 → Q' z0 z1) : ∀ (n : Nat) (v1 : Nat) (v2 : Int32) (v3 : Int32) (v4 : Int32) (M : Mem), Ow w D T h M0 M → w_Works_lineFrom_L5 this Q n v1 v2 v3 v4 M → w_Works_lineFrom_L5 this Q' n v1 v2 v3 v4 M
  | 0, _, _, _, _, _ => fun  _ h => h
  | n + 1, v1, v2, v3, v4, M => fun  hf => by
    unfold w_Works_lineFrom_L5
    exact (mf_ite (hQ _ _  (Ow.dn lQ hf)) (Exists.imp fun n4 => (mo_w_Works_lineFrom_L11 hD  lQ hQ (fun _ e => e) (fun y0 y1 y2 y3 y4  hf => mo_w_Works_lineFrom_L5 hD  lQ hQ n y0 y1 y2 y3 y4  hf) _ _ _ _ _ _  hf)))
set_option maxRecDepth 20000 in
theorem mo_w_Works_lineFrom {w : Nat} {D : Nat → Nat → Prop} {T : Nat → Prop} {h : Hot} {this : Nat} {a1 : Nat} {a2 : Int32} {Q Q' : Int32 → Mem → Prop} {M : Mem} (hD : Dok w D)  (hQ : ∀ z0 z1, Ow w D T h M z1 → Q z0 z1 → Q' z0 z1) : St w D T h M → w_Works_lineFrom this a1 a2 Q M → w_Works_lineFrom this a1 a2 Q' M := by
  intro hs
  unfold w_Works_lineFrom
  exact (Exists.imp fun n5 => (mo_w_Works_lineFrom_L5 hD  (fun _ e => e) hQ _ _ _ _ _ _  (Ow.rf hs)))
set_option maxRecDepth 20000 in
theorem mo_w_Works_lines_j33 {w : Nat} {D : Nat → Nat → Prop} {T : Nat → Prop} {h : Hot} {this : Nat} {Q Q' : Int32 → Mem → Prop} {h_Q : Hot} {k4 k4' : Int32 → Int32 → Int32 → Mem → Prop} {h_k4 : Hot} {v1 : Int32} {v3 : Int32} {s0 : Int32} {s1 : Int32} {M : Mem} {M0 : Mem} (hD : Dok w D)  (lQ : ∀ t, h_Q t = true → h t = true) (hQ : ∀ z0 z1, Ow w D T h_Q M0 z1 → Q z0 z1 → Q' z0 z1) (lk4 : ∀ t, h_k4 t = true → h t = true) (hk4 : ∀ z0 z1 z2 z3, Ow w D T h_k4 M0 z3 → k4 z0 z1 z2 z3 → k4' z0 z1 z2 z3) : Ow w D T h M0 M → w_Works_lines_j33 this Q k4 v1 v3 s0 s1 M → w_Works_lines_j33 this Q' k4' v1 v3 s0 s1 M := by
  intro hf
  unfold w_Works_lines_j33
  exact (hk4 _ _ _ _  (Ow.dn lk4 hf))
set_option maxRecDepth 20000 in
theorem mo_w_Works_lines_L4 {w : Nat} {D : Nat → Nat → Prop} {T : Nat → Prop} {h : Hot} {this : Nat} {Q Q' : Int32 → Mem → Prop} {h_Q : Hot} {M0 : Mem} (hD : Dok w D)  (lQ : ∀ t, h_Q t = true → h t = true) (hQ : ∀ z0 z1, Ow w D T h_Q M0 z1 → Q z0 z1 → Q' z0 z1) : ∀ (n : Nat) (v1 : Int32) (v2 : Int32) (v3 : Int32) (M : Mem), Ow w D T h M0 M → w_Works_lines_L4 this Q n v1 v2 v3 M → w_Works_lines_L4 this Q' n v1 v2 v3 M
  | 0, _, _, _, _ => fun  _ h => h
  | n + 1, v1, v2, v3, M => fun  hf => by
    unfold w_Works_lines_L4
    exact (mf_and fun _ => (mf_ite (hQ _ _  (Ow.dn lQ hf)) (mf_and fun _ => (Exists.imp fun i4 => (mf_and fun e1 => (mf_and fun _ => (mf_ite (mo_w_Works_lines_j33 hD  lQ hQ (fun _ e => e) (fun y0 y1 y2 y3  hf => mo_w_Works_lines_L4 hD  lQ hQ n y0 y1 y2 y3  hf) hf) (mo_w_Works_lines_j33 hD  lQ hQ (fun _ e => e) (fun y0 y1 y2 y3  hf => mo_w_Works_lines_L4 hD  lQ hQ n y0 y1 y2 y3  hf) hf))))))))
set_option maxRecDepth 20000 in
theorem mo_w_Works_lines {w : Nat} {D : Nat → Nat → Prop} {T : Nat → Prop} {h : Hot} {this : Nat} {a1 : Int32} {Q Q' : Int32 → Mem → Prop} {M : Mem} (hD : Dok w D)  (hQ : ∀ z0 z1, Ow w D T h M z1 → Q z0 z1 → Q' z0 z1) : St w D T h M → w_Works_lines this a1 Q M → w_Works_lines this a1 Q' M := by
  intro hs
  unfold w_Works_lines
  exact (Exists.imp fun n7 => (mo_w_Works_lines_L4 hD  (fun _ e => e) hQ _ _ _ _ _  (Ow.rf hs)))
set_option maxRecDepth 20000 in
theorem mo_w_Works_copyLine {w : Nat} {D : Nat → Nat → Prop} {T : Nat → Prop} {h : Hot} {this : Nat} {a1 : Nat} {a2 : Int32} {Q Q' : Mem → Prop} {M : Mem} (hD : Dok w D)  (hQ : ∀ z0, Ow w D T h M z0 → Q z0 → Q' z0) : St w D T h M → w_Works_copyLine this a1 a2 Q M → w_Works_copyLine this a1 a2 Q' M := by
  intro hs
  unfold w_Works_copyLine
  exact (mo_w_Works_lineFrom hD  (fun r2 M1 f1 => (have g2 : Ow w D T _ M M1 := (Ow.trans (Ow.rf hs) f1); (mo_w_Works_lineFrom hD  (fun r4 M3 f3 => (have g4 : Ow w D T _ M M3 := (Ow.trans g2 f3); (mf_and fun _ => (mf_and fun _ => (mf_and fun _ => (mf_and fun _ => (mf_and fun _ => (Exists.imp fun M5 => (mf_and fun e5 => (have g6 : Ow w D T _ M M5 := Ow.of e5 (Ow.wcp (ow0 rfl) g4); (hQ _  (Ow.wI (ow0 rfl) g6)))))))))))) g2.1))) (Ow.rf hs).1)
set_option maxRecDepth 20000 in
theorem mo_w_Works_lengthOf {w : Nat} {D : Nat → Nat → Prop} {T : Nat → Prop} {h : Hot} {this : Nat} {a1 : Nat} {a2 : Int32} {Q Q' : Int32 → Mem → Prop} {M : Mem} (hD : Dok w D)  (hQ : ∀ z0 z1, Ow w D T h M z1 → Q z0 z1 → Q' z0 z1) : St w D T h M → w_Works_lengthOf this a1 a2 Q M → w_Works_lengthOf this a1 a2 Q' M := by
  intro hs
  unfold w_Works_lengthOf
  exact (mo_w_Works_lineFrom hD  (fun r2 M1 f1 => (have g2 : Ow w D T _ M M1 := (Ow.trans (Ow.rf hs) f1); (mo_w_Works_lineFrom hD  (fun r4 M3 f3 => (have g4 : Ow w D T _ M M3 := (Ow.trans g2 f3); (hQ _ _  g4))) g2.1))) (Ow.rf hs).1)
set_option maxRecDepth 20000 in
theorem mo_w_Works_forget_L2 {w : Nat} {D : Nat → Nat → Prop} {T : Nat → Prop} {h : Hot} {this : Nat} {Q Q' : Mem → Prop} {h_Q : Hot} {M0 : Mem} (hD : Dok w D)  (lQ : ∀ t, h_Q t = true → h t = true) (hQ : ∀ z0, Ow w D T h_Q M0 z0 → Q z0 → Q' z0) : ∀ (n : Nat) (v1 : Int32) (v2 : Int32) (M : Mem), Ow w D T h M0 M → w_Works_forget_L2 this Q n v1 v2 M → w_Works_forget_L2 this Q' n v1 v2 M
  | 0, _, _, _ => fun  _ h => h
  | n + 1, v1, v2, M => fun  hf => by
    unfold w_Works_forget_L2
    exact (mf_ite (hQ _  (Ow.dn lQ hf)) (mf_and fun _ => (Exists.imp fun M3 => (mf_and fun e1 => (have g2 : Ow w D T _ M0 M3 := Ow.of e1 (Ow.wI (ow0 rfl) hf); (mo_w_Works_forget_L2 hD  lQ hQ _ _ _ _  g2))))))
set_option maxRecDepth 20000 in
theorem mo_w_Works_forget {w : Nat} {D : Nat → Nat → Prop} {T : Nat → Prop} {h : Hot} {this : Nat} {a1 : Int32} {Q Q' : Mem → Prop} {M : Mem} (hD : Dok w D)  (hQ : ∀ z0, Ow w D T h M z0 → Q z0 → Q' z0) : St w D T h M → w_Works_forget this a1 Q M → w_Works_forget this a1 Q' M := by
  intro hs
  unfold w_Works_forget
  exact (Exists.imp fun n4 => (mo_w_Works_forget_L2 hD  (fun _ e => e) hQ _ _ _ _  (Ow.rf hs)))
set_option maxRecDepth 20000 in
theorem mo_w_Works_change_j276 {w : Nat} {D : Nat → Nat → Prop} {T : Nat → Prop} {h : Hot} {this : Nat} {Q Q' : Int32 → Mem → Prop} {h_Q : Hot} {k182 k182' : Int32 → Int32 → Int32 → Int32 → Nat → Int32 → Mem → Prop} {h_k182 : Hot} {v2 : Int32} {v3 : Int32} {v4 : Int32} {v5 : Int32} {v7 : Nat} {v9 : Int32} {M : Mem} {M0 : Mem} (hD : Dok w D)  (lQ : ∀ t, h_Q t = true → h t = true) (hQ : ∀ z0 z1, Ow w D T h_Q M0 z1 → Q z0 z1 → Q' z0 z1) (lk182 : ∀ t, h_k182 t = true → h t = true) (hk182 : ∀ z0 z1 z2 z3 z4 z5 z6, Ow w D T h_k182 M0 z6 → k182 z0 z1 z2 z3 z4 z5 z6 → k182' z0 z1 z2 z3 z4 z5 z6) : Ow w D T h M0 M → w_Works_change_j276 this Q k182 v2 v3 v4 v5 v7 v9 M → w_Works_change_j276 this Q' k182' v2 v3 v4 v5 v7 v9 M := by
  intro hf
  unfold w_Works_change_j276
  exact (hk182 _ _ _ _ _ _ _  (Ow.dn lk182 hf))
set_option maxRecDepth 20000 in
theorem mo_w_Works_change_j247 {w : Nat} {D : Nat → Nat → Prop} {T : Nat → Prop} {h : Hot} {this : Nat} {Q Q' : Int32 → Mem → Prop} {h_Q : Hot} {k182 k182' : Int32 → Int32 → Int32 → Int32 → Nat → Int32 → Mem → Prop} {h_k182 : Hot} {v2 : Int32} {v3 : Int32} {v4 : Int32} {v5 : Int32} {v7 : Nat} {v9 : Int32} {s0 : Int32} {M : Mem} {M0 : Mem} (hD : Dok w D)  (lQ : ∀ t, h_Q t = true → h t = true) (hQ : ∀ z0 z1, Ow w D T h_Q M0 z1 → Q z0 z1 → Q' z0 z1) (lk182 : ∀ t, h_k182 t = true → h t = true) (hk182 : ∀ z0 z1 z2 z3 z4 z5 z6, Ow w D T h_k182 M0 z6 → k182 z0 z1 z2 z3 z4 z5 z6 → k182' z0 z1 z2 z3 z4 z5 z6) : Ow w D T h M0 M → w_Works_change_j247 this Q k182 v2 v3 v4 v5 v7 v9 s0 M → w_Works_change_j247 this Q' k182' v2 v3 v4 v5 v7 v9 s0 M := by
  intro hf
  unfold w_Works_change_j247
  exact (mo_w_Works_copyLine hD  (fun M39 f1 => (have g2 : Ow w D T _ M0 M39 := (Ow.trans hf f1); (mf_ite (mf_ite (mo_w_Works_copyLine hD  (fun M42 f3 => (have g4 : Ow w D T _ M0 M42 := (Ow.trans g2 f3); (mo_w_Works_change_j276 hD  lQ hQ lk182 hk182 g4))) g2.1) (mo_w_Works_change_j276 hD  lQ hQ lk182 hk182 g2)) (mo_w_Works_change_j276 hD  lQ hQ lk182 hk182 g2)))) hf.1)
set_option maxRecDepth 20000 in
theorem mo_w_Works_change_j224 {w : Nat} {D : Nat → Nat → Prop} {T : Nat → Prop} {h : Hot} {this : Nat} {Q Q' : Int32 → Mem → Prop} {h_Q : Hot} {k182 k182' : Int32 → Int32 → Int32 → Int32 → Nat → Int32 → Mem → Prop} {h_k182 : Hot} {v2 : Int32} {v3 : Int32} {v4 : Int32} {v5 : Int32} {v7 : Nat} {v9 : Int32} {M : Mem} {M0 : Mem} (hD : Dok w D)  (lQ : ∀ t, h_Q t = true → h t = true) (hQ : ∀ z0 z1, Ow w D T h_Q M0 z1 → Q z0 z1 → Q' z0 z1) (lk182 : ∀ t, h_k182 t = true → h t = true) (hk182 : ∀ z0 z1 z2 z3 z4 z5 z6, Ow w D T h_k182 M0 z6 → k182 z0 z1 z2 z3 z4 z5 z6 → k182' z0 z1 z2 z3 z4 z5 z6) : Ow w D T h M0 M → w_Works_change_j224 this Q k182 v2 v3 v4 v5 v7 v9 M → w_Works_change_j224 this Q' k182' v2 v3 v4 v5 v7 v9 M := by
  intro hf
  unfold w_Works_change_j224
  exact (mo_w_Works_change_j247 hD  lQ hQ lk182 hk182 hf)
set_option maxRecDepth 20000 in
theorem mo_w_Works_change_j245 {w : Nat} {D : Nat → Nat → Prop} {T : Nat → Prop} {h : Hot} {this : Nat} {Q Q' : Int32 → Mem → Prop} {h_Q : Hot} {k182 k182' : Int32 → Int32 → Int32 → Int32 → Nat → Int32 → Mem → Prop} {h_k182 : Hot} {v2 : Int32} {v3 : Int32} {v4 : Int32} {v5 : Int32} {v7 : Nat} {v9 : Int32} {M : Mem} {M0 : Mem} (hD : Dok w D)  (lQ : ∀ t, h_Q t = true → h t = true) (hQ : ∀ z0 z1, Ow w D T h_Q M0 z1 → Q z0 z1 → Q' z0 z1) (lk182 : ∀ t, h_k182 t = true → h t = true) (hk182 : ∀ z0 z1 z2 z3 z4 z5 z6, Ow w D T h_k182 M0 z6 → k182 z0 z1 z2 z3 z4 z5 z6 → k182' z0 z1 z2 z3 z4 z5 z6) : Ow w D T h M0 M → w_Works_change_j245 this Q k182 v2 v3 v4 v5 v7 v9 M → w_Works_change_j245 this Q' k182' v2 v3 v4 v5 v7 v9 M := by
  intro hf
  unfold w_Works_change_j245
  exact (mo_w_Works_change_j247 hD  lQ hQ lk182 hk182 hf)
set_option maxRecDepth 20000 in
theorem mo_w_Works_change_j229 {w : Nat} {D : Nat → Nat → Prop} {T : Nat → Prop} {h : Hot} {this : Nat} {Q Q' : Int32 → Mem → Prop} {h_Q : Hot} {k182 k182' : Int32 → Int32 → Int32 → Int32 → Nat → Int32 → Mem → Prop} {h_k182 : Hot} {v2 : Int32} {v3 : Int32} {v4 : Int32} {v5 : Int32} {v7 : Nat} {v9 : Int32} {M : Mem} {M0 : Mem} (hD : Dok w D)  (lQ : ∀ t, h_Q t = true → h t = true) (hQ : ∀ z0 z1, Ow w D T h_Q M0 z1 → Q z0 z1 → Q' z0 z1) (lk182 : ∀ t, h_k182 t = true → h t = true) (hk182 : ∀ z0 z1 z2 z3 z4 z5 z6, Ow w D T h_k182 M0 z6 → k182 z0 z1 z2 z3 z4 z5 z6 → k182' z0 z1 z2 z3 z4 z5 z6) : Ow w D T h M0 M → w_Works_change_j229 this Q k182 v2 v3 v4 v5 v7 v9 M → w_Works_change_j229 this Q' k182' v2 v3 v4 v5 v7 v9 M := by
  intro hf
  unfold w_Works_change_j229
  exact (mf_ite (mf_ite (mo_w_Works_change_j247 hD  lQ hQ lk182 hk182 hf) (mo_w_Works_change_j245 hD  lQ hQ lk182 hk182 hf)) (mo_w_Works_change_j245 hD  lQ hQ lk182 hk182 hf))
set_option maxRecDepth 20000 in
theorem mo_w_Works_change_j213 {w : Nat} {D : Nat → Nat → Prop} {T : Nat → Prop} {h : Hot} {this : Nat} {Q Q' : Int32 → Mem → Prop} {h_Q : Hot} {k182 k182' : Int32 → Int32 → Int32 → Int32 → Nat → Int32 → Mem → Prop} {h_k182 : Hot} {v2 : Int32} {v3 : Int32} {v4 : Int32} {v5 : Int32} {v7 : Nat} {v9 : Int32} {M : Mem} {M0 : Mem} (hD : Dok w D)  (lQ : ∀ t, h_Q t = true → h t = true) (hQ : ∀ z0 z1, Ow w D T h_Q M0 z1 → Q z0 z1 → Q' z0 z1) (lk182 : ∀ t, h_k182 t = true → h t = true) (hk182 : ∀ z0 z1 z2 z3 z4 z5 z6, Ow w D T h_k182 M0 z6 → k182 z0 z1 z2 z3 z4 z5 z6 → k182' z0 z1 z2 z3 z4 z5 z6) : Ow w D T h M0 M → w_Works_change_j213 this Q k182 v2 v3 v4 v5 v7 v9 M → w_Works_change_j213 this Q' k182' v2 v3 v4 v5 v7 v9 M := by
  intro hf
  unfold w_Works_change_j213
  exact (mf_ite (mf_ite (mo_w_Works_change_j224 hD  lQ hQ lk182 hk182 hf) (mo_w_Works_change_j229 hD  lQ hQ lk182 hk182 hf)) (mo_w_Works_change_j229 hD  lQ hQ lk182 hk182 hf))
set_option maxRecDepth 20000 in
theorem mo_w_Works_change_j202 {w : Nat} {D : Nat → Nat → Prop} {T : Nat → Prop} {h : Hot} {this : Nat} {Q Q' : Int32 → Mem → Prop} {h_Q : Hot} {k182 k182' : Int32 → Int32 → Int32 → Int32 → Nat → Int32 → Mem → Prop} {h_k182 : Hot} {v2 : Int32} {v3 : Int32} {v4 : Int32} {v5 : Int32} {v7 : Nat} {v9 : Int32} {M : Mem} {M0 : Mem} (hD : Dok w D)  (lQ : ∀ t, h_Q t = true → h t = true) (hQ : ∀ z0 z1, Ow w D T h_Q M0 z1 → Q z0 z1 → Q' z0 z1) (lk182 : ∀ t, h_k182 t = true → h t = true) (hk182 : ∀ z0 z1 z2 z3 z4 z5 z6, Ow w D T h_k182 M0 z6 → k182 z0 z1 z2 z3 z4 z5 z6 → k182' z0 z1 z2 z3 z4 z5 z6) : Ow w D T h M0 M → w_Works_change_j202 this Q k182 v2 v3 v4 v5 v7 v9 M → w_Works_change_j202 this Q' k182' v2 v3 v4 v5 v7 v9 M := by
  intro hf
  unfold w_Works_change_j202
  exact (mf_ite (mf_ite (mo_w_Works_change_j224 hD  lQ hQ lk182 hk182 hf) (mo_w_Works_change_j213 hD  lQ hQ lk182 hk182 hf)) (mo_w_Works_change_j213 hD  lQ hQ lk182 hk182 hf))
set_option maxRecDepth 20000 in
theorem mo_w_Works_change_L182 {w : Nat} {D : Nat → Nat → Prop} {T : Nat → Prop} {h : Hot} {this : Nat} {Q Q' : Int32 → Mem → Prop} {h_Q : Hot} {M0 : Mem} (hD : Dok w D)  (lQ : ∀ t, h_Q t = true → h t = true) (hQ : ∀ z0 z1, Ow w D T h_Q M0 z1 → Q z0 z1 → Q' z0 z1) : ∀ (n : Nat) (v2 : Int32) (v3 : Int32) (v4 : Int32) (v5 : Int32) (v7 : Nat) (v9 : Int32) (M : Mem), Ow w D T h M0 M → w_Works_change_L182 this Q n v2 v3 v4 v5 v7 v9 M → w_Works_change_L182 this Q' n v2 v3 v4 v5 v7 v9 M
  | 0, _, _, _, _, _, _, _ => fun  _ h => h
  | n + 1, v2, v3, v4, v5, v7, v9, M => fun  hf => by
    unfold w_Works_change_L182
    exact (mf_ite (mf_and fun _ => (Exists.imp fun i26 => (mf_and fun e1 => (mf_and fun _ => (mf_and fun _ => (mf_and fun _ => (mf_and fun _ => (mf_and fun _ => (Exists.imp fun M27 => (mf_and fun e3 => (have g4 : Ow w D T _ M0 M27 := Ow.of e3 (Ow.wcp (ow0 rfl) hf); (mf_and fun _ => (have g5 : Ow w D T _ M0 (sI M27 98 this (mI M27 10 this 10).toNatClampNeg (mI M27 10 this 30)) := (Ow.wI (ow0 rfl) g4); (mo_w_Works_forget hD  (fun M34 f6 => (have g7 : Ow w D T _ M0 M34 := (Ow.trans g5 f6); (hQ _ _  (Ow.dn lQ (Ow.wI (ow0 rfl) g7))))) g5.1)))))))))))))) (mf_ite (mf_ite (mo_w_Works_change_j276 hD  lQ hQ (fun _ e => e) (fun y0 y1 y2 y3 y4 y5 y6  hf => mo_w_Works_change_L182 hD  lQ hQ n y0 y1 y2 y3 y4 y5 y6  hf) hf) (mo_w_Works_change_j202 hD  lQ hQ (fun _ e => e) (fun y0 y1 y2 y3 y4 y5 y6  hf => mo_w_Works_change_L182 hD  lQ hQ n y0 y1 y2 y3 y4 y5 y6  hf) hf)) (mo_w_Works_change_j202 hD  lQ hQ (fun _ e => e) (fun y0 y1 y2 y3 y4 y5 y6  hf => mo_w_Works_change_L182 hD  lQ hQ n y0 y1 y2 y3 y4 y5 y6  hf) hf)))
set_option maxRecDepth 20000 in
theorem mo_w_Works_change_j174 {w : Nat} {D : Nat → Nat → Prop} {T : Nat → Prop} {h : Hot} {this : Nat} {Q Q' : Int32 → Mem → Prop} {h_Q : Hot} {v2 : Int32} {v3 : Int32} {v4 : Int32} {v5 : Int32} {v7 : Nat} {M : Mem} {M0 : Mem} (hD : Dok w D)  (lQ : ∀ t, h_Q t = true → h t = true) (hQ : ∀ z0 z1, Ow w D T h_Q M0 z1 → Q z0 z1 → Q' z0 z1) : Ow w D T h M0 M → w_Works_change_j174 this Q v2 v3 v4 v5 v7 M → w_Works_change_j174 this Q' v2 v3 v4 v5 v7 M := by
  intro hf
  unfold w_Works_change_j174
  exact (Exists.imp fun n47 => (have g1 : Ow w D T _ M0 (sI M 10 this 30 (0 : Int32)) := (Ow.wI (ow0 rfl) hf); (mo_w_Works_change_L182 hD  lQ hQ _ _ _ _ _ _ _ _  g1)))
set_option maxRecDepth 20000 in
theorem mo_w_Works_change_j133 {w : Nat} {D : Nat → Nat → Prop} {T : Nat → Prop} {h : Hot} {this : Nat} {Q Q' : Int32 → Mem → Prop} {h_Q : Hot} {v1 : Int32} {v2 : Int32} {v3 : Int32} {v4 : Int32} {v5 : Int32} {v7 : Nat} {s0 : Int32} {M : Mem} {M0 : Mem} (hD : Dok w D)  (lQ : ∀ t, h_Q t = true → h t = true) (hQ : ∀ z0 z1, Ow w D T h_Q M0 z1 → Q z0 z1 → Q' z0 z1) : Ow w D T h M0 M → w_Works_change_j133 this Q v1 v2 v3 v4 v5 v7 s0 M → w_Works_change_j133 this Q' v1 v2 v3 v4 v5 v7 s0 M := by
  intro hf
  unfold w_Works_change_j133
  exact (mf_ite (hQ _ _  (Ow.dn lQ hf)) (mf_and fun _ => (mf_ite (hQ _ _  (Ow.dn lQ hf)) (mf_ite (mf_ite (hQ _ _  (Ow.dn lQ hf)) (mo_w_Works_change_j174 hD  lQ hQ hf)) (mo_w_Works_change_j174 hD  lQ hQ hf)))))
set_option maxRecDepth 20000 in
theorem mo_w_Works_change_j70 {w : Nat} {D : Nat → Nat → Prop} {T : Nat → Prop} {h : Hot} {this : Nat} {Q Q' : Int32 → Mem → Prop} {h_Q : Hot} {v1 : Int32} {v2 : Int32} {v3 : Int32} {v4 : Int32} {v5 : Int32} {M : Mem} {M0 : Mem} (hD : Dok w D)  (lQ : ∀ t, h_Q t = true → h t = true) (hQ : ∀ z0 z1, Ow w D T h_Q M0 z1 → Q z0 z1 → Q' z0 z1) : Ow w D T h M0 M → w_Works_change_j70 this Q v1 v2 v3 v4 v5 M → w_Works_change_j70 this Q' v1 v2 v3 v4 v5 M := by
  intro hf
  unfold w_Works_change_j70
  exact (mf_and fun _ => (Exists.imp fun i15 => (mf_and fun e1 => (mf_ite (mo_w_Works_lengthOf hD  (fun r18 M17 f3 => (have g4 : Ow w D T _ M0 M17 := (Ow.trans hf f3); (mo_w_Works_change_j133 hD  lQ hQ g4))) hf.1) (mf_ite (mo_w_Works_lengthOf hD  (fun r50 M49 f5 => (have g6 : Ow w D T _ M0 M49 := (Ow.trans hf f5); (mo_w_Works_change_j133 hD  lQ hQ g6))) hf.1) (mf_ite (mo_w_Works_lengthOf hD  (fun r53 M52 f7 => (have g8 : Ow w D T _ M0 M52 := (Ow.trans hf f7); (mo_w_Works_lengthOf hD  (fun r55 M54 f9 => (have g10 : Ow w D T _ M0 M54 := (Ow.trans g8 f9); (mo_w_Works_change_j133 hD  lQ hQ g10))) g8.1))) hf.1) (mo_w_Works_change_j133 hD  lQ hQ hf)))))))
set_option maxRecDepth 20000 in
theorem mo_w_Works_change_j36 {w : Nat} {D : Nat → Nat → Prop} {T : Nat → Prop} {h : Hot} {this : Nat} {Q Q' : Int32 → Mem → Prop} {h_Q : Hot} {v1 : Int32} {v2 : Int32} {v3 : Int32} {v4 : Int32} {v5 : Int32} {s0 : Int32} {M : Mem} {M0 : Mem} (hD : Dok w D)  (lQ : ∀ t, h_Q t = true → h t = true) (hQ : ∀ z0 z1, Ow w D T h_Q M0 z1 → Q z0 z1 → Q' z0 z1) : Ow w D T h M0 M → w_Works_change_j36 this Q v1 v2 v3 v4 v5 s0 M → w_Works_change_j36 this Q' v1 v2 v3 v4 v5 s0 M := by
  intro hf
  unfold w_Works_change_j36
  exact (mo_w_Works_isIn hD  (fun r11 M10 f1 => (have g2 : Ow w D T _ M0 M10 := (Ow.trans hf f1); (mf_ite (hQ _ _  (Ow.dn lQ g2)) (mf_ite (mo_w_Works_change_j70 hD  lQ hQ g2) (mo_w_Works_isIn hD  (fun r57 M56 f3 => (have g4 : Ow w D T _ M0 M56 := (Ow.trans g2 f3); (mf_ite (hQ _ _  (Ow.dn lQ g4)) (mo_w_Works_change_j70 hD  lQ hQ g4)))) g2.1))))) hf.1)
set_option maxRecDepth 20000 in
theorem mo_w_Works_change {w : Nat} {D : Nat → Nat → Prop} {T : Nat → Prop} {h : Hot} {this : Nat} {a1 : Int32} {a2 : Int32} {a3 : Int32} {a4 : Int32} {Q Q' : Int32 → Mem → Prop} {M : Mem} (hD : Dok w D)  (hQ : ∀ z0 z1, Ow w D T h M z1 → Q z0 z1 → Q' z0 z1) : St w D T h M → w_Works_change this a1 a2 a3 a4 Q M → w_Works_change this a1 a2 a3 a4 Q' M := by
  intro hs
  unfold w_Works_change
  exact (mo_w_Works_isTrial hD  (fun r2 M1 f1 => (have g2 : Ow w D T _ M M1 := (Ow.trans (Ow.rf hs) f1); (mf_ite (hQ _ _  g2) (mo_w_Works_isIn hD  (fun r5 M4 f3 => (have g4 : Ow w D T _ M M4 := (Ow.trans g2 f3); (mf_ite (hQ _ _  g4) (mo_w_Works_lines hD  (fun r8 M7 f5 => (have g6 : Ow w D T _ M M7 := (Ow.trans g4 f5); (mf_ite (mo_w_Works_change_j36 hD  (fun _ e => e) hQ g6) (mo_w_Works_change_j36 hD  (fun _ e => e) hQ g6)))) g4.1)))) g2.1)))) (Ow.rf hs).1)
set_option maxRecDepth 20000 in
theorem mo_w_Works_linesOf_L43 {w : Nat} {D : Nat → Nat → Prop} {T : Nat → Prop} {h : Hot} {this : Nat} {Q Q' : Int32 → Mem → Prop} {h_Q : Hot} {M0 : Mem} (hD : Dok w D)  (lQ : ∀ t, h_Q t = true → h t = true) (hQ : ∀ z0 z1, Ow w D T h_Q M0 z1 → Q z0 z1 → Q' z0 z1) : ∀ (n : Nat) (v1 : Int32) (v2 : Int32) (M : Mem), Ow w D T h M0 M → w_Works_linesOf_L43 this Q n v1 v2 M → w_Works_linesOf_L43 this Q' n v1 v2 M
  | 0, _, _, _ => fun  _ h => h
  | n + 1, v1, v2, M => fun  hf => by
    unfold w_Works_linesOf_L43
    exact (mf_ite (hQ _ _  (Ow.dn lQ hf)) (mo_w_Reader_nextLine hD  (fun r5 M4 f1 => (have g2 : Ow w D T _ M0 M4 := (Ow.trans hf f1); (mo_w_Works_linesOf_L43 hD  lQ hQ _ _ _ _  g2))) hf.1))
set_option maxRecDepth 20000 in
theorem mo_w_Works_linesOf_j42 {w : Nat} {D : Nat → Nat → Prop} {T : Nat → Prop} {h : Hot} {this : Nat} {Q Q' : Int32 → Mem → Prop} {h_Q : Hot} {v1 : Int32} {s0 : Int32} {M : Mem} {M0 : Mem} (hD : Dok w D)  (lQ : ∀ t, h_Q t = true → h t = true) (hQ : ∀ z0 z1, Ow w D T h_Q M0 z1 → Q z0 z1 → Q' z0 z1) : Ow w D T h M0 M → w_Works_linesOf_j42 this Q v1 s0 M → w_Works_linesOf_j42 this Q' v1 s0 M := by
  intro hf
  unfold w_Works_linesOf_j42
  exact (Exists.imp fun n6 => (mo_w_Works_linesOf_L43 hD  lQ hQ _ _ _ _  hf))
set_option maxRecDepth 20000 in
theorem mo_w_Works_linesOf_j41 {w : Nat} {D : Nat → Nat → Prop} {T : Nat → Prop} {h : Hot} {this : Nat} {Q Q' : Int32 → Mem → Prop} {h_Q : Hot} {v1 : Int32} {M : Mem} {M0 : Mem} (hD : Dok w D)  (lQ : ∀ t, h_Q t = true → h t = true) (hQ : ∀ z0 z1, Ow w D T h_Q M0 z1 → Q z0 z1 → Q' z0 z1) : Ow w D T h M0 M → w_Works_linesOf_j41 this Q v1 M → w_Works_linesOf_j41 this Q' v1 M := by
  intro hf
  unfold w_Works_linesOf_j41
  exact (mo_w_Works_linesOf_j42 hD  lQ hQ hf)
set_option maxRecDepth 20000 in
theorem mo_w_Works_linesOf {w : Nat} {D : Nat → Nat → Prop} {T : Nat → Prop} {h : Hot} {this : Nat} {Q Q' : Int32 → Mem → Prop} {M : Mem} (hD : Dok w D)  (hQ : ∀ z0 z1, Ow w D T h M z1 → Q z0 z1 → Q' z0 z1) : St w D T h M → w_Works_linesOf this Q M → w_Works_linesOf this Q' M := by
  intro hs
  unfold w_Works_linesOf
  exact (mo_w_Words_begin hD  (fun M1 f1 => (have g2 : Ow w D T _ M M1 := (Ow.trans (Ow.rf hs) f1); (mf_ite (mo_w_Works_linesOf_j41 hD  (fun _ e => e) hQ g2) (mo_w_Reader_begin hD  (fun r8 M7 f3 => (have g4 : Ow w D T _ M M7 := (Ow.trans g2 f3); (mf_ite (mo_w_Works_linesOf_j41 hD  (fun _ e => e) hQ g4) (mo_w_Works_linesOf_j42 hD  (fun _ e => e) hQ g4)))) g2.1)))) (Ow.rf hs).1)
set_option maxRecDepth 20000 in
theorem mo_w_Works_trial_j281 {w : Nat} {D : Nat → Nat → Prop} {T : Nat → Prop} {h : Hot} {this : Nat} {Q Q' : Int32 → Mem → Prop} {h_Q : Hot} {s0 : Nat} {M : Mem} {M0 : Mem} (hD : Dok w D)  (lQ : ∀ t, h_Q t = true → h t = true) (hQ : ∀ z0 z1, Ow w D T h_Q M0 z1 → Q z0 z1 → Q' z0 z1) : Ow w D T h M0 M → w_Works_trial_j281 this Q s0 M → w_Works_trial_j281 this Q' s0 M := by
  intro hf
  unfold w_Works_trial_j281
  exact (hQ _ _  (Ow.dn lQ (Ow.wI (ow0 rfl) hf)))
set_option maxRecDepth 20000 in
theorem mo_w_Works_trial_L158 {w : Nat} {D : Nat → Nat → Prop} {T : Nat → Prop} {h : Hot} {this : Nat} {Q Q' : Int32 → Mem → Prop} {h_Q : Hot} {k114 k114' : Int32 → Int32 → Int32 → Nat → Int32 → Nat → Mem → Prop} {h_k114 : Hot} {M0 : Mem} (hD : Dok w D)  (lQ : ∀ t, h_Q t = true → h t = true) (hQ : ∀ z0 z1, Ow w D T h_Q M0 z1 → Q z0 z1 → Q' z0 z1) (lk114 : ∀ t, h_k114 t = true → h t = true) (hk114 : ∀ z0 z1 z2 z3 z4 z5 z6, Ow w D T h_k114 M0 z6 → k114 z0 z1 z2 z3 z4 z5 z6 → k114' z0 z1 z2 z3 z4 z5 z6) : ∀ (n : Nat) (v1 : Int32) (v2 : Int32) (v3 : Int32) (v4 : Nat) (v6 : Nat) (v8 : Int32) (M : Mem), Ow w D T h M0 M → w_Works_trial_L158 this Q k114 n v1 v2 v3 v4 v6 v8 M → w_Works_trial_L158 this Q' k114' n v1 v2 v3 v4 v6 v8 M
  | 0, _, _, _, _, _, _, _ => fun  _ h => h
  | n + 1, v1, v2, v3, v4, v6, v8, M => fun  hf => by
    unfold w_Works_trial_L158
    exact (mo_w_Words_peek hD  (fun r29 M28 f1 => (have g2 : Ow w D T _ M0 M28 := (Ow.trans hf f1); (mf_ite (mf_and fun _ => (have g3 : Ow w D T _ M0 (sI M28 400 v6 v2.toNatClampNeg ((10 : Int32).toInt8.toInt32)) := (Ow.wI (ow0 rfl) g2); (mo_w_Reader_nextLine hD  (fun r33 M32 f4 => (have g5 : Ow w D T _ M0 M32 := (Ow.trans g3 f4); (hk114 _ _ _ _ _ _ _  (Ow.dn lk114 g5)))) g3.1))) (mf_and fun _ => (mf_and fun _ => (Exists.imp fun M36 => (mf_and fun e6 => (have g7 : Ow w D T _ M0 M36 := Ow.of e6 (Ow.wI (ow0 rfl) g2); (mo_w_Works_trial_L158 hD  lQ hQ lk114 hk114 _ _ _ _ _ _ _ _  g7))))))))) hf.1)
set_option maxRecDepth 20000 in
theorem mo_w_Works_trial_j151 {w : Nat} {D : Nat → Nat → Prop} {T : Nat → Prop} {h : Hot} {this : Nat} {Q Q' : Int32 → Mem → Prop} {h_Q : Hot} {k114 k114' : Int32 → Int32 → Int32 → Nat → Int32 → Nat → Mem → Prop} {h_k114 : Hot} {v1 : Int32} {v2 : Int32} {v4 : Nat} {v6 : Nat} {v7 : Int32} {M : Mem} {M0 : Mem} (hD : Dok w D)  (lQ : ∀ t, h_Q t = true → h t = true) (hQ : ∀ z0 z1, Ow w D T h_Q M0 z1 → Q z0 z1 → Q' z0 z1) (lk114 : ∀ t, h_k114 t = true → h t = true) (hk114 : ∀ z0 z1 z2 z3 z4 z5 z6, Ow w D T h_k114 M0 z6 → k114 z0 z1 z2 z3 z4 z5 z6 → k114' z0 z1 z2 z3 z4 z5 z6) : Ow w D T h M0 M → w_Works_trial_j151 this Q k114 v1 v2 v4 v6 v7 M → w_Works_trial_j151 this Q' k114' v1 v2 v4 v6 v7 M := by
  intro hf
  unfold w_Works_trial_j151
  exact (Exists.imp fun n37 => (mo_w_Works_trial_L158 hD  lQ hQ lk114 hk114 _ _ _ _ _ _ _ _  hf))
set_option maxRecDepth 20000 in
theorem mo_w_Works_trial_L126 {w : Nat} {D : Nat → Nat → Prop} {T : Nat → Prop} {h : Hot} {this : Nat} {Q Q' : Int32 → Mem → Prop} {h_Q : Hot} {k114 k114' : Int32 → Int32 → Int32 → Nat → Int32 → Nat → Mem → Prop} {h_k114 : Hot} {M0 : Mem} (hD : Dok w D)  (lQ : ∀ t, h_Q t = true → h t = true) (hQ : ∀ z0 z1, Ow w D T h_Q M0 z1 → Q z0 z1 → Q' z0 z1) (lk114 : ∀ t, h_k114 t = true → h t = true) (hk114 : ∀ z0 z1 z2 z3 z4 z5 z6, Ow w D T h_k114 M0 z6 → k114 z0 z1 z2 z3 z4 z5 z6 → k114' z0 z1 z2 z3 z4 z5 z6) : ∀ (n : Nat) (v1 : Int32) (v2 : Int32) (v4 : Nat) (v6 : Nat) (v7 : Int32) (M : Mem), Ow w D T h M0 M → w_Works_trial_L126 this Q k114 n v1 v2 v4 v6 v7 M → w_Works_trial_L126 this Q' k114' n v1 v2 v4 v6 v7 M
  | 0, _, _, _, _, _, _ => fun  _ h => h
  | n + 1, v1, v2, v4, v6, v7, M => fun  hf => by
    unfold w_Works_trial_L126
    exact (mf_ite (mo_w_Works_trial_j151 hD  lQ hQ lk114 hk114 hf) (mf_and fun _ => (mf_ite (mo_w_Works_trial_j151 hD  lQ hQ lk114 hk114 hf) (mo_w_Works_trial_L126 hD  lQ hQ lk114 hk114 _ _ _ _ _ _ _  hf))))
set_option maxRecDepth 20000 in
theorem mo_w_Works_trial_L114 {w : Nat} {D : Nat → Nat → Prop} {T : Nat → Prop} {h : Hot} {this : Nat} {Q Q' : Int32 → Mem → Prop} {h_Q : Hot} {M0 : Mem} (hD : Dok w D) (n0 : w = 0) (lQ : ∀ t, h_Q t = true → h t = true) (hQ : ∀ z0 z1, Ow w D T h_Q M0 z1 → Q z0 z1 → Q' z0 z1) : ∀ (n : Nat) (v1 : Int32) (v2 : Int32) (v3 : Int32) (v4 : Nat) (v5 : Int32) (v6 : Nat) (M : Mem), Ow w D T h M0 M → w_Works_trial_L114 this Q n v1 v2 v3 v4 v5 v6 M → w_Works_trial_L114 this Q' n v1 v2 v3 v4 v5 v6 M
  | 0, _, _, _, _, _, _, _ => fun  _ h => h
  | n + 1, v1, v2, v3, v4, v5, v6, M => fun  hf => by
    unfold w_Works_trial_L114
    exact (mf_ite (mo_w_Words_begin hD  (fun M14 f1 => (have g2 : Ow w D T _ M0 M14 := (Ow.trans hf f1); (have g3 : Ow w D T _ M0 (sI M14 2 v4 2 v3) := (Ow.wI (ow0 rfl) g2); (mo_w_Words_next hD  (fun M15 f4 => (have g5 : Ow w D T _ M0 M15 := (Ow.trans g3 f4); (mo_w_Words_isWord hD  (fun r17 M16 f6 => (have g7 : Ow w D T _ M0 M16 := (Ow.trans g5 f6); (mf_ite (mo_w_Works_refuse hD  (fun i20 M19 f8 => (have g9 : Ow w D T _ M0 M19 := (Ow.trans g7 f8); (mo_w_Works_trial_j281 hD  lQ hQ g9))) g7.1) (mo_w_Words_next hD  (fun M21 f10 => (have g11 : Ow w D T _ M0 M21 := (Ow.trans g7 f10); (mo_w_World_begin hD (owz n0 rfl) (fun M22 f12 => (have g13 : Ow w D T _ M0 M22 := (Ow.trans g11 f12); (mo_w_Reader_call hD (owz n0 rfl) (fun M23 f14 => (have g15 : Ow w D T _ M0 M23 := (Ow.trans g13 f14); (mf_and fun _ => (have g16 : Ow w D T _ M0 (sI M23 98 this (mI M23 10 this 10).toNatClampNeg v2) := (Ow.wI (ow0 rfl) g15); (mo_w_Works_forget hD  (fun M25 f17 => (have g18 : Ow w D T _ M0 M25 := (Ow.trans g16 f17); (hQ _ _  (Ow.dn lQ (Ow.wI (ow0 rfl) g18))))) g16.1))))) (fun M26 f19 => (have g20 : Ow w D T _ M0 M26 := (Ow.trans g13 f19); (mo_w_Works_trial_j281 hD  lQ hQ g20))) g13.1))) g11.1))) g7.1)))) g5.1))) g3.1)))) hf.1) (Exists.imp fun n40 => (mo_w_Works_trial_L126 hD  lQ hQ (fun _ e => e) (fun y0 y1 y2 y3 y4 y5 y6  hf => mo_w_Works_trial_L114 hD n0 lQ hQ n y0 y1 y2 y3 y4 y5 y6  hf) _ _ _ _ _ _ _  hf)))
set_option maxRecDepth 20000 in
theorem mo_w_Works_trial_j89 {w : Nat} {D : Nat → Nat → Prop} {T : Nat → Prop} {h : Hot} {this : Nat} {Q Q' : Int32 → Mem → Prop} {h_Q : Hot} {v1 : Int32} {v2 : Int32} {v3 : Int32} {v4 : Nat} {s0 : Int32} {M : Mem} {M0 : Mem} (hD : Dok w D) (n0 : w = 0) (lQ : ∀ t, h_Q t = true → h t = true) (hQ : ∀ z0 z1, Ow w D T h_Q M0 z1 → Q z0 z1 → Q' z0 z1) : Ow w D T h M0 M → w_Works_trial_j89 this Q v1 v2 v3 v4 s0 M → w_Works_trial_j89 this Q' v1 v2 v3 v4 s0 M := by
  intro hf
  unfold w_Works_trial_j89
  exact (mf_ite (mo_w_Works_refuse hD  (fun i10 M9 f1 => (have g2 : Ow w D T _ M0 M9 := (Ow.trans hf f1); (mo_w_Works_trial_j281 hD  lQ hQ g2))) hf.1) (mf_and fun _ => (Exists.imp fun i12 => (mf_and fun e3 => (Exists.imp fun n41 => (mo_w_Works_trial_L114 hD n0 lQ hQ _ _ _ _ _ _ _ _  hf))))))
set_option maxRecDepth 20000 in
theorem mo_w_Works_trial_j88 {w : Nat} {D : Nat → Nat → Prop} {T : Nat → Prop} {h : Hot} {this : Nat} {Q Q' : Int32 → Mem → Prop} {h_Q : Hot} {v1 : Int32} {v2 : Int32} {v3 : Int32} {v4 : Nat} {M : Mem} {M0 : Mem} (hD : Dok w D) (n0 : w = 0) (lQ : ∀ t, h_Q t = true → h t = true) (hQ : ∀ z0 z1, Ow w D T h_Q M0 z1 → Q z0 z1 → Q' z0 z1) : Ow w D T h M0 M → w_Works_trial_j88 this Q v1 v2 v3 v4 M → w_Works_trial_j88 this Q' v1 v2 v3 v4 M := by
  intro hf
  unfold w_Works_trial_j88
  exact (mo_w_Works_trial_j89 hD n0 lQ hQ hf)
set_option maxRecDepth 20000 in
theorem mo_w_Works_trial {w : Nat} {D : Nat → Nat → Prop} {T : Nat → Prop} {h : Hot} {this : Nat} {Q Q' : Int32 → Mem → Prop} {M : Mem} (hD : Dok w D) (n0 : w = 0) (hQ : ∀ z0 z1, Ow w D T h M z1 → Q z0 z1 → Q' z0 z1) : St w D T h M → w_Works_trial this Q M → w_Works_trial this Q' M := by
  intro hs
  unfold w_Works_trial
  exact (mf_ite (hQ _ _  (Ow.rf hs)) (mf_ite (hQ _ _  (Ow.rf hs)) (mo_w_Works_linesOf hD  (fun r4 M3 f1 => (have g2 : Ow w D T _ M M3 := (Ow.trans (Ow.rf hs) f1); (mf_ite (have g3 : Ow w D T _ M (sI (sI M3 10 this 1 (0 : Int32)) 10 this 21 (-2 : Int32)) := (Ow.wI (ow0 rfl) (Ow.wI (ow0 rfl) g2)); (mo_w_Words_begin hD  (fun M6 f4 => (have g5 : Ow w D T _ M M6 := (Ow.trans g3 f4); (mf_ite (mo_w_Works_trial_j88 hD n0 (fun _ e => e) hQ g5) (mo_w_Reader_begin hD  (fun r43 M42 f6 => (have g7 : Ow w D T _ M M42 := (Ow.trans g5 f6); (mf_ite (mo_w_Works_trial_j88 hD n0 (fun _ e => e) hQ g7) (mo_w_Works_trial_j89 hD n0 (fun _ e => e) hQ g7)))) g5.1)))) g3.1)) (hQ _ _  g2)))) (Ow.rf hs).1)))
set_option maxRecDepth 20000 in
theorem mo_w_Works_outcome {w : Nat} {D : Nat → Nat → Prop} {T : Nat → Prop} {h : Hot} {this : Nat} {a1 : Int32} {a2 : Int32} {a3 : Int32} {Q Q' : Int32 → Mem → Prop} {X X' : Mem → Prop} {M : Mem} (hD : Dok w D) (n0 : w = 0) (hQ : ∀ z0 z1, Ow w D T h M z1 → Q z0 z1 → Q' z0 z1) (hX : ∀ z0, Ow w D T h M z0 → X z0 → X' z0) : St w D T h M → w_Works_outcome this a1 a2 a3 Q X M → w_Works_outcome this a1 a2 a3 Q' X' M := by
  intro hs
  unfold w_Works_outcome
  exact (mo_w_Works_isTrial hD  (fun r2 M1 f1 => (have g2 : Ow w D T _ M M1 := (Ow.trans (Ow.rf hs) f1); (mf_ite (hQ _ _  g2) (mo_w_Works_isIn hD  (fun r5 M4 f3 => (have g4 : Ow w D T _ M M4 := (Ow.trans g2 f3); (mf_ite (hQ _ _  g4) (mo_w_Works_isIn hD  (fun r8 M7 f5 => (have g6 : Ow w D T _ M M7 := (Ow.trans g4 f5); (mf_ite (hQ _ _  g6) (mo_w_Works_work2 hD n0 (fun M10 f7 => (have g8 : Ow w D T _ M M10 := (Ow.trans g6 f7); (mf_ite (hQ _ _  g8) (hQ _ _  g8)))) (fun z10 f9 => hX z10 (Ow.trans g6 f9)) g6.1)))) g4.1)))) g2.1)))) (Ow.rf hs).1)
set_option maxRecDepth 20000 in
theorem mo_w_Works_meets {w : Nat} {D : Nat → Nat → Prop} {T : Nat → Prop} {h : Hot} {this : Nat} {a1 : Int32} {Q Q' : Int32 → Mem → Prop} {X X' : Mem → Prop} {M : Mem} (hD : Dok w D) (n0 : w = 0) (hQ : ∀ z0 z1, Ow w D T h M z1 → Q z0 z1 → Q' z0 z1) (hX : ∀ z0, Ow w D T h M z0 → X z0 → X' z0) : St w D T h M → w_Works_meets this a1 Q X M → w_Works_meets this a1 Q' X' M := by
  intro hs
  unfold w_Works_meets
  exact (mo_w_Works_isTrial hD  (fun r2 M1 f1 => (have g2 : Ow w D T _ M M1 := (Ow.trans (Ow.rf hs) f1); (mf_ite (hQ _ _  g2) (mo_w_Works_ruleMet hD n0 (fun r5 M4 f3 => (have g4 : Ow w D T _ M M4 := (Ow.trans g2 f3); (hQ _ _  g4))) (fun z6 f5 => hX z6 (Ow.trans g2 f5)) g2.1)))) (Ow.rf hs).1)
set_option maxRecDepth 20000 in
theorem mo_w_Works_finds {w : Nat} {D : Nat → Nat → Prop} {T : Nat → Prop} {h : Hot} {this : Nat} {a1 : Int32} {a2 : Int32} {Q Q' : Int32 → Mem → Prop} {X X' : Mem → Prop} {M : Mem} (hD : Dok w D) (n0 : w = 0) (hQ : ∀ z0 z1, Ow w D T h M z1 → Q z0 z1 → Q' z0 z1) (hX : ∀ z0, Ow w D T h M z0 → X z0 → X' z0) : St w D T h M → w_Works_finds this a1 a2 Q X M → w_Works_finds this a1 a2 Q' X' M := by
  intro hs
  unfold w_Works_finds
  exact (mo_w_Works_isTrial hD  (fun r2 M1 f1 => (have g2 : Ow w D T _ M M1 := (Ow.trans (Ow.rf hs) f1); (mf_ite (hQ _ _  g2) (mo_w_Works_isIn hD  (fun r5 M4 f3 => (have g4 : Ow w D T _ M M4 := (Ow.trans g2 f3); (mf_ite (hQ _ _  g4) (mo_w_Works_finds0 hD n0 (fun r8 M7 f5 => (have g6 : Ow w D T _ M M7 := (Ow.trans g4 f5); (mf_ite (hQ _ _  g6) (hQ _ _  g6)))) (fun z8 f7 => hX z8 (Ow.trans g4 f7)) g4.1)))) g2.1)))) (Ow.rf hs).1)
set_option maxRecDepth 20000 in
theorem mo_w_Works_hole_j87 {w : Nat} {D : Nat → Nat → Prop} {T : Nat → Prop} {h : Hot} {this : Nat} {Q Q' : Int32 → Mem → Prop} {h_Q : Hot} {X X' : Mem → Prop} {h_X : Hot} {k10 k10' : Int32 → Int32 → Mem → Prop} {h_k10 : Hot} {v2 : Int32} {v3 : Int32} {M : Mem} {M0 : Mem} (hD : Dok w D)  (lQ : ∀ t, h_Q t = true → h t = true) (hQ : ∀ z0 z1, Ow w D T h_Q M0 z1 → Q z0 z1 → Q' z0 z1) (lX : ∀ t, h_X t = true → h t = true) (hX : ∀ z0, Ow w D T h_X M0 z0 → X z0 → X' z0) (lk10 : ∀ t, h_k10 t = true → h t = true) (hk10 : ∀ z0 z1 z2, Ow w D T h_k10 M0 z2 → k10 z0 z1 z2 → k10' z0 z1 z2) : Ow w D T h M0 M → w_Works_hole_j87 this Q X k10 v2 v3 M → w_Works_hole_j87 this Q' X' k10' v2 v3 M := by
  intro hf
  unfold w_Works_hole_j87
  exact (hk10 _ _ _  (Ow.dn lk10 hf))
set_option maxRecDepth 20000 in
theorem mo_w_Works_hole_j70 {w : Nat} {D : Nat → Nat → Prop} {T : Nat → Prop} {h : Hot} {this : Nat} {Q Q' : Int32 → Mem → Prop} {h_Q : Hot} {X X' : Mem → Prop} {h_X : Hot} {k10 k10' : Int32 → Int32 → Mem → Prop} {h_k10 : Hot} {v2 : Int32} {v3 : Int32} {v4 : Int32} {M : Mem} {M0 : Mem} (hD : Dok w D)  (lQ : ∀ t, h_Q t = true → h t = true) (hQ : ∀ z0 z1, Ow w D T h_Q M0 z1 → Q z0 z1 → Q' z0 z1) (lX : ∀ t, h_X t = true → h t = true) (hX : ∀ z0, Ow w D T h_X M0 z0 → X z0 → X' z0) (lk10 : ∀ t, h_k10 t = true → h t = true) (hk10 : ∀ z0 z1 z2, Ow w D T h_k10 M0 z2 → k10 z0 z1 z2 → k10' z0 z1 z2) : Ow w D T h M0 M → w_Works_hole_j70 this Q X k10 v2 v3 v4 M → w_Works_hole_j70 this Q' X' k10' v2 v3 v4 M := by
  intro hf
  unfold w_Works_hole_j70
  exact (mf_ite (mf_ite (hQ _ _  (Ow.dn lQ hf)) (mo_w_Works_hole_j87 hD  lQ hQ lX hX lk10 hk10 hf)) (mo_w_Works_hole_j87 hD  lQ hQ lX hX lk10 hk10 hf))
set_option maxRecDepth 20000 in
theorem mo_w_Works_hole_j62 {w : Nat} {D : Nat → Nat → Prop} {T : Nat → Prop} {h : Hot} {this : Nat} {Q Q' : Int32 → Mem → Prop} {h_Q : Hot} {X X' : Mem → Prop} {h_X : Hot} {k10 k10' : Int32 → Int32 → Mem → Prop} {h_k10 : Hot} {k33 k33' : Int32 → Int32 → Int32 → Int32 → Mem → Prop} {h_k33 : Hot} {v2 : Int32} {v3 : Int32} {v5 : Int32} {s0 : Int32} {M : Mem} {M0 : Mem} (hD : Dok w D)  (lQ : ∀ t, h_Q t = true → h t = true) (hQ : ∀ z0 z1, Ow w D T h_Q M0 z1 → Q z0 z1 → Q' z0 z1) (lX : ∀ t, h_X t = true → h t = true) (hX : ∀ z0, Ow w D T h_X M0 z0 → X z0 → X' z0) (lk10 : ∀ t, h_k10 t = true → h t = true) (hk10 : ∀ z0 z1 z2, Ow w D T h_k10 M0 z2 → k10 z0 z1 z2 → k10' z0 z1 z2) (lk33 : ∀ t, h_k33 t = true → h t = true) (hk33 : ∀ z0 z1 z2 z3 z4, Ow w D T h_k33 M0 z4 → k33 z0 z1 z2 z3 z4 → k33' z0 z1 z2 z3 z4) : Ow w D T h M0 M → w_Works_hole_j62 this Q X k10 k33 v2 v3 v5 s0 M → w_Works_hole_j62 this Q' X' k10' k33' v2 v3 v5 s0 M := by
  intro hf
  unfold w_Works_hole_j62
  exact (hk33 _ _ _ _ _  (Ow.dn lk33 hf))
set_option maxRecDepth 20000 in
theorem mo_w_Works_hole_L33 {w : Nat} {D : Nat → Nat → Prop} {T : Nat → Prop} {h : Hot} {this : Nat} {Q Q' : Int32 → Mem → Prop} {h_Q : Hot} {X X' : Mem → Prop} {h_X : Hot} {k10 k10' : Int32 → Int32 → Mem → Prop} {h_k10 : Hot} {M0 : Mem} (hD : Dok w D) (n0 : w = 0) (lQ : ∀ t, h_Q t = true → h t = true) (hQ : ∀ z0 z1, Ow w D T h_Q M0 z1 → Q z0 z1 → Q' z0 z1) (lX : ∀ t, h_X t = true → h t = true) (hX : ∀ z0, Ow w D T h_X M0 z0 → X z0 → X' z0) (lk10 : ∀ t, h_k10 t = true → h t = true) (hk10 : ∀ z0 z1 z2, Ow w D T h_k10 M0 z2 → k10 z0 z1 z2 → k10' z0 z1 z2) : ∀ (n : Nat) (v2 : Int32) (v3 : Int32) (v4 : Int32) (v5 : Int32) (M : Mem), Ow w D T h M0 M → w_Works_hole_L33 this Q X k10 n v2 v3 v4 v5 M → w_Works_hole_L33 this Q' X' k10' n v2 v3 v4 v5 M
  | 0, _, _, _, _, _ => fun  _ h => h
  | n + 1, v2, v3, v4, v5, M => fun  hf => by
    unfold w_Works_hole_L33
    exact (mf_ite (mo_w_Works_hole_j70 hD  lQ hQ lX hX lk10 hk10 hf) (mf_ite (mo_w_Works_ruleMet hD n0 (fun r11 M10 f1 => (have g2 : Ow w D T _ M0 M10 := (Ow.trans hf f1); (mf_ite (mo_w_Works_hole_j62 hD  lQ hQ lX hX lk10 hk10 (fun _ e => e) (fun y0 y1 y2 y3 y4  hf => mo_w_Works_hole_L33 hD n0 lQ hQ lX hX lk10 hk10 n y0 y1 y2 y3 y4  hf) g2) (mo_w_Works_hole_j62 hD  lQ hQ lX hX lk10 hk10 (fun _ e => e) (fun y0 y1 y2 y3 y4  hf => mo_w_Works_hole_L33 hD n0 lQ hQ lX hX lk10 hk10 n y0 y1 y2 y3 y4  hf) g2)))) (fun z4 f3 => hX z4 (Ow.dn lX (Ow.trans hf f3))) hf.1) (mo_w_Works_hole_j70 hD  lQ hQ lX hX lk10 hk10 hf)))
set_option maxRecDepth 20000 in
theorem mo_w_Works_hole_L10 {w : Nat} {D : Nat → Nat → Prop} {T : Nat → Prop} {h : Hot} {this : Nat} {Q Q' : Int32 → Mem → Prop} {h_Q : Hot} {X X' : Mem → Prop} {h_X : Hot} {M0 : Mem} (hD : Dok w D) (n0 : w = 0) (lQ : ∀ t, h_Q t = true → h t = true) (hQ : ∀ z0 z1, Ow w D T h_Q M0 z1 → Q z0 z1 → Q' z0 z1) (lX : ∀ t, h_X t = true → h t = true) (hX : ∀ z0, Ow w D T h_X M0 z0 → X z0 → X' z0) : ∀ (n : Nat) (v2 : Int32) (v3 : Int32) (M : Mem), Ow w D T h M0 M → w_Works_hole_L10 this Q X n v2 v3 M → w_Works_hole_L10 this Q' X' n v2 v3 M
  | 0, _, _, _ => fun  _ h => h
  | n + 1, v2, v3, M => fun  hf => by
    unfold w_Works_hole_L10
    exact (mf_ite (hQ _ _  (Ow.dn lQ hf)) (mo_w_Works_isRule hD  (fun r4 M3 f1 => (have g2 : Ow w D T _ M0 M3 := (Ow.trans hf f1); (mf_ite (mo_w_Works_hole_j87 hD  lQ hQ lX hX (fun _ e => e) (fun y0 y1 y2  hf => mo_w_Works_hole_L10 hD n0 lQ hQ lX hX n y0 y1 y2  hf) g2) (Exists.imp fun n13 => (mo_w_Works_hole_L33 hD n0 lQ hQ lX hX (fun _ e => e) (fun y0 y1 y2  hf => mo_w_Works_hole_L10 hD n0 lQ hQ lX hX n y0 y1 y2  hf) _ _ _ _ _ _  g2))))) hf.1))
set_option maxRecDepth 20000 in
theorem mo_w_Works_hole {w : Nat} {D : Nat → Nat → Prop} {T : Nat → Prop} {h : Hot} {this : Nat} {a1 : Int32} {Q Q' : Int32 → Mem → Prop} {X X' : Mem → Prop} {M : Mem} (hD : Dok w D) (n0 : w = 0) (hQ : ∀ z0 z1, Ow w D T h M z1 → Q z0 z1 → Q' z0 z1) (hX : ∀ z0, Ow w D T h M z0 → X z0 → X' z0) : St w D T h M → w_Works_hole this a1 Q X M → w_Works_hole this a1 Q' X' M := by
  intro hs
  unfold w_Works_hole
  exact (mf_ite (Exists.imp fun n14 => (mo_w_Works_hole_L10 hD n0 (fun _ e => e) hQ (fun _ e => e) hX _ _ _ _  (Ow.rf hs))) (hQ _ _  (Ow.rf hs)))
set_option maxRecDepth 20000 in
theorem mo_w_Works_isNeedless_j144 {w : Nat} {D : Nat → Nat → Prop} {T : Nat → Prop} {h : Hot} {this : Nat} {Q Q' : Int32 → Mem → Prop} {h_Q : Hot} {X X' : Mem → Prop} {h_X : Hot} {k63 k63' : Int32 → Int32 → Int32 → Mem → Prop} {h_k63 : Hot} {v1 : Int32} {v3 : Int32} {v4 : Int32} {M : Mem} {M0 : Mem} (hD : Dok w D)  (lQ : ∀ t, h_Q t = true → h t = true) (hQ : ∀ z0 z1, Ow w D T h_Q M0 z1 → Q z0 z1 → Q' z0 z1) (lX : ∀ t, h_X t = true → h t = true) (hX : ∀ z0, Ow w D T h_X M0 z0 → X z0 → X' z0) (lk63 : ∀ t, h_k63 t = true → h t = true) (hk63 : ∀ z0 z1 z2 z3, Ow w D T h_k63 M0 z3 → k63 z0 z1 z2 z3 → k63' z0 z1 z2 z3) : Ow w D T h M0 M → w_Works_isNeedless_j144 this Q X k63 v1 v3 v4 M → w_Works_isNeedless_j144 this Q' X' k63' v1 v3 v4 M := by
  intro hf
  unfold w_Works_isNeedless_j144
  exact (hk63 _ _ _ _  (Ow.dn lk63 hf))
set_option maxRecDepth 20000 in
theorem mo_w_Works_isNeedless_j141 {w : Nat} {D : Nat → Nat → Prop} {T : Nat → Prop} {h : Hot} {this : Nat} {Q Q' : Int32 → Mem → Prop} {h_Q : Hot} {X X' : Mem → Prop} {h_X : Hot} {k63 k63' : Int32 → Int32 → Int32 → Mem → Prop} {h_k63 : Hot} {v1 : Int32} {v4 : Int32} {v5 : Int32} {M : Mem} {M0 : Mem} (hD : Dok w D)  (lQ : ∀ t, h_Q t = true → h t = true) (hQ : ∀ z0 z1, Ow w D T h_Q M0 z1 → Q z0 z1 → Q' z0 z1) (lX : ∀ t, h_X t = true → h t = true) (hX : ∀ z0, Ow w D T h_X M0 z0 → X z0 → X' z0) (lk63 : ∀ t, h_k63 t = true → h t = true) (hk63 : ∀ z0 z1 z2 z3, Ow w D T h_k63 M0 z3 → k63 z0 z1 z2 z3 → k63' z0 z1 z2 z3) : Ow w D T h M0 M → w_Works_isNeedless_j141 this Q X k63 v1 v4 v5 M → w_Works_isNeedless_j141 this Q' X' k63' v1 v4 v5 M := by
  intro hf
  unfold w_Works_isNeedless_j141
  exact (mo_w_Works_isNeedless_j144 hD  lQ hQ lX hX lk63 hk63 hf)
set_option maxRecDepth 20000 in
theorem mo_w_Works_isNeedless_j133 {w : Nat} {D : Nat → Nat → Prop} {T : Nat → Prop} {h : Hot} {this : Nat} {Q Q' : Int32 → Mem → Prop} {h_Q : Hot} {X X' : Mem → Prop} {h_X : Hot} {k63 k63' : Int32 → Int32 → Int32 → Mem → Prop} {h_k63 : Hot} {k95 k95' : Int32 → Int32 → Int32 → Int32 → Mem → Prop} {h_k95 : Hot} {v1 : Int32} {v4 : Int32} {v6 : Int32} {s0 : Int32} {M : Mem} {M0 : Mem} (hD : Dok w D)  (lQ : ∀ t, h_Q t = true → h t = true) (hQ : ∀ z0 z1, Ow w D T h_Q M0 z1 → Q z0 z1 → Q' z0 z1) (lX : ∀ t, h_X t = true → h t = true) (hX : ∀ z0, Ow w D T h_X M0 z0 → X z0 → X' z0) (lk63 : ∀ t, h_k63 t = true → h t = true) (hk63 : ∀ z0 z1 z2 z3, Ow w D T h_k63 M0 z3 → k63 z0 z1 z2 z3 → k63' z0 z1 z2 z3) (lk95 : ∀ t, h_k95 t = true → h t = true) (hk95 : ∀ z0 z1 z2 z3 z4, Ow w D T h_k95 M0 z4 → k95 z0 z1 z2 z3 z4 → k95' z0 z1 z2 z3 z4) : Ow w D T h M0 M → w_Works_isNeedless_j133 this Q X k63 k95 v1 v4 v6 s0 M → w_Works_isNeedless_j133 this Q' X' k63' k95' v1 v4 v6 s0 M := by
  intro hf
  unfold w_Works_isNeedless_j133
  exact (hk95 _ _ _ _ _  (Ow.dn lk95 hf))
set_option maxRecDepth 20000 in
theorem mo_w_Works_isNeedless_j132 {w : Nat} {D : Nat → Nat → Prop} {T : Nat → Prop} {h : Hot} {this : Nat} {Q Q' : Int32 → Mem → Prop} {h_Q : Hot} {X X' : Mem → Prop} {h_X : Hot} {k63 k63' : Int32 → Int32 → Int32 → Mem → Prop} {h_k63 : Hot} {k95 k95' : Int32 → Int32 → Int32 → Int32 → Mem → Prop} {h_k95 : Hot} {v1 : Int32} {v4 : Int32} {v6 : Int32} {M : Mem} {M0 : Mem} (hD : Dok w D)  (lQ : ∀ t, h_Q t = true → h t = true) (hQ : ∀ z0 z1, Ow w D T h_Q M0 z1 → Q z0 z1 → Q' z0 z1) (lX : ∀ t, h_X t = true → h t = true) (hX : ∀ z0, Ow w D T h_X M0 z0 → X z0 → X' z0) (lk63 : ∀ t, h_k63 t = true → h t = true) (hk63 : ∀ z0 z1 z2 z3, Ow w D T h_k63 M0 z3 → k63 z0 z1 z2 z3 → k63' z0 z1 z2 z3) (lk95 : ∀ t, h_k95 t = true → h t = true) (hk95 : ∀ z0 z1 z2 z3 z4, Ow w D T h_k95 M0 z4 → k95 z0 z1 z2 z3 z4 → k95' z0 z1 z2 z3 z4) : Ow w D T h M0 M → w_Works_isNeedless_j132 this Q X k63 k95 v1 v4 v6 M → w_Works_isNeedless_j132 this Q' X' k63' k95' v1 v4 v6 M := by
  intro hf
  unfold w_Works_isNeedless_j132
  exact (mo_w_Works_isNeedless_j133 hD  lQ hQ lX hX lk63 hk63 lk95 hk95 hf)
set_option maxRecDepth 20000 in
theorem mo_w_Works_isNeedless_L95 {w : Nat} {D : Nat → Nat → Prop} {T : Nat → Prop} {h : Hot} {this : Nat} {Q Q' : Int32 → Mem → Prop} {h_Q : Hot} {X X' : Mem → Prop} {h_X : Hot} {k63 k63' : Int32 → Int32 → Int32 → Mem → Prop} {h_k63 : Hot} {M0 : Mem} (hD : Dok w D) (n0 : w = 0) (lQ : ∀ t, h_Q t = true → h t = true) (hQ : ∀ z0 z1, Ow w D T h_Q M0 z1 → Q z0 z1 → Q' z0 z1) (lX : ∀ t, h_X t = true → h t = true) (hX : ∀ z0, Ow w D T h_X M0 z0 → X z0 → X' z0) (lk63 : ∀ t, h_k63 t = true → h t = true) (hk63 : ∀ z0 z1 z2 z3, Ow w D T h_k63 M0 z3 → k63 z0 z1 z2 z3 → k63' z0 z1 z2 z3) : ∀ (n : Nat) (v1 : Int32) (v4 : Int32) (v5 : Int32) (v6 : Int32) (M : Mem), Ow w D T h M0 M → w_Works_isNeedless_L95 this Q X k63 n v1 v4 v5 v6 M → w_Works_isNeedless_L95 this Q' X' k63' n v1 v4 v5 v6 M
  | 0, _, _, _, _, _ => fun  _ h => h
  | n + 1, v1, v4, v5, v6, M => fun  hf => by
    unfold w_Works_isNeedless_L95
    exact (mf_ite (mo_w_Works_isNeedless_j141 hD  lQ hQ lX hX lk63 hk63 hf) (mf_ite (mf_ite (mo_w_Works_isNeedless_j132 hD  lQ hQ lX hX lk63 hk63 (fun _ e => e) (fun y0 y1 y2 y3 y4  hf => mo_w_Works_isNeedless_L95 hD n0 lQ hQ lX hX lk63 hk63 n y0 y1 y2 y3 y4  hf) hf) (mo_w_Works_finds0 hD n0 (fun r14 M13 f1 => (have g2 : Ow w D T _ M0 M13 := (Ow.trans hf f1); (mf_ite (mo_w_Works_isNeedless_j132 hD  lQ hQ lX hX lk63 hk63 (fun _ e => e) (fun y0 y1 y2 y3 y4  hf => mo_w_Works_isNeedless_L95 hD n0 lQ hQ lX hX lk63 hk63 n y0 y1 y2 y3 y4  hf) g2) (mo_w_Works_isNeedless_j133 hD  lQ hQ lX hX lk63 hk63 (fun _ e => e) (fun y0 y1 y2 y3 y4  hf => mo_w_Works_isNeedless_L95 hD n0 lQ hQ lX hX lk63 hk63 n y0 y1 y2 y3 y4  hf) g2)))) (fun z4 f3 => hX z4 (Ow.dn lX (Ow.trans hf f3))) hf.1)) (mo_w_Works_isNeedless_j141 hD  lQ hQ lX hX lk63 hk63 hf)))
set_option maxRecDepth 20000 in
theorem mo_w_Works_isNeedless_L63 {w : Nat} {D : Nat → Nat → Prop} {T : Nat → Prop} {h : Hot} {this : Nat} {Q Q' : Int32 → Mem → Prop} {h_Q : Hot} {X X' : Mem → Prop} {h_X : Hot} {M0 : Mem} (hD : Dok w D) (n0 : w = 0) (lQ : ∀ t, h_Q t = true → h t = true) (hQ : ∀ z0 z1, Ow w D T h_Q M0 z1 → Q z0 z1 → Q' z0 z1) (lX : ∀ t, h_X t = true → h t = true) (hX : ∀ z0, Ow w D T h_X M0 z0 → X z0 → X' z0) : ∀ (n : Nat) (v1 : Int32) (v3 : Int32) (v4 : Int32) (M : Mem), Ow w D T h M0 M → w_Works_isNeedless_L63 this Q X n v1 v3 v4 M → w_Works_isNeedless_L63 this Q' X' n v1 v3 v4 M
  | 0, _, _, _, _ => fun  _ h => h
  | n + 1, v1, v3, v4, M => fun  hf => by
    unfold w_Works_isNeedless_L63
    exact (mf_ite (mf_and fun _ => (hQ _ _  (Ow.dn lQ hf))) (mf_ite (mf_and fun _ => (hQ _ _  (Ow.dn lQ hf))) (mo_w_Works_finds0 hD n0 (fun r8 M7 f1 => (have g2 : Ow w D T _ M0 M7 := (Ow.trans hf f1); (mf_ite (mo_w_Works_isNeedless_j144 hD  lQ hQ lX hX (fun _ e => e) (fun y0 y1 y2 y3  hf => mo_w_Works_isNeedless_L63 hD n0 lQ hQ lX hX n y0 y1 y2 y3  hf) g2) (Exists.imp fun n16 => (mo_w_Works_isNeedless_L95 hD n0 lQ hQ lX hX (fun _ e => e) (fun y0 y1 y2 y3  hf => mo_w_Works_isNeedless_L63 hD n0 lQ hQ lX hX n y0 y1 y2 y3  hf) _ _ _ _ _ _  g2))))) (fun z4 f3 => hX z4 (Ow.dn lX (Ow.trans hf f3))) hf.1)))
set_option maxRecDepth 20000 in
theorem mo_w_Works_isNeedless_j60 {w : Nat} {D : Nat → Nat → Prop} {T : Nat → Prop} {h : Hot} {this : Nat} {Q Q' : Int32 → Mem → Prop} {h_Q : Hot} {X X' : Mem → Prop} {h_X : Hot} {v1 : Int32} {v3 : Int32} {M : Mem} {M0 : Mem} (hD : Dok w D) (n0 : w = 0) (lQ : ∀ t, h_Q t = true → h t = true) (hQ : ∀ z0 z1, Ow w D T h_Q M0 z1 → Q z0 z1 → Q' z0 z1) (lX : ∀ t, h_X t = true → h t = true) (hX : ∀ z0, Ow w D T h_X M0 z0 → X z0 → X' z0) : Ow w D T h M0 M → w_Works_isNeedless_j60 this Q X v1 v3 M → w_Works_isNeedless_j60 this Q' X' v1 v3 M := by
  intro hf
  unfold w_Works_isNeedless_j60
  exact (Exists.imp fun n17 => (mo_w_Works_isNeedless_L63 hD n0 lQ hQ lX hX _ _ _ _ _  hf))
set_option maxRecDepth 20000 in
theorem mo_w_Works_isNeedless_j53 {w : Nat} {D : Nat → Nat → Prop} {T : Nat → Prop} {h : Hot} {this : Nat} {Q Q' : Int32 → Mem → Prop} {h_Q : Hot} {X X' : Mem → Prop} {h_X : Hot} {k19 k19' : Int32 → Int32 → Int32 → Int32 → Mem → Prop} {h_k19 : Hot} {v1 : Int32} {v2 : Int32} {v4 : Int32} {s0 : Int32} {M : Mem} {M0 : Mem} (hD : Dok w D)  (lQ : ∀ t, h_Q t = true → h t = true) (hQ : ∀ z0 z1, Ow w D T h_Q M0 z1 → Q z0 z1 → Q' z0 z1) (lX : ∀ t, h_X t = true → h t = true) (hX : ∀ z0, Ow w D T h_X M0 z0 → X z0 → X' z0) (lk19 : ∀ t, h_k19 t = true → h t = true) (hk19 : ∀ z0 z1 z2 z3 z4, Ow w D T h_k19 M0 z4 → k19 z0 z1 z2 z3 z4 → k19' z0 z1 z2 z3 z4) : Ow w D T h M0 M → w_Works_isNeedless_j53 this Q X k19 v1 v2 v4 s0 M → w_Works_isNeedless_j53 this Q' X' k19' v1 v2 v4 s0 M := by
  intro hf
  unfold w_Works_isNeedless_j53
  exact (hk19 _ _ _ _ _  (Ow.dn lk19 hf))
set_option maxRecDepth 20000 in
theorem mo_w_Works_isNeedless_j52 {w : Nat} {D : Nat → Nat → Prop} {T : Nat → Prop} {h : Hot} {this : Nat} {Q Q' : Int32 → Mem → Prop} {h_Q : Hot} {X X' : Mem → Prop} {h_X : Hot} {k19 k19' : Int32 → Int32 → Int32 → Int32 → Mem → Prop} {h_k19 : Hot} {v1 : Int32} {v2 : Int32} {v4 : Int32} {M : Mem} {M0 : Mem} (hD : Dok w D)  (lQ : ∀ t, h_Q t = true → h t = true) (hQ : ∀ z0 z1, Ow w D T h_Q M0 z1 → Q z0 z1 → Q' z0 z1) (lX : ∀ t, h_X t = true → h t = true) (hX : ∀ z0, Ow w D T h_X M0 z0 → X z0 → X' z0) (lk19 : ∀ t, h_k19 t = true → h t = true) (hk19 : ∀ z0 z1 z2 z3 z4, Ow w D T h_k19 M0 z4 → k19 z0 z1 z2 z3 z4 → k19' z0 z1 z2 z3 z4) : Ow w D T h M0 M → w_Works_isNeedless_j52 this Q X k19 v1 v2 v4 M → w_Works_isNeedless_j52 this Q' X' k19' v1 v2 v4 M := by
  intro hf
  unfold w_Works_isNeedless_j52
  exact (mo_w_Works_isNeedless_j53 hD  lQ hQ lX hX lk19 hk19 hf)
set_option maxRecDepth 20000 in
theorem mo_w_Works_isNeedless_L19 {w : Nat} {D : Nat → Nat → Prop} {T : Nat → Prop} {h : Hot} {this : Nat} {Q Q' : Int32 → Mem → Prop} {h_Q : Hot} {X X' : Mem → Prop} {h_X : Hot} {M0 : Mem} (hD : Dok w D) (n0 : w = 0) (lQ : ∀ t, h_Q t = true → h t = true) (hQ : ∀ z0 z1, Ow w D T h_Q M0 z1 → Q z0 z1 → Q' z0 z1) (lX : ∀ t, h_X t = true → h t = true) (hX : ∀ z0, Ow w D T h_X M0 z0 → X z0 → X' z0) : ∀ (n : Nat) (v1 : Int32) (v2 : Int32) (v3 : Int32) (v4 : Int32) (M : Mem), Ow w D T h M0 M → w_Works_isNeedless_L19 this Q X n v1 v2 v3 v4 M → w_Works_isNeedless_L19 this Q' X' n v1 v2 v3 v4 M
  | 0, _, _, _, _, _ => fun  _ h => h
  | n + 1, v1, v2, v3, v4, M => fun  hf => by
    unfold w_Works_isNeedless_L19
    exact (mf_ite (mo_w_Works_isNeedless_j60 hD n0 lQ hQ lX hX hf) (mf_ite (mf_ite (mo_w_Works_isNeedless_j52 hD  lQ hQ lX hX (fun _ e => e) (fun y0 y1 y2 y3 y4  hf => mo_w_Works_isNeedless_L19 hD n0 lQ hQ lX hX n y0 y1 y2 y3 y4  hf) hf) (mo_w_Works_ruleMet hD n0 (fun r21 M20 f1 => (have g2 : Ow w D T _ M0 M20 := (Ow.trans hf f1); (mf_ite (mo_w_Works_isNeedless_j53 hD  lQ hQ lX hX (fun _ e => e) (fun y0 y1 y2 y3 y4  hf => mo_w_Works_isNeedless_L19 hD n0 lQ hQ lX hX n y0 y1 y2 y3 y4  hf) g2) (mo_w_Works_isNeedless_j52 hD  lQ hQ lX hX (fun _ e => e) (fun y0 y1 y2 y3 y4  hf => mo_w_Works_isNeedless_L19 hD n0 lQ hQ lX hX n y0 y1 y2 y3 y4  hf) g2)))) (fun z4 f3 => hX z4 (Ow.dn lX (Ow.trans hf f3))) hf.1)) (mo_w_Works_isNeedless_j60 hD n0 lQ hQ lX hX hf)))
set_option maxRecDepth 20000 in
theorem mo_w_Works_isNeedless_j15 {w : Nat} {D : Nat → Nat → Prop} {T : Nat → Prop} {h : Hot} {this : Nat} {Q Q' : Int32 → Mem → Prop} {h_Q : Hot} {X X' : Mem → Prop} {h_X : Hot} {v1 : Int32} {v2 : Int32} {s0 : Int32} {M : Mem} {M0 : Mem} (hD : Dok w D) (n0 : w = 0) (lQ : ∀ t, h_Q t = true → h t = true) (hQ : ∀ z0 z1, Ow w D T h_Q M0 z1 → Q z0 z1 → Q' z0 z1) (lX : ∀ t, h_X t = true → h t = true) (hX : ∀ z0, Ow w D T h_X M0 z0 → X z0 → X' z0) : Ow w D T h M0 M → w_Works_isNeedless_j15 this Q X v1 v2 s0 M → w_Works_isNeedless_j15 this Q' X' v1 v2 s0 M := by
  intro hf
  unfold w_Works_isNeedless_j15
  exact (Exists.imp fun n23 => (mo_w_Works_isNeedless_L19 hD n0 lQ hQ lX hX _ _ _ _ _ _  hf))
set_option maxRecDepth 20000 in
theorem mo_w_Works_isNeedless {w : Nat} {D : Nat → Nat → Prop} {T : Nat → Prop} {h : Hot} {this : Nat} {a1 : Int32} {Q Q' : Int32 → Mem → Prop} {X X' : Mem → Prop} {M : Mem} (hD : Dok w D) (n0 : w = 0) (hQ : ∀ z0 z1, Ow w D T h M z1 → Q z0 z1 → Q' z0 z1) (hX : ∀ z0, Ow w D T h M z0 → X z0 → X' z0) : St w D T h M → w_Works_isNeedless this a1 Q X M → w_Works_isNeedless this a1 Q' X' M := by
  intro hs
  unfold w_Works_isNeedless
  exact (mo_w_Works_ruleMet hD n0 (fun r2 M1 f1 => (have g2 : Ow w D T _ M M1 := (Ow.trans (Ow.rf hs) f1); (mf_ite (mo_w_Works_isNeedless_j15 hD n0 (fun _ e => e) hQ (fun _ e => e) hX g2) (mo_w_Works_isNeedless_j15 hD n0 (fun _ e => e) hQ (fun _ e => e) hX g2)))) (fun z4 f3 => hX z4 (Ow.trans (Ow.rf hs) f3)) (Ow.rf hs).1)
set_option maxRecDepth 20000 in
theorem mo_w_Works_remove_L58 {w : Nat} {D : Nat → Nat → Prop} {T : Nat → Prop} {h : Hot} {this : Nat} {Q Q' : Mem → Prop} {h_Q : Hot} {k19 k19' : Nat → Int32 → Mem → Prop} {h_k19 : Hot} {M0 : Mem} (hD : Dok w D)  (lQ : ∀ t, h_Q t = true → h t = true) (hQ : ∀ z0, Ow w D T h_Q M0 z0 → Q z0 → Q' z0) (lk19 : ∀ t, h_k19 t = true → h t = true) (hk19 : ∀ z0 z1 z2, Ow w D T h_k19 M0 z2 → k19 z0 z1 z2 → k19' z0 z1 z2) : ∀ (n : Nat) (v2 : Nat) (v3 : Int32) (v4 : Int32) (M : Mem), Ow w D T h M0 M → w_Works_remove_L58 this Q k19 n v2 v3 v4 M → w_Works_remove_L58 this Q' k19' n v2 v3 v4 M
  | 0, _, _, _, _ => fun  _ h => h
  | n + 1, v2, v3, v4, M => fun  hf => by
    unfold w_Works_remove_L58
    exact (mf_ite (hk19 _ _ _  (Ow.dn lk19 hf)) (mf_and fun _ => (mf_and fun _ => (Exists.imp fun M16 => (mf_and fun e1 => (have g2 : Ow w D T _ M0 M16 := Ow.of e1 (Ow.wI (ow0 rfl) hf); (mf_and fun _ => (mf_and fun _ => (Exists.imp fun M19 => (mf_and fun e3 => (have g4 : Ow w D T _ M0 M19 := Ow.of e3 (Ow.wI (ow0 rfl) g2); (mf_and fun _ => (mf_and fun _ => (Exists.imp fun M22 => (mf_and fun e5 => (have g6 : Ow w D T _ M0 M22 := Ow.of e5 (Ow.wI (ow0 rfl) g4); (mo_w_Works_remove_L58 hD  lQ hQ lk19 hk19 _ _ _ _ _  g6)))))))))))))))))
set_option maxRecDepth 20000 in
theorem mo_w_Works_remove_L19 {w : Nat} {D : Nat → Nat → Prop} {T : Nat → Prop} {h : Hot} {this : Nat} {Q Q' : Mem → Prop} {h_Q : Hot} {M0 : Mem} (hD : Dok w D)  (lQ : ∀ t, h_Q t = true → h t = true) (hQ : ∀ z0, Ow w D T h_Q M0 z0 → Q z0 → Q' z0) : ∀ (n : Nat) (v2 : Nat) (v3 : Int32) (M : Mem), Ow w D T h M0 M → w_Works_remove_L19 this Q n v2 v3 M → w_Works_remove_L19 this Q' n v2 v3 M
  | 0, _, _, _ => fun  _ h => h
  | n + 1, v2, v3, M => fun  hf => by
    unfold w_Works_remove_L19
    exact (mf_ite (mf_and fun _ => (Exists.imp fun M5 => (mf_and fun e1 => (have g2 : Ow w D T _ M0 M5 := Ow.of e1 (Ow.wR rfl (ow0 rfl) (ow0 rfl) hf); (hQ _  (Ow.dn lQ g2)))))) (mf_and fun _ => (Exists.imp fun i7 => (mf_and fun e3 => (mf_and fun _ => (Exists.imp fun M9 => (mf_and fun e5 => (have g6 : Ow w D T _ M0 M9 := Ow.of e5 (Ow.wR rfl (ow0 rfl) (ow0 rfl) hf); (mf_and fun _ => (mf_and fun _ => (Exists.imp fun M12 => (mf_and fun e7 => (have g8 : Ow w D T _ M0 M12 := Ow.of e7 (Ow.wI (ow0 rfl) g6); (Exists.imp fun n23 => (mo_w_Works_remove_L58 hD  lQ hQ (fun _ e => e) (fun y0 y1 y2  hf => mo_w_Works_remove_L19 hD  lQ hQ n y0 y1 y2  hf) _ _ _ _ _  g8)))))))))))))))
set_option maxRecDepth 20000 in
theorem mo_w_Works_remove {w : Nat} {D : Nat → Nat → Prop} {T : Nat → Prop} {h : Hot} {this : Nat} {a1 : Int32} {Q Q' : Mem → Prop} {M : Mem} (hD : Dok w D)  (hQ : ∀ z0, Ow w D T h M z0 → Q z0 → Q' z0) : St w D T h M → w_Works_remove this a1 Q M → w_Works_remove this a1 Q' M := by
  intro hs
  unfold w_Works_remove
  exact (mf_and fun _ => (Exists.imp fun i2 => (mf_and fun e1 => (Exists.imp fun n24 => (have g3 : Ow w D T _ M (sI M 10 this 10 ((mI M 10 this 10) - (1 : Int32))) := (Ow.wI (ow0 rfl) (Ow.rf hs)); (mo_w_Works_remove_L19 hD  (fun _ e => e) hQ _ _ _ _  g3))))))
set_option maxRecDepth 20000 in
theorem mo_w_Works_least_j24 {w : Nat} {D : Nat → Nat → Prop} {T : Nat → Prop} {h : Hot} {this : Nat} {Q Q' : Int32 → Mem → Prop} {h_Q : Hot} {X X' : Mem → Prop} {h_X : Hot} {k7 k7' : Int32 → Mem → Prop} {h_k7 : Hot} {v1 : Int32} {M : Mem} {M0 : Mem} (hD : Dok w D)  (lQ : ∀ t, h_Q t = true → h t = true) (hQ : ∀ z0 z1, Ow w D T h_Q M0 z1 → Q z0 z1 → Q' z0 z1) (lX : ∀ t, h_X t = true → h t = true) (hX : ∀ z0, Ow w D T h_X M0 z0 → X z0 → X' z0) (lk7 : ∀ t, h_k7 t = true → h t = true) (hk7 : ∀ z0 z1, Ow w D T h_k7 M0 z1 → k7 z0 z1 → k7' z0 z1) : Ow w D T h M0 M → w_Works_least_j24 this Q X k7 v1 M → w_Works_least_j24 this Q' X' k7' v1 M := by
  intro hf
  unfold w_Works_least_j24
  exact (hk7 _ _  (Ow.dn lk7 hf))
set_option maxRecDepth 20000 in
theorem mo_w_Works_least_L7 {w : Nat} {D : Nat → Nat → Prop} {T : Nat → Prop} {h : Hot} {this : Nat} {Q Q' : Int32 → Mem → Prop} {h_Q : Hot} {X X' : Mem → Prop} {h_X : Hot} {M0 : Mem} (hD : Dok w D) (n0 : w = 0) (lQ : ∀ t, h_Q t = true → h t = true) (hQ : ∀ z0 z1, Ow w D T h_Q M0 z1 → Q z0 z1 → Q' z0 z1) (lX : ∀ t, h_X t = true → h t = true) (hX : ∀ z0, Ow w D T h_X M0 z0 → X z0 → X' z0) : ∀ (n : Nat) (v1 : Int32) (M : Mem), Ow w D T h M0 M → w_Works_least_L7 this Q X n v1 M → w_Works_least_L7 this Q' X' n v1 M
  | 0, _, _ => fun  _ h => h
  | n + 1, v1, M => fun  hf => by
    unfold w_Works_least_L7
    exact (mf_ite (hQ _ _  (Ow.dn lQ hf)) (mo_w_Works_isNeedless hD n0 (fun r3 M2 f1 => (have g2 : Ow w D T _ M0 M2 := (Ow.trans hf f1); (mf_ite (mo_w_Works_least_j24 hD  lQ hQ lX hX (fun _ e => e) (fun y0 y1  hf => mo_w_Works_least_L7 hD n0 lQ hQ lX hX n y0 y1  hf) g2) (mo_w_Works_remove hD  (fun M5 f3 => (have g4 : Ow w D T _ M0 M5 := (Ow.trans g2 f3); (mo_w_Works_least_j24 hD  lQ hQ lX hX (fun _ e => e) (fun y0 y1  hf => mo_w_Works_least_L7 hD n0 lQ hQ lX hX n y0 y1  hf) g4))) g2.1)))) (fun z6 f5 => hX z6 (Ow.dn lX (Ow.trans hf f5))) hf.1))
set_option maxRecDepth 20000 in
theorem mo_w_Works_least {w : Nat} {D : Nat → Nat → Prop} {T : Nat → Prop} {h : Hot} {this : Nat} {Q Q' : Int32 → Mem → Prop} {X X' : Mem → Prop} {M : Mem} (hD : Dok w D) (n0 : w = 0) (hQ : ∀ z0 z1, Ow w D T h M z1 → Q z0 z1 → Q' z0 z1) (hX : ∀ z0, Ow w D T h M z0 → X z0 → X' z0) : St w D T h M → w_Works_least this Q X M → w_Works_least this Q' X' M := by
  intro hs
  unfold w_Works_least
  exact (Exists.imp fun n6 => (mo_w_Works_least_L7 hD n0 (fun _ e => e) hQ (fun _ e => e) hX _ _ _  (Ow.rf hs)))
set_option maxRecDepth 20000 in
theorem mo_w_Works_shrink_j283 {w : Nat} {D : Nat → Nat → Prop} {T : Nat → Prop} {h : Hot} {this : Nat} {Q Q' : Int32 → Mem → Prop} {h_Q : Hot} {X X' : Mem → Prop} {h_X : Hot} {k104 k104' : Int32 → Int32 → Int32 → Int32 → Int32 → Int32 → Nat → Int32 → Int32 → Int32 → Mem → Prop} {h_k104 : Hot} {v1 : Int32} {v2 : Int32} {v3 : Int32} {v4 : Int32} {v5 : Int32} {v6 : Int32} {v7 : Nat} {v8 : Int32} {v10 : Int32} {v11 : Int32} {M : Mem} {M0 : Mem} (hD : Dok w D)  (lQ : ∀ t, h_Q t = true → h t = true) (hQ : ∀ z0 z1, Ow w D T h_Q M0 z1 → Q z0 z1 → Q' z0 z1) (lX : ∀ t, h_X t = true → h t = true) (hX : ∀ z0, Ow w D T h_X M0 z0 → X z0 → X' z0) (lk104 : ∀ t, h_k104 t = true → h t = true) (hk104 : ∀ z0 z1 z2 z3 z4 z5 z6 z7 z8 z9 z10, Ow w D T h_k104 M0 z10 → k104 z0 z1 z2 z3 z4 z5 z6 z7 z8 z9 z10 → k104' z0 z1 z2 z3 z4 z5 z6 z7 z8 z9 z10) : Ow w D T h M0 M → w_Works_shrink_j283 this Q X k104 v1 v2 v3 v4 v5 v6 v7 v8 v10 v11 M → w_Works_shrink_j283 this Q' X' k104' v1 v2 v3 v4 v5 v6 v7 v8 v10 v11 M := by
  intro hf
  unfold w_Works_shrink_j283
  exact (hk104 _ _ _ _ _ _ _ _ _ _ _  (Ow.dn lk104 hf))
set_option maxRecDepth 20000 in
theorem mo_w_Works_shrink_j255 {w : Nat} {D : Nat → Nat → Prop} {T : Nat → Prop} {h : Hot} {this : Nat} {Q Q' : Int32 → Mem → Prop} {h_Q : Hot} {X X' : Mem → Prop} {h_X : Hot} {k104 k104' : Int32 → Int32 → Int32 → Int32 → Int32 → Int32 → Nat → Int32 → Int32 → Int32 → Mem → Prop} {h_k104 : Hot} {v1 : Int32} {v2 : Int32} {v3 : Int32} {v4 : Int32} {v5 : Int32} {v6 : Int32} {v7 : Nat} {v8 : Int32} {v10 : Int32} {v11 : Int32} {v12 : Int32} {v13 : Int32} {M : Mem} {M0 : Mem} (hD : Dok w D)  (lQ : ∀ t, h_Q t = true → h t = true) (hQ : ∀ z0 z1, Ow w D T h_Q M0 z1 → Q z0 z1 → Q' z0 z1) (lX : ∀ t, h_X t = true → h t = true) (hX : ∀ z0, Ow w D T h_X M0 z0 → X z0 → X' z0) (lk104 : ∀ t, h_k104 t = true → h t = true) (hk104 : ∀ z0 z1 z2 z3 z4 z5 z6 z7 z8 z9 z10, Ow w D T h_k104 M0 z10 → k104 z0 z1 z2 z3 z4 z5 z6 z7 z8 z9 z10 → k104' z0 z1 z2 z3 z4 z5 z6 z7 z8 z9 z10) : Ow w D T h M0 M → w_Works_shrink_j255 this Q X k104 v1 v2 v3 v4 v5 v6 v7 v8 v10 v11 v12 v13 M → w_Works_shrink_j255 this Q' X' k104' v1 v2 v3 v4 v5 v6 v7 v8 v10 v11 v12 v13 M := by
  intro hf
  unfold w_Works_shrink_j255
  exact (mf_ite (mo_w_Works_shrink_j283 hD  lQ hQ lX hX lk104 hk104 hf) (mf_and fun _ => (mf_and fun _ => (mf_and fun _ => (mf_and fun _ => (mf_and fun _ => (Exists.imp fun M34 => (mf_and fun e1 => (have g2 : Ow w D T _ M0 M34 := Ow.of e1 (Ow.wcp (ow0 rfl) hf); (mo_w_Works_shrink_j283 hD  lQ hQ lX hX lk104 hk104 g2))))))))))
set_option maxRecDepth 20000 in
theorem mo_w_Works_shrink_j253 {w : Nat} {D : Nat → Nat → Prop} {T : Nat → Prop} {h : Hot} {this : Nat} {Q Q' : Int32 → Mem → Prop} {h_Q : Hot} {X X' : Mem → Prop} {h_X : Hot} {k104 k104' : Int32 → Int32 → Int32 → Int32 → Int32 → Int32 → Nat → Int32 → Int32 → Int32 → Mem → Prop} {h_k104 : Hot} {v1 : Int32} {v2 : Int32} {v3 : Int32} {v4 : Int32} {v5 : Int32} {v6 : Int32} {v7 : Nat} {v8 : Int32} {v10 : Int32} {v11 : Int32} {v12 : Int32} {s0 : Int32} {M : Mem} {M0 : Mem} (hD : Dok w D)  (lQ : ∀ t, h_Q t = true → h t = true) (hQ : ∀ z0 z1, Ow w D T h_Q M0 z1 → Q z0 z1 → Q' z0 z1) (lX : ∀ t, h_X t = true → h t = true) (hX : ∀ z0, Ow w D T h_X M0 z0 → X z0 → X' z0) (lk104 : ∀ t, h_k104 t = true → h t = true) (hk104 : ∀ z0 z1 z2 z3 z4 z5 z6 z7 z8 z9 z10, Ow w D T h_k104 M0 z10 → k104 z0 z1 z2 z3 z4 z5 z6 z7 z8 z9 z10 → k104' z0 z1 z2 z3 z4 z5 z6 z7 z8 z9 z10) : Ow w D T h M0 M → w_Works_shrink_j253 this Q X k104 v1 v2 v3 v4 v5 v6 v7 v8 v10 v11 v12 s0 M → w_Works_shrink_j253 this Q' X' k104' v1 v2 v3 v4 v5 v6 v7 v8 v10 v11 v12 s0 M := by
  intro hf
  unfold w_Works_shrink_j253
  exact (mo_w_Works_shrink_j255 hD  lQ hQ lX hX lk104 hk104 hf)
set_option maxRecDepth 20000 in
theorem mo_w_Works_shrink_j252 {w : Nat} {D : Nat → Nat → Prop} {T : Nat → Prop} {h : Hot} {this : Nat} {Q Q' : Int32 → Mem → Prop} {h_Q : Hot} {X X' : Mem → Prop} {h_X : Hot} {k104 k104' : Int32 → Int32 → Int32 → Int32 → Int32 → Int32 → Nat → Int32 → Int32 → Int32 → Mem → Prop} {h_k104 : Hot} {v1 : Int32} {v2 : Int32} {v3 : Int32} {v4 : Int32} {v5 : Int32} {v6 : Int32} {v7 : Nat} {v8 : Int32} {v10 : Int32} {v11 : Int32} {v12 : Int32} {M : Mem} {M0 : Mem} (hD : Dok w D)  (lQ : ∀ t, h_Q t = true → h t = true) (hQ : ∀ z0 z1, Ow w D T h_Q M0 z1 → Q z0 z1 → Q' z0 z1) (lX : ∀ t, h_X t = true → h t = true) (hX : ∀ z0, Ow w D T h_X M0 z0 → X z0 → X' z0) (lk104 : ∀ t, h_k104 t = true → h t = true) (hk104 : ∀ z0 z1 z2 z3 z4 z5 z6 z7 z8 z9 z10, Ow w D T h_k104 M0 z10 → k104 z0 z1 z2 z3 z4 z5 z6 z7 z8 z9 z10 → k104' z0 z1 z2 z3 z4 z5 z6 z7 z8 z9 z10) : Ow w D T h M0 M → w_Works_shrink_j252 this Q X k104 v1 v2 v3 v4 v5 v6 v7 v8 v10 v11 v12 M → w_Works_shrink_j252 this Q' X' k104' v1 v2 v3 v4 v5 v6 v7 v8 v10 v11 v12 M := by
  intro hf
  unfold w_Works_shrink_j252
  exact (mo_w_Works_shrink_j253 hD  lQ hQ lX hX lk104 hk104 hf)
set_option maxRecDepth 20000 in
theorem mo_w_Works_shrink_j212 {w : Nat} {D : Nat → Nat → Prop} {T : Nat → Prop} {h : Hot} {this : Nat} {Q Q' : Int32 → Mem → Prop} {h_Q : Hot} {X X' : Mem → Prop} {h_X : Hot} {k104 k104' : Int32 → Int32 → Int32 → Int32 → Int32 → Int32 → Nat → Int32 → Int32 → Int32 → Mem → Prop} {h_k104 : Hot} {v1 : Int32} {v2 : Int32} {v3 : Int32} {v4 : Int32} {v5 : Int32} {v6 : Int32} {v7 : Nat} {v8 : Int32} {v10 : Int32} {v11 : Int32} {v12 : Int32} {s0 : Int32} {M : Mem} {M0 : Mem} (hD : Dok w D) (n0 : w = 0) (lQ : ∀ t, h_Q t = true → h t = true) (hQ : ∀ z0 z1, Ow w D T h_Q M0 z1 → Q z0 z1 → Q' z0 z1) (lX : ∀ t, h_X t = true → h t = true) (hX : ∀ z0, Ow w D T h_X M0 z0 → X z0 → X' z0) (lk104 : ∀ t, h_k104 t = true → h t = true) (hk104 : ∀ z0 z1 z2 z3 z4 z5 z6 z7 z8 z9 z10, Ow w D T h_k104 M0 z10 → k104 z0 z1 z2 z3 z4 z5 z6 z7 z8 z9 z10 → k104' z0 z1 z2 z3 z4 z5 z6 z7 z8 z9 z10) : Ow w D T h M0 M → w_Works_shrink_j212 this Q X k104 v1 v2 v3 v4 v5 v6 v7 v8 v10 v11 v12 s0 M → w_Works_shrink_j212 this Q' X' k104' v1 v2 v3 v4 v5 v6 v7 v8 v10 v11 v12 s0 M := by
  intro hf
  unfold w_Works_shrink_j212
  exact (mf_ite (mo_w_Works_shrink_j255 hD  lQ hQ lX hX lk104 hk104 hf) (mo_w_Works_work1 hD n0 (fun M40 f1 => (have g2 : Ow w D T _ M0 M40 := (Ow.trans hf f1); (mf_ite (mf_ite (mo_w_Works_shrink_j253 hD  lQ hQ lX hX lk104 hk104 g2) (mo_w_Works_shrink_j252 hD  lQ hQ lX hX lk104 hk104 g2)) (mo_w_Works_shrink_j252 hD  lQ hQ lX hX lk104 hk104 g2)))) (fun z4 f3 => hX z4 (Ow.dn lX (Ow.trans hf f3))) hf.1))
set_option maxRecDepth 20000 in
theorem mo_w_Works_shrink_j211 {w : Nat} {D : Nat → Nat → Prop} {T : Nat → Prop} {h : Hot} {this : Nat} {Q Q' : Int32 → Mem → Prop} {h_Q : Hot} {X X' : Mem → Prop} {h_X : Hot} {k104 k104' : Int32 → Int32 → Int32 → Int32 → Int32 → Int32 → Nat → Int32 → Int32 → Int32 → Mem → Prop} {h_k104 : Hot} {v1 : Int32} {v2 : Int32} {v3 : Int32} {v4 : Int32} {v5 : Int32} {v6 : Int32} {v7 : Nat} {v8 : Int32} {v10 : Int32} {v11 : Int32} {v12 : Int32} {M : Mem} {M0 : Mem} (hD : Dok w D) (n0 : w = 0) (lQ : ∀ t, h_Q t = true → h t = true) (hQ : ∀ z0 z1, Ow w D T h_Q M0 z1 → Q z0 z1 → Q' z0 z1) (lX : ∀ t, h_X t = true → h t = true) (hX : ∀ z0, Ow w D T h_X M0 z0 → X z0 → X' z0) (lk104 : ∀ t, h_k104 t = true → h t = true) (hk104 : ∀ z0 z1 z2 z3 z4 z5 z6 z7 z8 z9 z10, Ow w D T h_k104 M0 z10 → k104 z0 z1 z2 z3 z4 z5 z6 z7 z8 z9 z10 → k104' z0 z1 z2 z3 z4 z5 z6 z7 z8 z9 z10) : Ow w D T h M0 M → w_Works_shrink_j211 this Q X k104 v1 v2 v3 v4 v5 v6 v7 v8 v10 v11 v12 M → w_Works_shrink_j211 this Q' X' k104' v1 v2 v3 v4 v5 v6 v7 v8 v10 v11 v12 M := by
  intro hf
  unfold w_Works_shrink_j211
  exact (mo_w_Works_shrink_j212 hD n0 lQ hQ lX hX lk104 hk104 hf)
set_option maxRecDepth 20000 in
theorem mo_w_Works_shrink_j138 {w : Nat} {D : Nat → Nat → Prop} {T : Nat → Prop} {h : Hot} {this : Nat} {Q Q' : Int32 → Mem → Prop} {h_Q : Hot} {X X' : Mem → Prop} {h_X : Hot} {k104 k104' : Int32 → Int32 → Int32 → Int32 → Int32 → Int32 → Nat → Int32 → Int32 → Int32 → Mem → Prop} {h_k104 : Hot} {v1 : Int32} {v2 : Int32} {v3 : Int32} {v4 : Int32} {v5 : Int32} {v6 : Int32} {v7 : Nat} {v8 : Int32} {v9 : Int32} {v10 : Int32} {v11 : Int32} {M : Mem} {M0 : Mem} (hD : Dok w D) (n0 : w = 0) (lQ : ∀ t, h_Q t = true → h t = true) (hQ : ∀ z0 z1, Ow w D T h_Q M0 z1 → Q z0 z1 → Q' z0 z1) (lX : ∀ t, h_X t = true → h t = true) (hX : ∀ z0, Ow w D T h_X M0 z0 → X z0 → X' z0) (lk104 : ∀ t, h_k104 t = true → h t = true) (hk104 : ∀ z0 z1 z2 z3 z4 z5 z6 z7 z8 z9 z10, Ow w D T h_k104 M0 z10 → k104 z0 z1 z2 z3 z4 z5 z6 z7 z8 z9 z10 → k104' z0 z1 z2 z3 z4 z5 z6 z7 z8 z9 z10) : Ow w D T h M0 M → w_Works_shrink_j138 this Q X k104 v1 v2 v3 v4 v5 v6 v7 v8 v9 v10 v11 M → w_Works_shrink_j138 this Q' X' k104' v1 v2 v3 v4 v5 v6 v7 v8 v9 v10 v11 M := by
  intro hf
  unfold w_Works_shrink_j138
  exact (mf_and fun _ => (mf_and fun _ => (mf_and fun _ => (mf_and fun _ => (mf_and fun _ => (Exists.imp fun M17 => (mf_and fun e1 => (have g2 : Ow w D T _ M0 M17 := Ow.of e1 (Ow.wcp (ow0 rfl) hf); (mf_and fun _ => (mf_and fun _ => (mf_and fun _ => (mf_and fun _ => (mf_and fun _ => (Exists.imp fun M23 => (mf_and fun e3 => (have g4 : Ow w D T _ M0 M23 := Ow.of e3 (Ow.wcp (ow0 rfl) g2); (mo_w_Works_work1 hD n0 (fun M29 f5 => (have g6 : Ow w D T _ M0 M29 := (Ow.trans g4 f5); (mf_ite (mf_ite (mo_w_Works_shrink_j212 hD n0 lQ hQ lX hX lk104 hk104 g6) (mo_w_Works_shrink_j211 hD n0 lQ hQ lX hX lk104 hk104 g6)) (mo_w_Works_shrink_j211 hD n0 lQ hQ lX hX lk104 hk104 g6)))) (fun z8 f7 => hX z8 (Ow.dn lX (Ow.trans g4 f7))) g4.1)))))))))))))))))
set_option maxRecDepth 20000 in
theorem mo_w_Works_shrink_L115 {w : Nat} {D : Nat → Nat → Prop} {T : Nat → Prop} {h : Hot} {this : Nat} {Q Q' : Int32 → Mem → Prop} {h_Q : Hot} {X X' : Mem → Prop} {h_X : Hot} {k104 k104' : Int32 → Int32 → Int32 → Int32 → Int32 → Int32 → Nat → Int32 → Int32 → Int32 → Mem → Prop} {h_k104 : Hot} {M0 : Mem} (hD : Dok w D) (n0 : w = 0) (lQ : ∀ t, h_Q t = true → h t = true) (hQ : ∀ z0 z1, Ow w D T h_Q M0 z1 → Q z0 z1 → Q' z0 z1) (lX : ∀ t, h_X t = true → h t = true) (hX : ∀ z0, Ow w D T h_X M0 z0 → X z0 → X' z0) (lk104 : ∀ t, h_k104 t = true → h t = true) (hk104 : ∀ z0 z1 z2 z3 z4 z5 z6 z7 z8 z9 z10, Ow w D T h_k104 M0 z10 → k104 z0 z1 z2 z3 z4 z5 z6 z7 z8 z9 z10 → k104' z0 z1 z2 z3 z4 z5 z6 z7 z8 z9 z10) : ∀ (n : Nat) (v1 : Int32) (v2 : Int32) (v3 : Int32) (v4 : Int32) (v5 : Int32) (v6 : Int32) (v7 : Nat) (v8 : Int32) (v9 : Int32) (v10 : Int32) (v11 : Int32) (M : Mem), Ow w D T h M0 M → w_Works_shrink_L115 this Q X k104 n v1 v2 v3 v4 v5 v6 v7 v8 v9 v10 v11 M → w_Works_shrink_L115 this Q' X' k104' n v1 v2 v3 v4 v5 v6 v7 v8 v9 v10 v11 M
  | 0, _, _, _, _, _, _, _, _, _, _, _, _ => fun  _ h => h
  | n + 1, v1, v2, v3, v4, v5, v6, v7, v8, v9, v10, v11, M => fun  hf => by
    unfold w_Works_shrink_L115
    exact (mf_ite (mo_w_Works_shrink_j138 hD n0 lQ hQ lX hX lk104 hk104 hf) (mf_and fun _ => (mf_ite (mo_w_Works_shrink_j138 hD n0 lQ hQ lX hX lk104 hk104 hf) (mo_w_Works_shrink_L115 hD n0 lQ hQ lX hX lk104 hk104 _ _ _ _ _ _ _ _ _ _ _ _ _  hf))))
set_option maxRecDepth 20000 in
theorem mo_w_Works_shrink_L104 {w : Nat} {D : Nat → Nat → Prop} {T : Nat → Prop} {h : Hot} {this : Nat} {Q Q' : Int32 → Mem → Prop} {h_Q : Hot} {X X' : Mem → Prop} {h_X : Hot} {M0 : Mem} (hD : Dok w D) (n0 : w = 0) (lQ : ∀ t, h_Q t = true → h t = true) (hQ : ∀ z0 z1, Ow w D T h_Q M0 z1 → Q z0 z1 → Q' z0 z1) (lX : ∀ t, h_X t = true → h t = true) (hX : ∀ z0, Ow w D T h_X M0 z0 → X z0 → X' z0) : ∀ (n : Nat) (v1 : Int32) (v2 : Int32) (v3 : Int32) (v4 : Int32) (v5 : Int32) (v6 : Int32) (v7 : Nat) (v8 : Int32) (v9 : Int32) (v10 : Int32) (M : Mem), Ow w D T h M0 M → w_Works_shrink_L104 this Q X n v1 v2 v3 v4 v5 v6 v7 v8 v9 v10 M → w_Works_shrink_L104 this Q' X' n v1 v2 v3 v4 v5 v6 v7 v8 v9 v10 M
  | 0, _, _, _, _, _, _, _, _, _, _, _ => fun  _ h => h
  | n + 1, v1, v2, v3, v4, v5, v6, v7, v8, v9, v10, M => fun  hf => by
    unfold w_Works_shrink_L104
    exact (mf_ite (mf_and fun _ => (have g1 : Ow w D T _ M0 (sI M 98 this v1.toNatClampNeg v8) := (Ow.wI (ow0 rfl) hf); (mo_w_Works_forget hD  (fun M15 f2 => (have g3 : Ow w D T _ M0 M15 := (Ow.trans g1 f2); (hQ _ _  (Ow.dn lQ g3)))) g1.1))) (Exists.imp fun n45 => (mo_w_Works_shrink_L115 hD n0 lQ hQ lX hX (fun _ e => e) (fun y0 y1 y2 y3 y4 y5 y6 y7 y8 y9 y10  hf => mo_w_Works_shrink_L104 hD n0 lQ hQ lX hX n y0 y1 y2 y3 y4 y5 y6 y7 y8 y9 y10  hf) _ _ _ _ _ _ _ _ _ _ _ _ _  hf)))
set_option maxRecDepth 20000 in
theorem mo_w_Works_shrink_j101 {w : Nat} {D : Nat → Nat → Prop} {T : Nat → Prop} {h : Hot} {this : Nat} {Q Q' : Int32 → Mem → Prop} {h_Q : Hot} {X X' : Mem → Prop} {h_X : Hot} {v1 : Int32} {v2 : Int32} {v3 : Int32} {v4 : Int32} {v5 : Int32} {v6 : Int32} {v7 : Nat} {v8 : Int32} {v9 : Int32} {M : Mem} {M0 : Mem} (hD : Dok w D) (n0 : w = 0) (lQ : ∀ t, h_Q t = true → h t = true) (hQ : ∀ z0 z1, Ow w D T h_Q M0 z1 → Q z0 z1 → Q' z0 z1) (lX : ∀ t, h_X t = true → h t = true) (hX : ∀ z0, Ow w D T h_X M0 z0 → X z0 → X' z0) : Ow w D T h M0 M → w_Works_shrink_j101 this Q X v1 v2 v3 v4 v5 v6 v7 v8 v9 M → w_Works_shrink_j101 this Q' X' v1 v2 v3 v4 v5 v6 v7 v8 v9 M := by
  intro hf
  unfold w_Works_shrink_j101
  exact (Exists.imp fun n46 => (mo_w_Works_shrink_L104 hD n0 lQ hQ lX hX _ _ _ _ _ _ _ _ _ _ _ _  hf))
set_option maxRecDepth 20000 in
theorem mo_w_Works_shrink_L78 {w : Nat} {D : Nat → Nat → Prop} {T : Nat → Prop} {h : Hot} {this : Nat} {Q Q' : Int32 → Mem → Prop} {h_Q : Hot} {X X' : Mem → Prop} {h_X : Hot} {M0 : Mem} (hD : Dok w D) (n0 : w = 0) (lQ : ∀ t, h_Q t = true → h t = true) (hQ : ∀ z0 z1, Ow w D T h_Q M0 z1 → Q z0 z1 → Q' z0 z1) (lX : ∀ t, h_X t = true → h t = true) (hX : ∀ z0, Ow w D T h_X M0 z0 → X z0 → X' z0) : ∀ (n : Nat) (v1 : Int32) (v2 : Int32) (v3 : Int32) (v4 : Int32) (v5 : Int32) (v6 : Int32) (v7 : Nat) (v8 : Int32) (v9 : Int32) (M : Mem), Ow w D T h M0 M → w_Works_shrink_L78 this Q X n v1 v2 v3 v4 v5 v6 v7 v8 v9 M → w_Works_shrink_L78 this Q' X' n v1 v2 v3 v4 v5 v6 v7 v8 v9 M
  | 0, _, _, _, _, _, _, _, _, _, _ => fun  _ h => h
  | n + 1, v1, v2, v3, v4, v5, v6, v7, v8, v9, M => fun  hf => by
    unfold w_Works_shrink_L78
    exact (mf_ite (mo_w_Works_shrink_j101 hD n0 lQ hQ lX hX hf) (mf_and fun _ => (mf_ite (mo_w_Works_shrink_j101 hD n0 lQ hQ lX hX hf) (mo_w_Works_shrink_L78 hD n0 lQ hQ lX hX _ _ _ _ _ _ _ _ _ _ _  hf))))
set_option maxRecDepth 20000 in
theorem mo_w_Works_shrink {w : Nat} {D : Nat → Nat → Prop} {T : Nat → Prop} {h : Hot} {this : Nat} {a1 : Int32} {a2 : Int32} {Q Q' : Int32 → Mem → Prop} {X X' : Mem → Prop} {M : Mem} (hD : Dok w D) (n0 : w = 0) (hQ : ∀ z0 z1, Ow w D T h M z1 → Q z0 z1 → Q' z0 z1) (hX : ∀ z0, Ow w D T h M z0 → X z0 → X' z0) : St w D T h M → w_Works_shrink this a1 a2 Q X M → w_Works_shrink this a1 a2 Q' X' M := by
  intro hs
  unfold w_Works_shrink
  exact (mo_w_Works_isTrial hD  (fun r2 M1 f1 => (have g2 : Ow w D T _ M M1 := (Ow.trans (Ow.rf hs) f1); (mf_ite (hQ _ _  g2) (mo_w_Works_isIn hD  (fun r5 M4 f3 => (have g4 : Ow w D T _ M M4 := (Ow.trans g2 f3); (mf_ite (hQ _ _  g4) (mo_w_Works_work2 hD n0 (fun M7 f5 => (have g6 : Ow w D T _ M M7 := (Ow.trans g4 f5); (mo_w_Works_work2 hD n0 (fun M8 f7 => (have g8 : Ow w D T _ M M8 := (Ow.trans g6 f7); (mf_and fun _ => (Exists.imp fun i10 => (mf_and fun e9 => (mf_and fun _ => (Exists.imp fun n49 => (mo_w_Works_shrink_L78 hD n0 (fun _ e => e) hQ (fun _ e => e) hX _ _ _ _ _ _ _ _ _ _ _  g8)))))))) (fun z12 f11 => hX z12 (Ow.trans g6 f11)) g6.1))) (fun z14 f13 => hX z14 (Ow.trans g4 f13)) g4.1)))) g2.1)))) (Ow.rf hs).1)
set_option maxRecDepth 20000 in
theorem mo_w_Works_text {w : Nat} {D : Nat → Nat → Prop} {T : Nat → Prop} {h : Hot} {this : Nat} {a1 : Int32} {a2 : Int32} {Q Q' : Int32 → Mem → Prop} {M : Mem} (hD : Dok w D)  (hQ : ∀ z0 z1, Ow w D T h M z1 → Q z0 z1 → Q' z0 z1) : St w D T h M → w_Works_text this a1 a2 Q M → w_Works_text this a1 a2 Q' M := by
  intro hs
  unfold w_Works_text
  exact (mo_w_Works_isTrial hD  (fun r2 M1 f1 => (have g2 : Ow w D T _ M M1 := (Ow.trans (Ow.rf hs) f1); (mf_ite (hQ _ _  g2) (mf_and fun _ => (mo_w_Works_isIn hD  (fun r6 M5 f3 => (have g4 : Ow w D T _ M M5 := (Ow.trans g2 f3); (mf_ite (hQ _ _  g4) (mf_and fun _ => (Exists.imp fun i9 => (mf_and fun e5 => (mf_and fun _ => (hQ _ _  g4)))))))) g2.1))))) (Ow.rf hs).1)
set_option maxRecDepth 20000 in
theorem mo_w_Works_count {w : Nat} {D : Nat → Nat → Prop} {T : Nat → Prop} {h : Hot} {this : Nat} {a1 : Int32} {Q Q' : Int32 → Mem → Prop} {M : Mem} (hD : Dok w D)  (hQ : ∀ z0 z1, Ow w D T h M z1 → Q z0 z1 → Q' z0 z1) : St w D T h M → w_Works_count this a1 Q M → w_Works_count this a1 Q' M := by
  intro hs
  unfold w_Works_count
  exact (mf_ite (hQ _ _  (Ow.rf hs)) (mf_ite (hQ _ _  (Ow.rf hs)) (mf_ite (hQ _ _  (Ow.rf hs)) (hQ _ _  (Ow.rf hs)))))
set_option maxRecDepth 20000 in
theorem mo_w_Model_room {w : Nat} {D : Nat → Nat → Prop} {T : Nat → Prop} {h : Hot} {a1 : Nat} {a2 : Int32} {Q Q' : Nat → Mem → Prop} {M : Mem} (hD : Dok w D) (n0 : ow w D 300 a1) (hQ : ∀ z0 z1, ow w D 300 z0 → Ow w D T h M z1 → Q z0 z1 → Q' z0 z1) : St w D T h M → w_Model_room a1 a2 Q M → w_Model_room a1 a2 Q' M := by
  intro hs
  unfold w_Model_room
  exact (mf_ite (mo_w_JMath_max hD  (fun r3 M2 f1 => (have g2 : Ow w D T _ M M2 := (Ow.trans (Ow.rf hs) f1); (mf_and fun _ => (mf_and fun _ => (Exists.imp fun i5 => (mf_and fun e3 => (Exists.imp fun M4 => (mf_and fun e4 => (have g5 : Ow w D T _ M M4 := Ow.of e4 (Ow.wmk e3 rfl g2); (mf_and fun _ => (mf_and fun _ => (mf_and fun _ => (mf_and fun _ => (mf_and fun _ => (Exists.imp fun M9 => (mf_and fun e6 => (have g7 : Ow w D T _ M M9 := Ow.of e6 (Ow.wcp (ow.fr g2 rfl e3) g5); (hQ _ _ (ow.fr g2 rfl e3) g7)))))))))))))))))) (Ow.rf hs).1) (hQ _ _ n0 (Ow.rf hs)))
set_option maxRecDepth 20000 in
theorem mo_w_Model_roomy {w : Nat} {D : Nat → Nat → Prop} {T : Nat → Prop} {h : Hot} {a1 : Nat} {a2 : Int32} {Q Q' : Nat → Mem → Prop} {M : Mem} (hD : Dok w D) (n0 : ow w D 401 a1) (hQ : ∀ z0 z1, ow w D 401 z0 → Ow w D T h M z1 → Q z0 z1 → Q' z0 z1) : St w D T h M → w_Model_roomy a1 a2 Q M → w_Model_roomy a1 a2 Q' M := by
  intro hs
  unfold w_Model_roomy
  exact (mf_ite (mo_w_JMath_max hD  (fun r3 M2 f1 => (have g2 : Ow w D T _ M M2 := (Ow.trans (Ow.rf hs) f1); (mf_and fun _ => (mf_and fun _ => (Exists.imp fun i5 => (mf_and fun e3 => (Exists.imp fun M4 => (mf_and fun e4 => (have g5 : Ow w D T _ M M4 := Ow.of e4 (Ow.wmk e3 rfl g2); (mf_and fun _ => (mf_and fun _ => (mf_and fun _ => (mf_and fun _ => (mf_and fun _ => (Exists.imp fun M9 => (mf_and fun e6 => (have g7 : Ow w D T _ M M9 := Ow.of e6 (Ow.wcp (ow.fr g2 rfl e3) g5); (hQ _ _ (ow.fr g2 rfl e3) g7)))))))))))))))))) (Ow.rf hs).1) (hQ _ _ n0 (Ow.rf hs)))
set_option maxRecDepth 20000 in
theorem mo_w_Model_isName_j59 {w : Nat} {D : Nat → Nat → Prop} {T : Nat → Prop} {h : Hot} {this : Nat} {Q Q' : Int32 → Mem → Prop} {h_Q : Hot} {k21 k21' : Int32 → Nat → Int32 → Int32 → Int32 → Int32 → Mem → Prop} {h_k21 : Hot} {v1 : Int32} {v2 : Nat} {v3 : Int32} {v4 : Int32} {v6 : Int32} {s0 : Int32} {M : Mem} {M0 : Mem} (hD : Dok w D)  (lQ : ∀ t, h_Q t = true → h t = true) (hQ : ∀ z0 z1, Ow w D T h_Q M0 z1 → Q z0 z1 → Q' z0 z1) (lk21 : ∀ t, h_k21 t = true → h t = true) (hk21 : ∀ z0 z1 z2 z3 z4 z5 z6, Ow w D T h_k21 M0 z6 → k21 z0 z1 z2 z3 z4 z5 z6 → k21' z0 z1 z2 z3 z4 z5 z6) : Ow w D T h M0 M → w_Model_isName_j59 this Q k21 v1 v2 v3 v4 v6 s0 M → w_Model_isName_j59 this Q' k21' v1 v2 v3 v4 v6 s0 M := by
  intro hf
  unfold w_Model_isName_j59
  exact (hk21 _ _ _ _ _ _ _  (Ow.dn lk21 hf))
set_option maxRecDepth 20000 in
theorem mo_w_Model_isName_L21 {w : Nat} {D : Nat → Nat → Prop} {T : Nat → Prop} {h : Hot} {this : Nat} {Q Q' : Int32 → Mem → Prop} {h_Q : Hot} {M0 : Mem} (hD : Dok w D)  (lQ : ∀ t, h_Q t = true → h t = true) (hQ : ∀ z0 z1, Ow w D T h_Q M0 z1 → Q z0 z1 → Q' z0 z1) : ∀ (n : Nat) (v1 : Int32) (v2 : Nat) (v3 : Int32) (v4 : Int32) (v5 : Int32) (v6 : Int32) (M : Mem), Ow w D T h M0 M → w_Model_isName_L21 this Q n v1 v2 v3 v4 v5 v6 M → w_Model_isName_L21 this Q' n v1 v2 v3 v4 v5 v6 M
  | 0, _, _, _, _, _, _, _ => fun  _ h => h
  | n + 1, v1, v2, v3, v4, v5, v6, M => fun  hf => by
    unfold w_Model_isName_L21
    exact (mf_ite (mf_and fun _ => (hQ _ _  (Ow.dn lQ hf))) (mf_ite (mf_and fun _ => (hQ _ _  (Ow.dn lQ hf))) (Exists.imp fun i6 => (mf_and fun e1 => (mf_and fun _ => (mf_and fun _ => (mf_ite (mo_w_Model_isName_j59 hD  lQ hQ (fun _ e => e) (fun y0 y1 y2 y3 y4 y5 y6  hf => mo_w_Model_isName_L21 hD  lQ hQ n y0 y1 y2 y3 y4 y5 y6  hf) hf) (mo_w_Model_isName_j59 hD  lQ hQ (fun _ e => e) (fun y0 y1 y2 y3 y4 y5 y6  hf => mo_w_Model_isName_L21 hD  lQ hQ n y0 y1 y2 y3 y4 y5 y6  hf) hf))))))))
set_option maxRecDepth 20000 in
theorem mo_w_Model_isName_j16 {w : Nat} {D : Nat → Nat → Prop} {T : Nat → Prop} {h : Hot} {this : Nat} {Q Q' : Int32 → Mem → Prop} {h_Q : Hot} {v1 : Int32} {v2 : Nat} {v3 : Int32} {v4 : Int32} {s0 : Int32} {M : Mem} {M0 : Mem} (hD : Dok w D)  (lQ : ∀ t, h_Q t = true → h t = true) (hQ : ∀ z0 z1, Ow w D T h_Q M0 z1 → Q z0 z1 → Q' z0 z1) : Ow w D T h M0 M → w_Model_isName_j16 this Q v1 v2 v3 v4 s0 M → w_Model_isName_j16 this Q' v1 v2 v3 v4 s0 M := by
  intro hf
  unfold w_Model_isName_j16
  exact (Exists.imp fun n10 => (mo_w_Model_isName_L21 hD  lQ hQ _ _ _ _ _ _ _ _  hf))
set_option maxRecDepth 20000 in
theorem mo_w_Model_isName {w : Nat} {D : Nat → Nat → Prop} {T : Nat → Prop} {h : Hot} {this : Nat} {a1 : Int32} {a2 : Nat} {a3 : Int32} {a4 : Int32} {Q Q' : Int32 → Mem → Prop} {M : Mem} (hD : Dok w D)  (hQ : ∀ z0 z1, Ow w D T h M z1 → Q z0 z1 → Q' z0 z1) : St w D T h M → w_Model_isName this a1 a2 a3 a4 Q M → w_Model_isName this a1 a2 a3 a4 Q' M := by
  intro hs
  unfold w_Model_isName
  exact (Exists.imp fun i1 => (mf_and fun e1 => (mf_and fun _ => (mf_ite (mo_w_Model_isName_j16 hD  (fun _ e => e) hQ (Ow.rf hs)) (mo_w_Model_isName_j16 hD  (fun _ e => e) hQ (Ow.rf hs))))))
set_option maxRecDepth 20000 in
theorem mo_w_Model_nameIn_L150 {w : Nat} {D : Nat → Nat → Prop} {T : Nat → Prop} {h : Hot} {this : Nat} {Q Q' : Int32 → Mem → Prop} {h_Q : Hot} {M0 : Mem} (hD : Dok w D) (n0 : ow w D 11 this) (lQ : ∀ t, h_Q t = true → h t = true) (hQ : ∀ z0 z1, Ow w D T h_Q M0 z1 → Q z0 z1 → Q' z0 z1) : ∀ (n : Nat) (v1 : Nat) (v2 : Int32) (v3 : Int32) (v5 : Int32) (v6 : Int32) (M : Mem), Ow w D T h M0 M → w_Model_nameIn_L150 this Q n v1 v2 v3 v5 v6 M → w_Model_nameIn_L150 this Q' n v1 v2 v3 v5 v6 M
  | 0, _, _, _, _, _, _ => fun  _ h => h
  | n + 1, v1, v2, v3, v5, v6, M => fun  hf => by
    unfold w_Model_nameIn_L150
    exact (mf_ite (Exists.imp fun i15 => (mf_and fun e1 => (have o2 : ow w D 401 i15 := (Ow.r0 e1 rfl n0 hf); (mf_and fun _ => (Exists.imp fun M17 => (mf_and fun e3 => (have g4 : Ow w D T _ M0 M17 := Ow.of e3 (Ow.wI o2 hf); (Exists.imp fun i18 => (mf_and fun e5 => (have o6 : ow w D 300 i18 := (Ow.r0 e5 rfl n0 g4); (mf_and fun _ => (mf_and fun _ => (Exists.imp fun M21 => (mf_and fun e7 => (have g8 : Ow w D T _ M0 M21 := Ow.of e7 (Ow.wI o6 g4); (mf_and fun _ => (Exists.imp fun M23 => (mf_and fun e9 => (have g10 : Ow w D T _ M0 M23 := Ow.of e9 (Ow.wI (ow0 rfl) (Ow.wI n0 g8)); (hQ _ _  (Ow.dn lQ g10))))))))))))))))))))) (Exists.imp fun i24 => (mf_and fun e11 => (have o12 : ow w D 401 i24 := (Ow.r0 e11 rfl n0 hf); (mf_and fun _ => (mf_and fun _ => (Exists.imp fun M27 => (mf_and fun e13 => (have g14 : Ow w D T _ M0 M27 := Ow.of e13 (Ow.wI o12 hf); (mo_w_Model_nameIn_L150 hD n0 lQ hQ _ _ _ _ _ _ _  g14))))))))))
set_option maxRecDepth 20000 in
theorem mo_w_Model_nameIn_L55 {w : Nat} {D : Nat → Nat → Prop} {T : Nat → Prop} {h : Hot} {this : Nat} {Q Q' : Int32 → Mem → Prop} {h_Q : Hot} {M0 : Mem} (hD : Dok w D) (n0 : ow w D 11 this) (lQ : ∀ t, h_Q t = true → h t = true) (hQ : ∀ z0 z1, Ow w D T h_Q M0 z1 → Q z0 z1 → Q' z0 z1) : ∀ (n : Nat) (v1 : Nat) (v2 : Int32) (v3 : Int32) (v5 : Int32) (v6 : Int32) (M : Mem), Ow w D T h M0 M → w_Model_nameIn_L55 this Q n v1 v2 v3 v5 v6 M → w_Model_nameIn_L55 this Q' n v1 v2 v3 v5 v6 M
  | 0, _, _, _, _, _, _ => fun  _ h => h
  | n + 1, v1, v2, v3, v5, v6, M => fun  hf => by
    unfold w_Model_nameIn_L55
    exact (mf_ite (Exists.imp fun i5 => (mf_and fun e1 => (have o2 : ow w D 401 i5 := (Ow.r0 e1 rfl n0 hf); (mo_w_Model_roomy hD o2 (fun i7 M6 o5 f3 => (have g4 : Ow w D T _ M0 M6 := (Ow.trans hf f3); (Exists.imp fun i8 => (mf_and fun e6 => (have o7 : ow w D 401 i8 := (Ow.r0 e6 rfl n0 (Ow.wR rfl n0 o5 g4)); (have g8 : Ow w D T _ M0 (sR M6 11 this 0 (some (401, i7))) := (Ow.wR rfl n0 o5 g4); (mo_w_Model_roomy hD o7 (fun i10 M9 o11 f9 => (have g10 : Ow w D T _ M0 M9 := (Ow.trans g8 f9); (Exists.imp fun i11 => (mf_and fun e12 => (have o13 : ow w D 300 i11 := (Ow.r0 e12 rfl n0 (Ow.wR rfl n0 o11 g10)); (have g14 : Ow w D T _ M0 (sR M9 11 this 1 (some (401, i10))) := (Ow.wR rfl n0 o11 g10); (mo_w_Model_room hD o13 (fun i13 M12 o17 f15 => (have g16 : Ow w D T _ M0 M12 := (Ow.trans g14 f15); (Exists.imp fun n28 => (have g18 : Ow w D T _ M0 (sR M12 11 this 2 (some (300, i13))) := (Ow.wR rfl n0 o17 g16); (mo_w_Model_nameIn_L150 hD n0 lQ hQ _ _ _ _ _ _ _  g18))))) g14.1))))))) g8.1))))))) hf.1)))) (mo_w_Model_isName hD  (fun r30 M29 f19 => (have g20 : Ow w D T _ M0 M29 := (Ow.trans hf f19); (mf_ite (Exists.imp fun i32 => (mf_and fun e21 => (mf_and fun _ => (mo_w_Model_nameIn_L55 hD n0 lQ hQ _ _ _ _ _ _ _  g20)))) (hQ _ _  (Ow.dn lQ g20))))) hf.1))
set_option maxRecDepth 20000 in
theorem mo_w_Model_nameIn_L6 {w : Nat} {D : Nat → Nat → Prop} {T : Nat → Prop} {h : Hot} {this : Nat} {Q Q' : Int32 → Mem → Prop} {h_Q : Hot} {M0 : Mem} (hD : Dok w D) (n0 : ow w D 11 this) (lQ : ∀ t, h_Q t = true → h t = true) (hQ : ∀ z0 z1, Ow w D T h_Q M0 z1 → Q z0 z1 → Q' z0 z1) : ∀ (n : Nat) (v1 : Nat) (v2 : Int32) (v3 : Int32) (v4 : Int32) (v5 : Int32) (M : Mem), Ow w D T h M0 M → w_Model_nameIn_L6 this Q n v1 v2 v3 v4 v5 M → w_Model_nameIn_L6 this Q' n v1 v2 v3 v4 v5 M
  | 0, _, _, _, _, _, _ => fun  _ h => h
  | n + 1, v1, v2, v3, v4, v5, M => fun  hf => by
    unfold w_Model_nameIn_L6
    exact (mf_ite (Exists.imp fun x2 => (mf_and fun _ => (mf_and fun _ => (Exists.imp fun n34 => (mo_w_Model_nameIn_L55 hD n0 lQ hQ _ _ _ _ _ _ _  hf))))) (mf_and fun _ => (Exists.imp fun x36 => (mf_and fun _ => (mo_w_Model_nameIn_L6 hD n0 lQ hQ _ _ _ _ _ _ _  hf)))))
set_option maxRecDepth 20000 in
theorem mo_w_Model_nameIn {w : Nat} {D : Nat → Nat → Prop} {T : Nat → Prop} {h : Hot} {this : Nat} {a1 : Nat} {a2 : Int32} {a3 : Int32} {Q Q' : Int32 → Mem → Prop} {M : Mem} (hD : Dok w D) (n0 : ow w D 11 this) (hQ : ∀ z0 z1, Ow w D T h M z1 → Q z0 z1 → Q' z0 z1) : St w D T h M → w_Model_nameIn this a1 a2 a3 Q M → w_Model_nameIn this a1 a2 a3 Q' M := by
  intro hs
  unfold w_Model_nameIn
  exact (Exists.imp fun n37 => (mo_w_Model_nameIn_L6 hD n0 (fun _ e => e) hQ _ _ _ _ _ _ _  (Ow.rf hs)))
set_option maxRecDepth 20000 in
theorem mo_w_Model_isSignature_j68 {w : Nat} {D : Nat → Nat → Prop} {T : Nat → Prop} {h : Hot} {this : Nat} {Q Q' : Int32 → Mem → Prop} {h_Q : Hot} {k31 k31' : Int32 → Nat → Int32 → Int32 → Int32 → Mem → Prop} {h_k31 : Hot} {v1 : Int32} {v2 : Nat} {v3 : Int32} {v6 : Int32} {s0 : Int32} {M : Mem} {M0 : Mem} (hD : Dok w D)  (lQ : ∀ t, h_Q t = true → h t = true) (hQ : ∀ z0 z1, Ow w D T h_Q M0 z1 → Q z0 z1 → Q' z0 z1) (lk31 : ∀ t, h_k31 t = true → h t = true) (hk31 : ∀ z0 z1 z2 z3 z4 z5, Ow w D T h_k31 M0 z5 → k31 z0 z1 z2 z3 z4 z5 → k31' z0 z1 z2 z3 z4 z5) : Ow w D T h M0 M → w_Model_isSignature_j68 this Q k31 v1 v2 v3 v6 s0 M → w_Model_isSignature_j68 this Q' k31' v1 v2 v3 v6 s0 M := by
  intro hf
  unfold w_Model_isSignature_j68
  exact (hk31 _ _ _ _ _ _  (Ow.dn lk31 hf))
set_option maxRecDepth 20000 in
theorem mo_w_Model_isSignature_L31 {w : Nat} {D : Nat → Nat → Prop} {T : Nat → Prop} {h : Hot} {this : Nat} {Q Q' : Int32 → Mem → Prop} {h_Q : Hot} {M0 : Mem} (hD : Dok w D)  (lQ : ∀ t, h_Q t = true → h t = true) (hQ : ∀ z0 z1, Ow w D T h_Q M0 z1 → Q z0 z1 → Q' z0 z1) : ∀ (n : Nat) (v1 : Int32) (v2 : Nat) (v3 : Int32) (v5 : Int32) (v6 : Int32) (M : Mem), Ow w D T h M0 M → w_Model_isSignature_L31 this Q n v1 v2 v3 v5 v6 M → w_Model_isSignature_L31 this Q' n v1 v2 v3 v5 v6 M
  | 0, _, _, _, _, _, _ => fun  _ h => h
  | n + 1, v1, v2, v3, v5, v6, M => fun  hf => by
    unfold w_Model_isSignature_L31
    exact (mf_ite (mf_and fun _ => (hQ _ _  (Ow.dn lQ hf))) (mf_ite (mf_and fun _ => (hQ _ _  (Ow.dn lQ hf))) (Exists.imp fun i9 => (mf_and fun e1 => (Exists.imp fun i10 => (mf_and fun e3 => (mf_and fun _ => (mf_and fun _ => (mf_and fun _ => (mf_ite (mo_w_Model_isSignature_j68 hD  lQ hQ (fun _ e => e) (fun y0 y1 y2 y3 y4 y5  hf => mo_w_Model_isSignature_L31 hD  lQ hQ n y0 y1 y2 y3 y4 y5  hf) hf) (mo_w_Model_isSignature_j68 hD  lQ hQ (fun _ e => e) (fun y0 y1 y2 y3 y4 y5  hf => mo_w_Model_isSignature_L31 hD  lQ hQ n y0 y1 y2 y3 y4 y5  hf) hf)))))))))))
set_option maxRecDepth 20000 in
theorem mo_w_Model_isSignature_j26 {w : Nat} {D : Nat → Nat → Prop} {T : Nat → Prop} {h : Hot} {this : Nat} {Q Q' : Int32 → Mem → Prop} {h_Q : Hot} {v1 : Int32} {v2 : Nat} {v3 : Int32} {s0 : Int32} {M : Mem} {M0 : Mem} (hD : Dok w D)  (lQ : ∀ t, h_Q t = true → h t = true) (hQ : ∀ z0 z1, Ow w D T h_Q M0 z1 → Q z0 z1 → Q' z0 z1) : Ow w D T h M0 M → w_Model_isSignature_j26 this Q v1 v2 v3 s0 M → w_Model_isSignature_j26 this Q' v1 v2 v3 s0 M := by
  intro hf
  unfold w_Model_isSignature_j26
  exact (Exists.imp fun n15 => (mo_w_Model_isSignature_L31 hD  lQ hQ _ _ _ _ _ _ _  hf))
set_option maxRecDepth 20000 in
theorem mo_w_Model_isSignature_j25 {w : Nat} {D : Nat → Nat → Prop} {T : Nat → Prop} {h : Hot} {this : Nat} {Q Q' : Int32 → Mem → Prop} {h_Q : Hot} {v1 : Int32} {v2 : Nat} {v3 : Int32} {M : Mem} {M0 : Mem} (hD : Dok w D)  (lQ : ∀ t, h_Q t = true → h t = true) (hQ : ∀ z0 z1, Ow w D T h_Q M0 z1 → Q z0 z1 → Q' z0 z1) : Ow w D T h M0 M → w_Model_isSignature_j25 this Q v1 v2 v3 M → w_Model_isSignature_j25 this Q' v1 v2 v3 M := by
  intro hf
  unfold w_Model_isSignature_j25
  exact (mo_w_Model_isSignature_j26 hD  lQ hQ hf)
set_option maxRecDepth 20000 in
theorem mo_w_Model_isSignature {w : Nat} {D : Nat → Nat → Prop} {T : Nat → Prop} {h : Hot} {this : Nat} {a1 : Int32} {a2 : Nat} {a3 : Int32} {a4 : Int32} {Q Q' : Int32 → Mem → Prop} {M : Mem} (hD : Dok w D)  (hQ : ∀ z0 z1, Ow w D T h M z1 → Q z0 z1 → Q' z0 z1) : St w D T h M → w_Model_isSignature this a1 a2 a3 a4 Q M → w_Model_isSignature this a1 a2 a3 a4 Q' M := by
  intro hs
  unfold w_Model_isSignature
  exact (Exists.imp fun i1 => (mf_and fun e1 => (mf_and fun _ => (mf_ite (Exists.imp fun i4 => (mf_and fun e3 => (mf_and fun _ => (mf_ite (mo_w_Model_isSignature_j26 hD  (fun _ e => e) hQ (Ow.rf hs)) (mo_w_Model_isSignature_j25 hD  (fun _ e => e) hQ (Ow.rf hs)))))) (mo_w_Model_isSignature_j25 hD  (fun _ e => e) hQ (Ow.rf hs))))))
set_option maxRecDepth 20000 in
theorem mo_w_Model_signature_L58 {w : Nat} {D : Nat → Nat → Prop} {T : Nat → Prop} {h : Hot} {this : Nat} {Q Q' : Int32 → Mem → Prop} {h_Q : Hot} {M0 : Mem} (hD : Dok w D) (n0 : ow w D 11 this) (lQ : ∀ t, h_Q t = true → h t = true) (hQ : ∀ z0 z1, Ow w D T h_Q M0 z1 → Q z0 z1 → Q' z0 z1) : ∀ (n : Nat) (v1 : Nat) (v2 : Int32) (v3 : Int32) (v5 : Int32) (v6 : Int32) (M : Mem), Ow w D T h M0 M → w_Model_signature_L58 this Q n v1 v2 v3 v5 v6 M → w_Model_signature_L58 this Q' n v1 v2 v3 v5 v6 M
  | 0, _, _, _, _, _, _ => fun  _ h => h
  | n + 1, v1, v2, v3, v5, v6, M => fun  hf => by
    unfold w_Model_signature_L58
    exact (mf_ite (Exists.imp fun i5 => (mf_and fun e1 => (have o2 : ow w D 300 i5 := (Ow.r0 e1 rfl n0 hf); (mo_w_Model_room hD o2 (fun i7 M6 o5 f3 => (have g4 : Ow w D T _ M0 M6 := (Ow.trans hf f3); (Exists.imp fun i8 => (mf_and fun e6 => (have o7 : ow w D 300 i8 := (Ow.r0 e6 rfl n0 (Ow.wR rfl n0 o5 g4)); (have g8 : Ow w D T _ M0 (sR M6 11 this 30 (some (300, i7))) := (Ow.wR rfl n0 o5 g4); (mo_w_Model_room hD o7 (fun i10 M9 o11 f9 => (have g10 : Ow w D T _ M0 M9 := (Ow.trans g8 f9); (Exists.imp fun i11 => (mf_and fun e12 => (have o13 : ow w D 300 i11 := (Ow.r0 e12 rfl n0 (Ow.wR rfl n0 o11 g10)); (have g14 : Ow w D T _ M0 (sR M9 11 this 31 (some (300, i10))) := (Ow.wR rfl n0 o11 g10); (mo_w_Model_room hD o13 (fun i13 M12 o17 f15 => (have g16 : Ow w D T _ M0 M12 := (Ow.trans g14 f15); (Exists.imp fun i14 => (mf_and fun e18 => (have o19 : ow w D 300 i14 := (Ow.r0 e18 rfl n0 (Ow.wR rfl n0 o17 g16)); (have g20 : Ow w D T _ M0 (sR M12 11 this 32 (some (300, i13))) := (Ow.wR rfl n0 o17 g16); (mo_w_Model_room hD o19 (fun i16 M15 o23 f21 => (have g22 : Ow w D T _ M0 M15 := (Ow.trans g20 f21); (Exists.imp fun i17 => (mf_and fun e24 => (have o25 : ow w D 300 i17 := (Ow.r0 e24 rfl n0 (Ow.wR rfl n0 o23 g22)); (have g26 : Ow w D T _ M0 (sR M15 11 this 33 (some (300, i16))) := (Ow.wR rfl n0 o23 g22); (mo_w_Model_room hD o25 (fun i19 M18 o29 f27 => (have g28 : Ow w D T _ M0 M18 := (Ow.trans g26 f27); (Exists.imp fun i20 => (mf_and fun e30 => (have o31 : ow w D 300 i20 := (Ow.r0 e30 rfl n0 (Ow.wR rfl n0 o29 g28)); (mf_and fun _ => (mf_and fun _ => (mf_and fun _ => (mf_and fun _ => (mf_and fun _ => (Exists.imp fun M21 => (mf_and fun e32 => (have g33 : Ow w D T _ M0 M21 := Ow.of e32 (Ow.wcp o31 (Ow.wR rfl n0 o29 g28)); (Exists.imp fun i27 => (mf_and fun e34 => (have o35 : ow w D 300 i27 := (Ow.r0 e34 rfl n0 g33); (mf_and fun _ => (Exists.imp fun i29 => (mf_and fun e36 => (have o37 : ow w D 300 i29 := (Ow.r0 e36 rfl n0 (Ow.wI o35 g33)); (mf_and fun _ => (Exists.imp fun M31 => (mf_and fun e38 => (have g39 : Ow w D T _ M0 M31 := Ow.of e38 (Ow.wI o37 (Ow.wI o35 g33)); (Exists.imp fun i32 => (mf_and fun e40 => (have o41 : ow w D 300 i32 := (Ow.r0 e40 rfl n0 g39); (mf_and fun _ => (Exists.imp fun i34 => (mf_and fun e42 => (have o43 : ow w D 300 i34 := (Ow.r0 e42 rfl n0 (Ow.wI o41 g39)); (mf_and fun _ => (mf_and fun _ => (Exists.imp fun M37 => (mf_and fun e44 => (have g45 : Ow w D T _ M0 M37 := Ow.of e44 (Ow.wI o43 (Ow.wI o41 g39)); (Exists.imp fun M38 => (mf_and fun e46 => (have g47 : Ow w D T _ M0 M38 := Ow.of e46 (Ow.wI n0 (Ow.wI n0 g45)); (mf_and fun _ => (hQ _ _  (Ow.dn lQ (Ow.wI (ow0 rfl) g47))))))))))))))))))))))))))))))))))))))))))) g26.1))))))) g20.1))))))) g14.1))))))) g8.1))))))) hf.1)))) (mo_w_Model_isSignature hD  (fun r41 M40 f48 => (have g49 : Ow w D T _ M0 M40 := (Ow.trans hf f48); (mf_ite (Exists.imp fun i43 => (mf_and fun e50 => (mf_and fun _ => (mo_w_Model_signature_L58 hD n0 lQ hQ _ _ _ _ _ _ _  g49)))) (hQ _ _  (Ow.dn lQ g49))))) hf.1))
set_option maxRecDepth 20000 in
theorem mo_w_Model_signature_L11 {w : Nat} {D : Nat → Nat → Prop} {T : Nat → Prop} {h : Hot} {this : Nat} {Q Q' : Int32 → Mem → Prop} {h_Q : Hot} {M0 : Mem} (hD : Dok w D) (n0 : ow w D 11 this) (lQ : ∀ t, h_Q t = true → h t = true) (hQ : ∀ z0 z1, Ow w D T h_Q M0 z1 → Q z0 z1 → Q' z0 z1) : ∀ (n : Nat) (v1 : Nat) (v2 : Int32) (v3 : Int32) (v4 : Int32) (v5 : Int32) (M : Mem), Ow w D T h M0 M → w_Model_signature_L11 this Q n v1 v2 v3 v4 v5 M → w_Model_signature_L11 this Q' n v1 v2 v3 v4 v5 M
  | 0, _, _, _, _, _, _ => fun  _ h => h
  | n + 1, v1, v2, v3, v4, v5, M => fun  hf => by
    unfold w_Model_signature_L11
    exact (mf_ite (Exists.imp fun x2 => (mf_and fun _ => (mf_and fun _ => (Exists.imp fun n45 => (mo_w_Model_signature_L58 hD n0 lQ hQ _ _ _ _ _ _ _  hf))))) (mf_and fun _ => (mo_w_Model_signature_L11 hD n0 lQ hQ _ _ _ _ _ _ _  hf)))
set_option maxRecDepth 20000 in
theorem mo_w_Model_signature {w : Nat} {D : Nat → Nat → Prop} {T : Nat → Prop} {h : Hot} {this : Nat} {a1 : Nat} {a2 : Int32} {a3 : Int32} {Q Q' : Int32 → Mem → Prop} {M : Mem} (hD : Dok w D) (n0 : ow w D 11 this) (hQ : ∀ z0 z1, Ow w D T h M z1 → Q z0 z1 → Q' z0 z1) : St w D T h M → w_Model_signature this a1 a2 a3 Q M → w_Model_signature this a1 a2 a3 Q' M := by
  intro hs
  unfold w_Model_signature
  exact (Exists.imp fun n47 => (mo_w_Model_signature_L11 hD n0 (fun _ e => e) hQ _ _ _ _ _ _ _  (Ow.rf hs)))
set_option maxRecDepth 20000 in
theorem mo_w_Model_isDigit {w : Nat} {D : Nat → Nat → Prop} {T : Nat → Prop} {h : Hot} {a1 : Int32} {Q Q' : Int32 → Mem → Prop} {M : Mem} (hD : Dok w D)  (hQ : ∀ z0 z1, Ow w D T h M z1 → Q z0 z1 → Q' z0 z1) : St w D T h M → w_Model_isDigit a1 Q M → w_Model_isDigit a1 Q' M := by
  intro hs
  unfold w_Model_isDigit
  exact (mf_ite (hQ _ _  (Ow.rf hs)) (mf_ite (hQ _ _  (Ow.rf hs)) (hQ _ _  (Ow.rf hs))))
set_option maxRecDepth 20000 in
theorem mo_w_Model_isLetter_j24 {w : Nat} {D : Nat → Nat → Prop} {T : Nat → Prop} {h : Hot} {Q Q' : Int32 → Mem → Prop} {h_Q : Hot} {v0 : Int32} {M : Mem} {M0 : Mem} (hD : Dok w D)  (lQ : ∀ t, h_Q t = true → h t = true) (hQ : ∀ z0 z1, Ow w D T h_Q M0 z1 → Q z0 z1 → Q' z0 z1) : Ow w D T h M0 M → w_Model_isLetter_j24 Q v0 M → w_Model_isLetter_j24 Q' v0 M := by
  intro hf
  unfold w_Model_isLetter_j24
  exact (mf_ite (hQ _ _  (Ow.dn lQ hf)) (hQ _ _  (Ow.dn lQ hf)))
set_option maxRecDepth 20000 in
theorem mo_w_Model_isLetter_j12 {w : Nat} {D : Nat → Nat → Prop} {T : Nat → Prop} {h : Hot} {Q Q' : Int32 → Mem → Prop} {h_Q : Hot} {v0 : Int32} {M : Mem} {M0 : Mem} (hD : Dok w D)  (lQ : ∀ t, h_Q t = true → h t = true) (hQ : ∀ z0 z1, Ow w D T h_Q M0 z1 → Q z0 z1 → Q' z0 z1) : Ow w D T h M0 M → w_Model_isLetter_j12 Q v0 M → w_Model_isLetter_j12 Q' v0 M := by
  intro hf
  unfold w_Model_isLetter_j12
  exact (mf_ite (mo_w_Model_isLetter_j24 hD  lQ hQ hf) (mf_ite (hQ _ _  (Ow.dn lQ hf)) (mo_w_Model_isLetter_j24 hD  lQ hQ hf)))
set_option maxRecDepth 20000 in
theorem mo_w_Model_isLetter {w : Nat} {D : Nat → Nat → Prop} {T : Nat → Prop} {h : Hot} {a1 : Int32} {Q Q' : Int32 → Mem → Prop} {M : Mem} (hD : Dok w D)  (hQ : ∀ z0 z1, Ow w D T h M z1 → Q z0 z1 → Q' z0 z1) : St w D T h M → w_Model_isLetter a1 Q M → w_Model_isLetter a1 Q' M := by
  intro hs
  unfold w_Model_isLetter
  exact (mf_ite (mo_w_Model_isLetter_j12 hD  (fun _ e => e) hQ (Ow.rf hs)) (mf_ite (hQ _ _  (Ow.rf hs)) (mo_w_Model_isLetter_j12 hD  (fun _ e => e) hQ (Ow.rf hs))))
set_option maxRecDepth 20000 in
theorem mo_w_Model_addWord {w : Nat} {D : Nat → Nat → Prop} {T : Nat → Prop} {h : Hot} {this : Nat} {a1 : Int32} {a2 : Int32} {a3 : Int32} {Q Q' : Mem → Prop} {M : Mem} (hD : Dok w D) (n0 : ow w D 11 this) (hQ : ∀ z0, Ow w D T h M z0 → Q z0 → Q' z0) : St w D T h M → w_Model_addWord this a1 a2 a3 Q M → w_Model_addWord this a1 a2 a3 Q' M := by
  intro hs
  unfold w_Model_addWord
  exact (mf_and fun _ => (Exists.imp fun M2 => (mf_and fun e1 => (have g2 : Ow w D T _ M M2 := Ow.of e1 (Ow.wI (ow0 rfl) (Ow.rf hs)); (mf_and fun _ => (mf_and fun _ => (Exists.imp fun M5 => (mf_and fun e3 => (have g4 : Ow w D T _ M M5 := Ow.of e3 (Ow.wI (ow0 rfl) (Ow.wI (ow0 rfl) g2)); (hQ _  (Ow.wI n0 g4)))))))))))
set_option maxRecDepth 20000 in
theorem mo_w_Model_number_j144 {w : Nat} {D : Nat → Nat → Prop} {T : Nat → Prop} {h : Hot} {this : Nat} {Q Q' : Int32 → Mem → Prop} {h_Q : Hot} {v2 : Int32} {v6 : Int32} {v9 : Int64} {s0 : Int32} {M : Mem} {M0 : Mem} (hD : Dok w D) (n0 : ow w D 11 this) (lQ : ∀ t, h_Q t = true → h t = true) (hQ : ∀ z0 z1, Ow w D T h_Q M0 z1 → Q z0 z1 → Q' z0 z1) : Ow w D T h M0 M → w_Model_number_j144 this Q v2 v6 v9 s0 M → w_Model_number_j144 this Q' v2 v6 v9 s0 M := by
  intro hf
  unfold w_Model_number_j144
  exact (mo_w_Model_addWord hD n0 (fun M8 f1 => (have g2 : Ow w D T _ M0 M8 := (Ow.trans hf f1); (hQ _ _  (Ow.dn lQ g2)))) hf.1)
set_option maxRecDepth 20000 in
theorem mo_w_Model_number_j131 {w : Nat} {D : Nat → Nat → Prop} {T : Nat → Prop} {h : Hot} {this : Nat} {Q Q' : Int32 → Mem → Prop} {h_Q : Hot} {v2 : Int32} {v6 : Int32} {v9 : Int64} {s0 : Int32} {M : Mem} {M0 : Mem} (hD : Dok w D) (n0 : ow w D 11 this) (lQ : ∀ t, h_Q t = true → h t = true) (hQ : ∀ z0 z1, Ow w D T h_Q M0 z1 → Q z0 z1 → Q' z0 z1) : Ow w D T h M0 M → w_Model_number_j131 this Q v2 v6 v9 s0 M → w_Model_number_j131 this Q' v2 v6 v9 s0 M := by
  intro hf
  unfold w_Model_number_j131
  exact (mf_ite (mo_w_Model_number_j144 hD n0 lQ hQ hf) (mo_w_Model_number_j144 hD n0 lQ hQ hf))
set_option maxRecDepth 20000 in
theorem mo_w_Model_number_j130 {w : Nat} {D : Nat → Nat → Prop} {T : Nat → Prop} {h : Hot} {this : Nat} {Q Q' : Int32 → Mem → Prop} {h_Q : Hot} {v2 : Int32} {v6 : Int32} {v9 : Int64} {M : Mem} {M0 : Mem} (hD : Dok w D) (n0 : ow w D 11 this) (lQ : ∀ t, h_Q t = true → h t = true) (hQ : ∀ z0 z1, Ow w D T h_Q M0 z1 → Q z0 z1 → Q' z0 z1) : Ow w D T h M0 M → w_Model_number_j130 this Q v2 v6 v9 M → w_Model_number_j130 this Q' v2 v6 v9 M := by
  intro hf
  unfold w_Model_number_j130
  exact (mo_w_Model_number_j131 hD n0 lQ hQ hf)
set_option maxRecDepth 20000 in
theorem mo_w_Model_number_j104 {w : Nat} {D : Nat → Nat → Prop} {T : Nat → Prop} {h : Hot} {this : Nat} {Q Q' : Int32 → Mem → Prop} {h_Q : Hot} {v2 : Int32} {v5 : Int32} {v6 : Int32} {s0 : Int64} {M : Mem} {M0 : Mem} (hD : Dok w D) (n0 : ow w D 11 this) (lQ : ∀ t, h_Q t = true → h t = true) (hQ : ∀ z0 z1, Ow w D T h_Q M0 z1 → Q z0 z1 → Q' z0 z1) : Ow w D T h M0 M → w_Model_number_j104 this Q v2 v5 v6 s0 M → w_Model_number_j104 this Q' v2 v5 v6 s0 M := by
  intro hf
  unfold w_Model_number_j104
  exact (mf_ite (mo_w_Model_number_j130 hD n0 lQ hQ hf) (mf_ite (mo_w_Model_number_j131 hD n0 lQ hQ hf) (mo_w_Model_number_j130 hD n0 lQ hQ hf)))
set_option maxRecDepth 20000 in
theorem mo_w_Model_number_j91 {w : Nat} {D : Nat → Nat → Prop} {T : Nat → Prop} {h : Hot} {this : Nat} {Q Q' : Int32 → Mem → Prop} {h_Q : Hot} {v2 : Int32} {v4 : Int32} {v5 : Int32} {v6 : Int32} {v7 : Int64} {M : Mem} {M0 : Mem} (hD : Dok w D) (n0 : ow w D 11 this) (lQ : ∀ t, h_Q t = true → h t = true) (hQ : ∀ z0 z1, Ow w D T h_Q M0 z1 → Q z0 z1 → Q' z0 z1) : Ow w D T h M0 M → w_Model_number_j91 this Q v2 v4 v5 v6 v7 M → w_Model_number_j91 this Q' v2 v4 v5 v6 v7 M := by
  intro hf
  unfold w_Model_number_j91
  exact (mf_ite (mo_w_Model_number_j104 hD n0 lQ hQ hf) (mo_w_Model_number_j104 hD n0 lQ hQ hf))
set_option maxRecDepth 20000 in
theorem mo_w_Model_number_j83 {w : Nat} {D : Nat → Nat → Prop} {T : Nat → Prop} {h : Hot} {this : Nat} {Q Q' : Int32 → Mem → Prop} {h_Q : Hot} {k36 k36' : Nat → Int32 → Int32 → Int32 → Int32 → Int32 → Int64 → Mem → Prop} {h_k36 : Hot} {v1 : Nat} {v2 : Int32} {v3 : Int32} {v4 : Int32} {v5 : Int32} {v6 : Int32} {s0 : Int64} {M : Mem} {M0 : Mem} (hD : Dok w D)  (lQ : ∀ t, h_Q t = true → h t = true) (hQ : ∀ z0 z1, Ow w D T h_Q M0 z1 → Q z0 z1 → Q' z0 z1) (lk36 : ∀ t, h_k36 t = true → h t = true) (hk36 : ∀ z0 z1 z2 z3 z4 z5 z6 z7, Ow w D T h_k36 M0 z7 → k36 z0 z1 z2 z3 z4 z5 z6 z7 → k36' z0 z1 z2 z3 z4 z5 z6 z7) : Ow w D T h M0 M → w_Model_number_j83 this Q k36 v1 v2 v3 v4 v5 v6 s0 M → w_Model_number_j83 this Q' k36' v1 v2 v3 v4 v5 v6 s0 M := by
  intro hf
  unfold w_Model_number_j83
  exact (hk36 _ _ _ _ _ _ _ _  (Ow.dn lk36 hf))
set_option maxRecDepth 20000 in
theorem mo_w_Model_number_L36 {w : Nat} {D : Nat → Nat → Prop} {T : Nat → Prop} {h : Hot} {this : Nat} {Q Q' : Int32 → Mem → Prop} {h_Q : Hot} {M0 : Mem} (hD : Dok w D) (n0 : ow w D 11 this) (lQ : ∀ t, h_Q t = true → h t = true) (hQ : ∀ z0 z1, Ow w D T h_Q M0 z1 → Q z0 z1 → Q' z0 z1) : ∀ (n : Nat) (v1 : Nat) (v2 : Int32) (v3 : Int32) (v4 : Int32) (v5 : Int32) (v6 : Int32) (v7 : Int64) (M : Mem), Ow w D T h M0 M → w_Model_number_L36 this Q n v1 v2 v3 v4 v5 v6 v7 M → w_Model_number_L36 this Q' n v1 v2 v3 v4 v5 v6 v7 M
  | 0, _, _, _, _, _, _, _, _ => fun  _ h => h
  | n + 1, v1, v2, v3, v4, v5, v6, v7, M => fun  hf => by
    unfold w_Model_number_L36
    exact (mf_ite (mo_w_Model_number_j91 hD n0 lQ hQ hf) (mf_and fun _ => (mo_w_Model_isDigit hD  (fun r12 M11 f1 => (have g2 : Ow w D T _ M0 M11 := (Ow.trans hf f1); (mf_ite (mo_w_Model_number_j91 hD n0 lQ hQ g2) (mf_ite (mo_w_Model_number_j83 hD  lQ hQ (fun _ e => e) (fun y0 y1 y2 y3 y4 y5 y6 y7  hf => mo_w_Model_number_L36 hD n0 lQ hQ n y0 y1 y2 y3 y4 y5 y6 y7  hf) g2) (mf_and fun _ => (mo_w_Model_number_j83 hD  lQ hQ (fun _ e => e) (fun y0 y1 y2 y3 y4 y5 y6 y7  hf => mo_w_Model_number_L36 hD n0 lQ hQ n y0 y1 y2 y3 y4 y5 y6 y7  hf) g2)))))) hf.1)))
set_option maxRecDepth 20000 in
theorem mo_w_Model_number_j27 {w : Nat} {D : Nat → Nat → Prop} {T : Nat → Prop} {h : Hot} {this : Nat} {Q Q' : Int32 → Mem → Prop} {h_Q : Hot} {v1 : Nat} {v2 : Int32} {v3 : Int32} {v4 : Int32} {s0 : Int32} {M : Mem} {M0 : Mem} (hD : Dok w D) (n0 : ow w D 11 this) (lQ : ∀ t, h_Q t = true → h t = true) (hQ : ∀ z0 z1, Ow w D T h_Q M0 z1 → Q z0 z1 → Q' z0 z1) : Ow w D T h M0 M → w_Model_number_j27 this Q v1 v2 v3 v4 s0 M → w_Model_number_j27 this Q' v1 v2 v3 v4 s0 M := by
  intro hf
  unfold w_Model_number_j27
  exact (Exists.imp fun n16 => (mo_w_Model_number_L36 hD n0 lQ hQ _ _ _ _ _ _ _ _ _  hf))
set_option maxRecDepth 20000 in
theorem mo_w_Model_number_j13 {w : Nat} {D : Nat → Nat → Prop} {T : Nat → Prop} {h : Hot} {this : Nat} {Q Q' : Int32 → Mem → Prop} {h_Q : Hot} {v1 : Nat} {v2 : Int32} {v3 : Int32} {s0 : Int32} {M : Mem} {M0 : Mem} (hD : Dok w D) (n0 : ow w D 11 this) (lQ : ∀ t, h_Q t = true → h t = true) (hQ : ∀ z0 z1, Ow w D T h_Q M0 z1 → Q z0 z1 → Q' z0 z1) : Ow w D T h M0 M → w_Model_number_j13 this Q v1 v2 v3 s0 M → w_Model_number_j13 this Q' v1 v2 v3 s0 M := by
  intro hf
  unfold w_Model_number_j13
  exact (mf_ite (mo_w_Model_number_j27 hD n0 lQ hQ hf) (mo_w_Model_number_j27 hD n0 lQ hQ hf))
set_option maxRecDepth 20000 in
theorem mo_w_Model_number {w : Nat} {D : Nat → Nat → Prop} {T : Nat → Prop} {h : Hot} {this : Nat} {a1 : Nat} {a2 : Int32} {a3 : Int32} {Q Q' : Int32 → Mem → Prop} {M : Mem} (hD : Dok w D) (n0 : ow w D 11 this) (hQ : ∀ z0 z1, Ow w D T h M z1 → Q z0 z1 → Q' z0 z1) : St w D T h M → w_Model_number this a1 a2 a3 Q M → w_Model_number this a1 a2 a3 Q' M := by
  intro hs
  unfold w_Model_number
  exact (mf_and fun _ => (mf_ite (mo_w_Model_number_j13 hD n0 (fun _ e => e) hQ (Ow.rf hs)) (mo_w_Model_number_j13 hD n0 (fun _ e => e) hQ (Ow.rf hs))))
set_option maxRecDepth 20000 in
theorem mo_w_Model_isTag {w : Nat} {D : Nat → Nat → Prop} {T : Nat → Prop} {h : Hot} {this : Nat} {a1 : Int32} {a2 : Nat} {a3 : Int32} {a4 : Int32} {Q Q' : Int32 → Mem → Prop} {M : Mem} (hD : Dok w D)  (hQ : ∀ z0 z1, Ow w D T h M z1 → Q z0 z1 → Q' z0 z1) : St w D T h M → w_Model_isTag this a1 a2 a3 a4 Q M → w_Model_isTag this a1 a2 a3 a4 Q' M := by
  intro hs
  unfold w_Model_isTag
  exact (Exists.imp fun i1 => (mf_and fun e1 => (mf_and fun _ => (mf_ite (hQ _ _  (Ow.rf hs)) (Exists.imp fun i4 => (mf_and fun e3 => (mf_and fun _ => (mo_w_Model_isName hD  (fun r7 M6 f5 => (have g6 : Ow w D T _ M M6 := (Ow.trans (Ow.rf hs) f5); (mf_ite (hQ _ _  g6) (hQ _ _  g6)))) (Ow.rf hs).1))))))))
set_option maxRecDepth 20000 in
theorem mo_w_Model_cutLine_j395 {w : Nat} {D : Nat → Nat → Prop} {T : Nat → Prop} {h : Hot} {this : Nat} {Q Q' : Int32 → Mem → Prop} {h_Q : Hot} {v3 : Int32} {s0 : Int32} {M : Mem} {M0 : Mem} (hD : Dok w D) (n0 : ow w D 11 this) (lQ : ∀ t, h_Q t = true → h t = true) (hQ : ∀ z0 z1, Ow w D T h_Q M0 z1 → Q z0 z1 → Q' z0 z1) : Ow w D T h M0 M → w_Model_cutLine_j395 this Q v3 s0 M → w_Model_cutLine_j395 this Q' v3 s0 M := by
  intro hf
  unfold w_Model_cutLine_j395
  exact (mo_w_Model_addWord hD n0 (fun M3 f1 => (have g2 : Ow w D T _ M0 M3 := (Ow.trans hf f1); (mf_and fun _ => (hQ _ _  (Ow.dn lQ g2))))) hf.1)
set_option maxRecDepth 20000 in
theorem mo_w_Model_cutLine_j383 {w : Nat} {D : Nat → Nat → Prop} {T : Nat → Prop} {h : Hot} {this : Nat} {Q Q' : Int32 → Mem → Prop} {h_Q : Hot} {v3 : Int32} {M : Mem} {M0 : Mem} (hD : Dok w D) (n0 : ow w D 11 this) (lQ : ∀ t, h_Q t = true → h t = true) (hQ : ∀ z0 z1, Ow w D T h_Q M0 z1 → Q z0 z1 → Q' z0 z1) : Ow w D T h M0 M → w_Model_cutLine_j383 this Q v3 M → w_Model_cutLine_j383 this Q' v3 M := by
  intro hf
  unfold w_Model_cutLine_j383
  exact (mf_ite (mo_w_Model_cutLine_j395 hD n0 lQ hQ hf) (mo_w_Model_cutLine_j395 hD n0 lQ hQ hf))
set_option maxRecDepth 20000 in
theorem mo_w_Model_cutLine_j376 {w : Nat} {D : Nat → Nat → Prop} {T : Nat → Prop} {h : Hot} {this : Nat} {Q Q' : Int32 → Mem → Prop} {h_Q : Hot} {k16 k16' : Nat → Int32 → Int32 → Int32 → Mem → Prop} {h_k16 : Hot} {v1 : Nat} {v3 : Int32} {v5 : Int32} {v7 : Int32} {M : Mem} {M0 : Mem} (hD : Dok w D)  (lQ : ∀ t, h_Q t = true → h t = true) (hQ : ∀ z0 z1, Ow w D T h_Q M0 z1 → Q z0 z1 → Q' z0 z1) (lk16 : ∀ t, h_k16 t = true → h t = true) (hk16 : ∀ z0 z1 z2 z3 z4, Ow w D T h_k16 M0 z4 → k16 z0 z1 z2 z3 z4 → k16' z0 z1 z2 z3 z4) : Ow w D T h M0 M → w_Model_cutLine_j376 this Q k16 v1 v3 v5 v7 M → w_Model_cutLine_j376 this Q' k16' v1 v3 v5 v7 M := by
  intro hf
  unfold w_Model_cutLine_j376
  exact (hk16 _ _ _ _ _  (Ow.dn lk16 hf))
set_option maxRecDepth 20000 in
theorem mo_w_Model_cutLine_j260 {w : Nat} {D : Nat → Nat → Prop} {T : Nat → Prop} {h : Hot} {this : Nat} {Q Q' : Int32 → Mem → Prop} {h_Q : Hot} {k16 k16' : Nat → Int32 → Int32 → Int32 → Mem → Prop} {h_k16 : Hot} {v1 : Nat} {v3 : Int32} {v4 : Int32} {v5 : Int32} {v6 : Int32} {v7 : Int32} {M : Mem} {M0 : Mem} (hD : Dok w D) (n0 : ow w D 11 this) (lQ : ∀ t, h_Q t = true → h t = true) (hQ : ∀ z0 z1, Ow w D T h_Q M0 z1 → Q z0 z1 → Q' z0 z1) (lk16 : ∀ t, h_k16 t = true → h t = true) (hk16 : ∀ z0 z1 z2 z3 z4, Ow w D T h_k16 M0 z4 → k16 z0 z1 z2 z3 z4 → k16' z0 z1 z2 z3 z4) : Ow w D T h M0 M → w_Model_cutLine_j260 this Q k16 v1 v3 v4 v5 v6 v7 M → w_Model_cutLine_j260 this Q' k16' v1 v3 v4 v5 v6 v7 M := by
  intro hf
  unfold w_Model_cutLine_j260
  exact (mo_w_Model_addWord hD n0 (fun M17 f1 => (have g2 : Ow w D T _ M0 M17 := (Ow.trans hf f1); (mo_w_Model_cutLine_j376 hD  lQ hQ lk16 hk16 g2))) hf.1)
set_option maxRecDepth 20000 in
theorem mo_w_Model_cutLine_j358 {w : Nat} {D : Nat → Nat → Prop} {T : Nat → Prop} {h : Hot} {this : Nat} {Q Q' : Int32 → Mem → Prop} {h_Q : Hot} {k16 k16' : Nat → Int32 → Int32 → Int32 → Mem → Prop} {h_k16 : Hot} {v1 : Nat} {v3 : Int32} {v4 : Int32} {v5 : Int32} {v6 : Int32} {v7 : Int32} {M : Mem} {M0 : Mem} (hD : Dok w D) (n0 : ow w D 11 this) (lQ : ∀ t, h_Q t = true → h t = true) (hQ : ∀ z0 z1, Ow w D T h_Q M0 z1 → Q z0 z1 → Q' z0 z1) (lk16 : ∀ t, h_k16 t = true → h t = true) (hk16 : ∀ z0 z1 z2 z3 z4, Ow w D T h_k16 M0 z4 → k16 z0 z1 z2 z3 z4 → k16' z0 z1 z2 z3 z4) : Ow w D T h M0 M → w_Model_cutLine_j358 this Q k16 v1 v3 v4 v5 v6 v7 M → w_Model_cutLine_j358 this Q' k16' v1 v3 v4 v5 v6 v7 M := by
  intro hf
  unfold w_Model_cutLine_j358
  exact (mf_ite (mo_w_Model_cutLine_j376 hD  lQ hQ lk16 hk16 hf) (mo_w_Model_addWord hD n0 (fun M33 f1 => (have g2 : Ow w D T _ M0 M33 := (Ow.trans hf f1); (mo_w_Model_cutLine_j376 hD  lQ hQ lk16 hk16 g2))) hf.1))
set_option maxRecDepth 20000 in
theorem mo_w_Model_cutLine_j315 {w : Nat} {D : Nat → Nat → Prop} {T : Nat → Prop} {h : Hot} {this : Nat} {Q Q' : Int32 → Mem → Prop} {h_Q : Hot} {k16 k16' : Nat → Int32 → Int32 → Int32 → Mem → Prop} {h_k16 : Hot} {v1 : Nat} {v3 : Int32} {v4 : Int32} {v5 : Int32} {v6 : Int32} {v7 : Int32} {M : Mem} {M0 : Mem} (hD : Dok w D) (n0 : ow w D 11 this) (lQ : ∀ t, h_Q t = true → h t = true) (hQ : ∀ z0 z1, Ow w D T h_Q M0 z1 → Q z0 z1 → Q' z0 z1) (lk16 : ∀ t, h_k16 t = true → h t = true) (hk16 : ∀ z0 z1 z2 z3 z4, Ow w D T h_k16 M0 z4 → k16 z0 z1 z2 z3 z4 → k16' z0 z1 z2 z3 z4) : Ow w D T h M0 M → w_Model_cutLine_j315 this Q k16 v1 v3 v4 v5 v6 v7 M → w_Model_cutLine_j315 this Q' k16' v1 v3 v4 v5 v6 v7 M := by
  intro hf
  unfold w_Model_cutLine_j315
  exact (mf_ite (mo_w_Model_isTag hD  (fun r30 M29 f1 => (have g2 : Ow w D T _ M0 M29 := (Ow.trans hf f1); (mf_ite (mo_w_Model_cutLine_j358 hD n0 lQ hQ lk16 hk16 g2) (mo_w_Model_addWord hD n0 (fun M34 f3 => (have g4 : Ow w D T _ M0 M34 := (Ow.trans g2 f3); (mo_w_Model_cutLine_j376 hD  lQ hQ lk16 hk16 g4))) g2.1)))) hf.1) (mo_w_Model_cutLine_j358 hD n0 lQ hQ lk16 hk16 hf))
set_option maxRecDepth 20000 in
theorem mo_w_Model_cutLine_j211 {w : Nat} {D : Nat → Nat → Prop} {T : Nat → Prop} {h : Hot} {this : Nat} {Q Q' : Int32 → Mem → Prop} {h_Q : Hot} {k16 k16' : Nat → Int32 → Int32 → Int32 → Mem → Prop} {h_k16 : Hot} {v1 : Nat} {v3 : Int32} {v4 : Int32} {v5 : Int32} {v6 : Int32} {v7 : Int32} {M : Mem} {M0 : Mem} (hD : Dok w D) (n0 : ow w D 11 this) (lQ : ∀ t, h_Q t = true → h t = true) (hQ : ∀ z0 z1, Ow w D T h_Q M0 z1 → Q z0 z1 → Q' z0 z1) (lk16 : ∀ t, h_k16 t = true → h t = true) (hk16 : ∀ z0 z1 z2 z3 z4, Ow w D T h_k16 M0 z4 → k16 z0 z1 z2 z3 z4 → k16' z0 z1 z2 z3 z4) : Ow w D T h M0 M → w_Model_cutLine_j211 this Q k16 v1 v3 v4 v5 v6 v7 M → w_Model_cutLine_j211 this Q' k16' v1 v3 v4 v5 v6 v7 M := by
  intro hf
  unfold w_Model_cutLine_j211
  exact (mf_ite (mo_w_Model_cutLine_j260 hD n0 lQ hQ lk16 hk16 hf) (mf_ite (mo_w_Model_cutLine_j260 hD n0 lQ hQ lk16 hk16 hf) (mf_ite (mo_w_Model_cutLine_j260 hD n0 lQ hQ lk16 hk16 hf) (mf_ite (mo_w_Model_cutLine_j260 hD n0 lQ hQ lk16 hk16 hf) (mf_ite (mo_w_Model_cutLine_j260 hD n0 lQ hQ lk16 hk16 hf) (mf_ite (mo_w_Model_cutLine_j260 hD n0 lQ hQ lk16 hk16 hf) (mf_ite (mo_w_Model_cutLine_j260 hD n0 lQ hQ lk16 hk16 hf) (mf_ite (mo_w_Model_isTag hD  (fun r26 M25 f1 => (have g2 : Ow w D T _ M0 M25 := (Ow.trans hf f1); (mf_ite (mo_w_Model_cutLine_j315 hD n0 lQ hQ lk16 hk16 g2) (mo_w_Model_addWord hD n0 (fun M35 f3 => (have g4 : Ow w D T _ M0 M35 := (Ow.trans g2 f3); (mo_w_Model_cutLine_j376 hD  lQ hQ lk16 hk16 g4))) g2.1)))) hf.1) (mo_w_Model_cutLine_j315 hD n0 lQ hQ lk16 hk16 hf)))))))))
set_option maxRecDepth 20000 in
theorem mo_w_Model_cutLine_j206 {w : Nat} {D : Nat → Nat → Prop} {T : Nat → Prop} {h : Hot} {this : Nat} {Q Q' : Int32 → Mem → Prop} {h_Q : Hot} {k16 k16' : Nat → Int32 → Int32 → Int32 → Mem → Prop} {h_k16 : Hot} {v1 : Nat} {v3 : Int32} {v7 : Int32} {s0 : Int32} {M : Mem} {M0 : Mem} (hD : Dok w D)  (lQ : ∀ t, h_Q t = true → h t = true) (hQ : ∀ z0 z1, Ow w D T h_Q M0 z1 → Q z0 z1 → Q' z0 z1) (lk16 : ∀ t, h_k16 t = true → h t = true) (hk16 : ∀ z0 z1 z2 z3 z4, Ow w D T h_k16 M0 z4 → k16 z0 z1 z2 z3 z4 → k16' z0 z1 z2 z3 z4) : Ow w D T h M0 M → w_Model_cutLine_j206 this Q k16 v1 v3 v7 s0 M → w_Model_cutLine_j206 this Q' k16' v1 v3 v7 s0 M := by
  intro hf
  unfold w_Model_cutLine_j206
  exact (mo_w_Model_cutLine_j376 hD  lQ hQ lk16 hk16 hf)
set_option maxRecDepth 20000 in
theorem mo_w_Model_cutLine_j176 {w : Nat} {D : Nat → Nat → Prop} {T : Nat → Prop} {h : Hot} {this : Nat} {Q Q' : Int32 → Mem → Prop} {h_Q : Hot} {k16 k16' : Nat → Int32 → Int32 → Int32 → Mem → Prop} {h_k16 : Hot} {v1 : Nat} {v3 : Int32} {v4 : Int32} {M : Mem} {M0 : Mem} (hD : Dok w D) (n0 : ow w D 11 this) (lQ : ∀ t, h_Q t = true → h t = true) (hQ : ∀ z0 z1, Ow w D T h_Q M0 z1 → Q z0 z1 → Q' z0 z1) (lk16 : ∀ t, h_k16 t = true → h t = true) (hk16 : ∀ z0 z1 z2 z3 z4, Ow w D T h_k16 M0 z4 → k16 z0 z1 z2 z3 z4 → k16' z0 z1 z2 z3 z4) : Ow w D T h M0 M → w_Model_cutLine_j176 this Q k16 v1 v3 v4 M → w_Model_cutLine_j176 this Q' k16' v1 v3 v4 M := by
  intro hf
  unfold w_Model_cutLine_j176
  exact (mo_w_Model_number hD n0 (fun r41 M40 f1 => (have g2 : Ow w D T _ M0 M40 := (Ow.trans hf f1); (mf_and fun _ => (mf_ite (mo_w_Model_cutLine_j206 hD  lQ hQ lk16 hk16 g2) (mo_w_Model_cutLine_j206 hD  lQ hQ lk16 hk16 g2))))) hf.1)
set_option maxRecDepth 20000 in
theorem mo_w_Model_cutLine_j137 {w : Nat} {D : Nat → Nat → Prop} {T : Nat → Prop} {h : Hot} {this : Nat} {Q Q' : Int32 → Mem → Prop} {h_Q : Hot} {k16 k16' : Nat → Int32 → Int32 → Int32 → Mem → Prop} {h_k16 : Hot} {v1 : Nat} {v3 : Int32} {v4 : Int32} {v5 : Int32} {v7 : Int32} {s0 : Int32} {s1 : Int32} {M : Mem} {M0 : Mem} (hD : Dok w D) (n0 : ow w D 11 this) (lQ : ∀ t, h_Q t = true → h t = true) (hQ : ∀ z0 z1, Ow w D T h_Q M0 z1 → Q z0 z1 → Q' z0 z1) (lk16 : ∀ t, h_k16 t = true → h t = true) (hk16 : ∀ z0 z1 z2 z3 z4, Ow w D T h_k16 M0 z4 → k16 z0 z1 z2 z3 z4 → k16' z0 z1 z2 z3 z4) : Ow w D T h M0 M → w_Model_cutLine_j137 this Q k16 v1 v3 v4 v5 v7 s0 s1 M → w_Model_cutLine_j137 this Q' k16' v1 v3 v4 v5 v7 s0 s1 M := by
  intro hf
  unfold w_Model_cutLine_j137
  exact (mo_w_Model_addWord hD n0 (fun M48 f1 => (have g2 : Ow w D T _ M0 M48 := (Ow.trans hf f1); (mo_w_Model_cutLine_j376 hD  lQ hQ lk16 hk16 g2))) hf.1)
set_option maxRecDepth 20000 in
theorem mo_w_Model_cutLine_j116 {w : Nat} {D : Nat → Nat → Prop} {T : Nat → Prop} {h : Hot} {this : Nat} {Q Q' : Int32 → Mem → Prop} {h_Q : Hot} {k16 k16' : Nat → Int32 → Int32 → Int32 → Mem → Prop} {h_k16 : Hot} {v1 : Nat} {v3 : Int32} {v4 : Int32} {v5 : Int32} {v7 : Int32} {s0 : Int32} {M : Mem} {M0 : Mem} (hD : Dok w D) (n0 : ow w D 11 this) (lQ : ∀ t, h_Q t = true → h t = true) (hQ : ∀ z0 z1, Ow w D T h_Q M0 z1 → Q z0 z1 → Q' z0 z1) (lk16 : ∀ t, h_k16 t = true → h t = true) (hk16 : ∀ z0 z1 z2 z3 z4, Ow w D T h_k16 M0 z4 → k16 z0 z1 z2 z3 z4 → k16' z0 z1 z2 z3 z4) : Ow w D T h M0 M → w_Model_cutLine_j116 this Q k16 v1 v3 v4 v5 v7 s0 M → w_Model_cutLine_j116 this Q' k16' v1 v3 v4 v5 v7 s0 M := by
  intro hf
  unfold w_Model_cutLine_j116
  exact (mf_ite (mo_w_Model_cutLine_j137 hD n0 lQ hQ lk16 hk16 hf) (mo_w_Model_nameIn hD n0 (fun r50 M49 f1 => (have g2 : Ow w D T _ M0 M49 := (Ow.trans hf f1); (mo_w_Model_cutLine_j137 hD n0 lQ hQ lk16 hk16 g2))) hf.1))
set_option maxRecDepth 20000 in
theorem mo_w_Model_cutLine_j103 {w : Nat} {D : Nat → Nat → Prop} {T : Nat → Prop} {h : Hot} {this : Nat} {Q Q' : Int32 → Mem → Prop} {h_Q : Hot} {k16 k16' : Nat → Int32 → Int32 → Int32 → Mem → Prop} {h_k16 : Hot} {v1 : Nat} {v3 : Int32} {v4 : Int32} {v7 : Int32} {s0 : Int32} {M : Mem} {M0 : Mem} (hD : Dok w D) (n0 : ow w D 11 this) (lQ : ∀ t, h_Q t = true → h t = true) (hQ : ∀ z0 z1, Ow w D T h_Q M0 z1 → Q z0 z1 → Q' z0 z1) (lk16 : ∀ t, h_k16 t = true → h t = true) (hk16 : ∀ z0 z1 z2 z3 z4, Ow w D T h_k16 M0 z4 → k16 z0 z1 z2 z3 z4 → k16' z0 z1 z2 z3 z4) : Ow w D T h M0 M → w_Model_cutLine_j103 this Q k16 v1 v3 v4 v7 s0 M → w_Model_cutLine_j103 this Q' k16' v1 v3 v4 v7 s0 M := by
  intro hf
  unfold w_Model_cutLine_j103
  exact (mf_ite (mo_w_Model_cutLine_j116 hD n0 lQ hQ lk16 hk16 hf) (mo_w_Model_cutLine_j116 hD n0 lQ hQ lk16 hk16 hf))
set_option maxRecDepth 20000 in
theorem mo_w_Model_cutLine_j88 {w : Nat} {D : Nat → Nat → Prop} {T : Nat → Prop} {h : Hot} {this : Nat} {Q Q' : Int32 → Mem → Prop} {h_Q : Hot} {k16 k16' : Nat → Int32 → Int32 → Int32 → Mem → Prop} {h_k16 : Hot} {v1 : Nat} {v3 : Int32} {v4 : Int32} {v7 : Int32} {M : Mem} {M0 : Mem} (hD : Dok w D) (n0 : ow w D 11 this) (lQ : ∀ t, h_Q t = true → h t = true) (hQ : ∀ z0 z1, Ow w D T h_Q M0 z1 → Q z0 z1 → Q' z0 z1) (lk16 : ∀ t, h_k16 t = true → h t = true) (hk16 : ∀ z0 z1 z2 z3 z4, Ow w D T h_k16 M0 z4 → k16 z0 z1 z2 z3 z4 → k16' z0 z1 z2 z3 z4) : Ow w D T h M0 M → w_Model_cutLine_j88 this Q k16 v1 v3 v4 v7 M → w_Model_cutLine_j88 this Q' k16' v1 v3 v4 v7 M := by
  intro hf
  unfold w_Model_cutLine_j88
  exact (mf_ite (mo_w_Model_cutLine_j103 hD n0 lQ hQ lk16 hk16 hf) (mo_w_Model_cutLine_j103 hD n0 lQ hQ lk16 hk16 hf))
set_option maxRecDepth 20000 in
theorem mo_w_Model_cutLine_j82 {w : Nat} {D : Nat → Nat → Prop} {T : Nat → Prop} {h : Hot} {this : Nat} {Q Q' : Int32 → Mem → Prop} {h_Q : Hot} {k16 k16' : Nat → Int32 → Int32 → Int32 → Mem → Prop} {h_k16 : Hot} {k56 k56' : Nat → Int32 → Int32 → Int32 → Mem → Prop} {h_k56 : Hot} {v1 : Nat} {v3 : Int32} {v4 : Int32} {v7 : Int32} {M : Mem} {M0 : Mem} (hD : Dok w D)  (lQ : ∀ t, h_Q t = true → h t = true) (hQ : ∀ z0 z1, Ow w D T h_Q M0 z1 → Q z0 z1 → Q' z0 z1) (lk16 : ∀ t, h_k16 t = true → h t = true) (hk16 : ∀ z0 z1 z2 z3 z4, Ow w D T h_k16 M0 z4 → k16 z0 z1 z2 z3 z4 → k16' z0 z1 z2 z3 z4) (lk56 : ∀ t, h_k56 t = true → h t = true) (hk56 : ∀ z0 z1 z2 z3 z4, Ow w D T h_k56 M0 z4 → k56 z0 z1 z2 z3 z4 → k56' z0 z1 z2 z3 z4) : Ow w D T h M0 M → w_Model_cutLine_j82 this Q k16 k56 v1 v3 v4 v7 M → w_Model_cutLine_j82 this Q' k16' k56' v1 v3 v4 v7 M := by
  intro hf
  unfold w_Model_cutLine_j82
  exact (hk56 _ _ _ _ _  (Ow.dn lk56 hf))
set_option maxRecDepth 20000 in
theorem mo_w_Model_cutLine_L56 {w : Nat} {D : Nat → Nat → Prop} {T : Nat → Prop} {h : Hot} {this : Nat} {Q Q' : Int32 → Mem → Prop} {h_Q : Hot} {k16 k16' : Nat → Int32 → Int32 → Int32 → Mem → Prop} {h_k16 : Hot} {M0 : Mem} (hD : Dok w D) (n0 : ow w D 11 this) (lQ : ∀ t, h_Q t = true → h t = true) (hQ : ∀ z0 z1, Ow w D T h_Q M0 z1 → Q z0 z1 → Q' z0 z1) (lk16 : ∀ t, h_k16 t = true → h t = true) (hk16 : ∀ z0 z1 z2 z3 z4, Ow w D T h_k16 M0 z4 → k16 z0 z1 z2 z3 z4 → k16' z0 z1 z2 z3 z4) : ∀ (n : Nat) (v1 : Nat) (v3 : Int32) (v4 : Int32) (v7 : Int32) (M : Mem), Ow w D T h M0 M → w_Model_cutLine_L56 this Q k16 n v1 v3 v4 v7 M → w_Model_cutLine_L56 this Q' k16' n v1 v3 v4 v7 M
  | 0, _, _, _, _, _ => fun  _ h => h
  | n + 1, v1, v3, v4, v7, M => fun  hf => by
    unfold w_Model_cutLine_L56
    exact (mf_ite (mo_w_Model_cutLine_j88 hD n0 lQ hQ lk16 hk16 hf) (mf_and fun _ => (mo_w_Model_isLetter hD  (fun r53 M52 f1 => (have g2 : Ow w D T _ M0 M52 := (Ow.trans hf f1); (mf_ite (mf_and fun _ => (mo_w_Model_isDigit hD  (fun r57 M56 f3 => (have g4 : Ow w D T _ M0 M56 := (Ow.trans g2 f3); (mf_ite (mo_w_Model_cutLine_j88 hD n0 lQ hQ lk16 hk16 g4) (mo_w_Model_cutLine_j82 hD  lQ hQ lk16 hk16 (fun _ e => e) (fun y0 y1 y2 y3 y4  hf => mo_w_Model_cutLine_L56 hD n0 lQ hQ lk16 hk16 n y0 y1 y2 y3 y4  hf) g4)))) g2.1)) (mo_w_Model_cutLine_j82 hD  lQ hQ lk16 hk16 (fun _ e => e) (fun y0 y1 y2 y3 y4  hf => mo_w_Model_cutLine_L56 hD n0 lQ hQ lk16 hk16 n y0 y1 y2 y3 y4  hf) g2)))) hf.1)))
set_option maxRecDepth 20000 in
theorem mo_w_Model_cutLine_L16 {w : Nat} {D : Nat → Nat → Prop} {T : Nat → Prop} {h : Hot} {this : Nat} {Q Q' : Int32 → Mem → Prop} {h_Q : Hot} {M0 : Mem} (hD : Dok w D) (n0 : ow w D 11 this) (lQ : ∀ t, h_Q t = true → h t = true) (hQ : ∀ z0 z1, Ow w D T h_Q M0 z1 → Q z0 z1 → Q' z0 z1) : ∀ (n : Nat) (v1 : Nat) (v3 : Int32) (v4 : Int32) (v5 : Int32) (M : Mem), Ow w D T h M0 M → w_Model_cutLine_L16 this Q n v1 v3 v4 v5 M → w_Model_cutLine_L16 this Q' n v1 v3 v4 v5 M
  | 0, _, _, _, _, _ => fun  _ h => h
  | n + 1, v1, v3, v4, v5, M => fun  hf => by
    unfold w_Model_cutLine_L16
    exact (mf_ite (mo_w_Model_cutLine_j383 hD n0 lQ hQ hf) (mf_ite (mo_w_Model_cutLine_j383 hD n0 lQ hQ hf) (mf_and fun _ => (mf_ite (mo_w_Model_cutLine_j383 hD n0 lQ hQ hf) (mf_and fun _ => (mo_w_Model_isLetter hD  (fun r9 M8 f1 => (have g2 : Ow w D T _ M0 M8 := (Ow.trans hf f1); (mf_ite (mo_w_Model_isDigit hD  (fun r12 M11 f3 => (have g4 : Ow w D T _ M0 M11 := (Ow.trans g2 f3); (mf_ite (mf_ite (mf_ite (mo_w_Model_cutLine_j211 hD n0 lQ hQ (fun _ e => e) (fun y0 y1 y2 y3 y4  hf => mo_w_Model_cutLine_L16 hD n0 lQ hQ n y0 y1 y2 y3 y4  hf) g4) (mf_and fun _ => (mo_w_Model_isDigit hD  (fun r38 M37 f5 => (have g6 : Ow w D T _ M0 M37 := (Ow.trans g4 f5); (mf_ite (mo_w_Model_cutLine_j211 hD n0 lQ hQ (fun _ e => e) (fun y0 y1 y2 y3 y4  hf => mo_w_Model_cutLine_L16 hD n0 lQ hQ n y0 y1 y2 y3 y4  hf) g6) (mo_w_Model_cutLine_j176 hD n0 lQ hQ (fun _ e => e) (fun y0 y1 y2 y3 y4  hf => mo_w_Model_cutLine_L16 hD n0 lQ hQ n y0 y1 y2 y3 y4  hf) g6)))) g4.1))) (mo_w_Model_cutLine_j211 hD n0 lQ hQ (fun _ e => e) (fun y0 y1 y2 y3 y4  hf => mo_w_Model_cutLine_L16 hD n0 lQ hQ n y0 y1 y2 y3 y4  hf) g4)) (mo_w_Model_cutLine_j176 hD n0 lQ hQ (fun _ e => e) (fun y0 y1 y2 y3 y4  hf => mo_w_Model_cutLine_L16 hD n0 lQ hQ n y0 y1 y2 y3 y4  hf) g4)))) g2.1) (Exists.imp fun n59 => (mo_w_Model_cutLine_L56 hD n0 lQ hQ (fun _ e => e) (fun y0 y1 y2 y3 y4  hf => mo_w_Model_cutLine_L16 hD n0 lQ hQ n y0 y1 y2 y3 y4  hf) _ _ _ _ _ _  g2))))) hf.1))))))
set_option maxRecDepth 20000 in
theorem mo_w_Model_cutLine {w : Nat} {D : Nat → Nat → Prop} {T : Nat → Prop} {h : Hot} {this : Nat} {a1 : Nat} {a2 : Int32} {a3 : Int32} {Q Q' : Int32 → Mem → Prop} {M : Mem} (hD : Dok w D) (n0 : ow w D 11 this) (hQ : ∀ z0 z1, Ow w D T h M z1 → Q z0 z1 → Q' z0 z1) : St w D T h M → w_Model_cutLine this a1 a2 a3 Q M → w_Model_cutLine this a1 a2 a3 Q' M := by
  intro hs
  unfold w_Model_cutLine
  exact (Exists.imp fun n60 => (have g1 : Ow w D T _ M (sI (sI M 11 this 42 (0 : Int32)) 11 this 43 (0 : Int32)) := (Ow.wI n0 (Ow.wI n0 (Ow.rf hs))); (mo_w_Model_cutLine_L16 hD n0 (fun _ e => e) hQ _ _ _ _ _ _  g1)))
set_option maxRecDepth 20000 in
theorem mo_w_Model_beginWorld_L337 {w : Nat} {D : Nat → Nat → Prop} {T : Nat → Prop} {h : Hot} {this : Nat} {Q Q' : Mem → Prop} {h_Q : Hot} {M0 : Mem} (hD : Dok w D)  (lQ : ∀ t, h_Q t = true → h t = true) (hQ : ∀ z0, Ow w D T h_Q M0 z0 → Q z0 → Q' z0) : ∀ (n : Nat) (v1 : Nat) (v3 : Int32) (M : Mem), ow w D 12 v1 → Ow w D T h M0 M → w_Model_beginWorld_L337 this Q n v1 v3 M → w_Model_beginWorld_L337 this Q' n v1 v3 M
  | 0, _, _, _ => fun _ _ h => h
  | n + 1, v1, v3, M => fun m0 hf => by
    unfold w_Model_beginWorld_L337
    exact (mf_ite (Exists.imp fun M13 => (mf_and fun e1 => (have g2 : Ow w D T _ M0 M13 := Ow.of e1 (Ow.wI m0 (Ow.wI m0 (Ow.wI m0 hf))); (hQ _  (Ow.dn lQ g2))))) (mf_and fun _ => (have g3 : Ow w D T _ M0 (sI M 524 v1 v3.toNatClampNeg ((0 : Int32) &&& 1)) := (Ow.wI (ow.to m0 rfl rfl) hf); (mo_w_Model_beginWorld_L337 hD  lQ hQ _ _ _ _ m0 g3))))
set_option maxRecDepth 20000 in
theorem mo_w_Model_beginWorld_L311 {w : Nat} {D : Nat → Nat → Prop} {T : Nat → Prop} {h : Hot} {this : Nat} {Q Q' : Mem → Prop} {h_Q : Hot} {M0 : Mem} (hD : Dok w D)  (lQ : ∀ t, h_Q t = true → h t = true) (hQ : ∀ z0, Ow w D T h_Q M0 z0 → Q z0 → Q' z0) : ∀ (n : Nat) (v1 : Nat) (v3 : Int32) (M : Mem), ow w D 12 v1 → Ow w D T h M0 M → w_Model_beginWorld_L311 this Q n v1 v3 M → w_Model_beginWorld_L311 this Q' n v1 v3 M
  | 0, _, _, _ => fun _ _ h => h
  | n + 1, v1, v3, M => fun m0 hf => by
    unfold w_Model_beginWorld_L311
    exact (mf_ite (Exists.imp fun n15 => (have g1 : Ow w D T _ M0 (sI M 12 v1 50 (0 : Int32)) := (Ow.wI m0 hf); (mo_w_Model_beginWorld_L337 hD  lQ hQ _ _ _ _ m0 g1))) (mf_and fun _ => (have g2 : Ow w D T _ M0 (sI M 169 v1 v3.toNatClampNeg (0 : Int32)) := (Ow.wI (ow.to m0 rfl rfl) hf); (mo_w_Model_beginWorld_L311 hD  lQ hQ _ _ _ _ m0 g2))))
set_option maxRecDepth 20000 in
theorem mo_w_Model_beginWorld_L255 {w : Nat} {D : Nat → Nat → Prop} {T : Nat → Prop} {h : Hot} {this : Nat} {Q Q' : Mem → Prop} {h_Q : Hot} {M0 : Mem} (hD : Dok w D)  (lQ : ∀ t, h_Q t = true → h t = true) (hQ : ∀ z0, Ow w D T h_Q M0 z0 → Q z0 → Q' z0) : ∀ (n : Nat) (v1 : Nat) (v3 : Int32) (M : Mem), ow w D 12 v1 → Ow w D T h M0 M → w_Model_beginWorld_L255 this Q n v1 v3 M → w_Model_beginWorld_L255 this Q' n v1 v3 M
  | 0, _, _, _ => fun _ _ h => h
  | n + 1, v1, v3, M => fun m0 hf => by
    unfold w_Model_beginWorld_L255
    exact (mf_ite (Exists.imp fun M10 => (mf_and fun e1 => (have g2 : Ow w D T _ M0 M10 := Ow.of e1 (Ow.wI m0 (Ow.wI m0 (Ow.wI m0 hf))); (Exists.imp fun n17 => (have g3 : Ow w D T _ M0 (sI M10 12 v1 70 (0 : Int32)) := (Ow.wI m0 g2); (mo_w_Model_beginWorld_L311 hD  lQ hQ _ _ _ _ m0 g3)))))) (mf_and fun _ => (Exists.imp fun i19 => (mf_and fun e4 => (have o5 : ow w D 13 i19 := (Ow.r1 e4 rfl rfl (ow.to m0 rfl rfl) hf); (mf_and fun _ => (Exists.imp fun i21 => (mf_and fun e6 => (have o7 : ow w D 13 i21 := (Ow.r1 e6 rfl rfl (ow.to m0 rfl rfl) (Ow.wI o5 hf)); (mf_and fun _ => (have g8 : Ow w D T _ M0 (sI (sI M 13 i19 0 (-2 : Int32)) 13 i21 1 (0 : Int32)) := (Ow.wI o7 (Ow.wI o5 hf)); (mo_w_Model_beginWorld_L255 hD  lQ hQ _ _ _ _ m0 g8))))))))))))
set_option maxRecDepth 20000 in
theorem mo_w_Model_beginWorld_j84 {w : Nat} {D : Nat → Nat → Prop} {T : Nat → Prop} {h : Hot} {this : Nat} {Q Q' : Mem → Prop} {h_Q : Hot} {k18 k18' : Nat → Int32 → Mem → Prop} {h_k18 : Hot} {v1 : Nat} {v3 : Int32} {s0 : Int32} {s1 : Int32} {s2 : Nat} {M : Mem} {M0 : Mem} (hD : Dok w D) (n0 : ow w D 131 s2) (n1 : ow w D 132 v1) (lQ : ∀ t, h_Q t = true → h t = true) (hQ : ∀ z0, Ow w D T h_Q M0 z0 → Q z0 → Q' z0) (lk18 : ∀ t, h_k18 t = true → h t = true) (hk18 : ∀ z0 z1 z2, ow w D 12 z0 → Ow w D T h_k18 M0 z2 → k18 z0 z1 z2 → k18' z0 z1 z2) : Ow w D T h M0 M → w_Model_beginWorld_j84 this Q k18 v1 v3 s0 s1 s2 M → w_Model_beginWorld_j84 this Q' k18' v1 v3 s0 s1 s2 M := by
  intro hf
  unfold w_Model_beginWorld_j84
  exact (mf_and fun _ => (mf_and fun _ => (Exists.imp fun M28 => (mf_and fun e1 => (have g2 : Ow w D T _ M0 M28 := Ow.of e1 (Ow.wI n1 (Ow.wI n0 hf)); (mf_and fun _ => (mf_and fun _ => (Exists.imp fun M31 => (mf_and fun e3 => (have g4 : Ow w D T _ M0 M31 := Ow.of e3 (Ow.wI (ow.to n1 rfl rfl) (Ow.wI (ow.to n1 rfl rfl) g2)); (mf_and fun _ => (mf_and fun _ => (Exists.imp fun M34 => (mf_and fun e5 => (have g6 : Ow w D T _ M0 M34 := Ow.of e5 (Ow.wI (ow.to n1 rfl rfl) (Ow.wI (ow.to n1 rfl rfl) g4)); (mf_and fun _ => (mf_and fun _ => (Exists.imp fun M37 => (mf_and fun e7 => (have g8 : Ow w D T _ M0 M37 := Ow.of e7 (Ow.wI (ow.to n1 rfl rfl) (Ow.wI (ow.to n1 rfl rfl) g6)); (mf_and fun _ => (mf_and fun _ => (Exists.imp fun M40 => (mf_and fun e9 => (have g10 : Ow w D T _ M0 M40 := Ow.of e9 (Ow.wI (ow.to n1 rfl rfl) (Ow.wI (ow.to n1 rfl rfl) g8)); (mf_and fun _ => (mf_and fun _ => (Exists.imp fun M43 => (mf_and fun e11 => (have g12 : Ow w D T _ M0 M43 := Ow.of e11 (Ow.wI (ow.to n1 rfl rfl) (Ow.wI (ow.to n1 rfl rfl) g10)); (mf_and fun _ => (mf_and fun _ => (Exists.imp fun M46 => (mf_and fun e13 => (have g14 : Ow w D T _ M0 M46 := Ow.of e13 (Ow.wI (ow.to n1 rfl rfl) (Ow.wI (ow.to n1 rfl rfl) g12)); (mf_and fun _ => (hk18 _ _ _ (ow.to n1 rfl rfl) (Ow.dn lk18 (Ow.wI (ow.to n1 rfl rfl) g14)))))))))))))))))))))))))))))))))))))))
set_option maxRecDepth 20000 in
theorem mo_w_Model_beginWorld_L18 {w : Nat} {D : Nat → Nat → Prop} {T : Nat → Prop} {h : Hot} {this : Nat} {Q Q' : Mem → Prop} {h_Q : Hot} {M0 : Mem} (hD : Dok w D)  (lQ : ∀ t, h_Q t = true → h t = true) (hQ : ∀ z0, Ow w D T h_Q M0 z0 → Q z0 → Q' z0) : ∀ (n : Nat) (v1 : Nat) (v3 : Int32) (M : Mem), ow w D 12 v1 → Ow w D T h M0 M → w_Model_beginWorld_L18 this Q n v1 v3 M → w_Model_beginWorld_L18 this Q' n v1 v3 M
  | 0, _, _, _ => fun _ _ h => h
  | n + 1, v1, v3, M => fun m0 hf => by
    unfold w_Model_beginWorld_L18
    exact (mf_ite (Exists.imp fun M3 => (mf_and fun e1 => (have g2 : Ow w D T _ M0 M3 := Ow.of e1 (Ow.wI m0 (Ow.wI m0 (Ow.wI m0 hf))); (mf_and fun _ => (Exists.imp fun M5 => (mf_and fun e3 => (have g4 : Ow w D T _ M0 M5 := Ow.of e3 (Ow.wI (ow.to m0 rfl rfl) (Ow.wI m0 g2)); (mf_and fun _ => (mf_and fun _ => (Exists.imp fun M8 => (mf_and fun e5 => (have g6 : Ow w D T _ M0 M8 := Ow.of e5 (Ow.wI (ow.to m0 rfl rfl) (Ow.wI (ow.to m0 rfl rfl) g4)); (Exists.imp fun n23 => (mo_w_Model_beginWorld_L255 hD  lQ hQ _ _ _ _ m0 g6)))))))))))))) (mf_and fun _ => (mf_ite (have g7 : Ow w D T _ M0 (sI M 130 v1 v3.toNatClampNeg ((mI M 11 this 8) + v3)) := (Ow.wI (ow.to m0 rfl rfl) hf); (mo_w_Model_beginWorld_j84 hD (ow.to m0 rfl rfl) (ow.to m0 rfl rfl) lQ hQ (fun _ e => e) (fun y0 y1 y2 u0 hf => mo_w_Model_beginWorld_L18 hD  lQ hQ n y0 y1 y2 u0 hf) g7)) (mf_ite (have g8 : Ow w D T _ M0 (sI M 130 v1 v3.toNatClampNeg ((mI M 11 this 8) + v3)) := (Ow.wI (ow.to m0 rfl rfl) hf); (mo_w_Model_beginWorld_j84 hD (ow.to m0 rfl rfl) (ow.to m0 rfl rfl) lQ hQ (fun _ e => e) (fun y0 y1 y2 u0 hf => mo_w_Model_beginWorld_L18 hD  lQ hQ n y0 y1 y2 u0 hf) g8)) (mf_ite (have g9 : Ow w D T _ M0 (sI M 130 v1 v3.toNatClampNeg ((mI M 11 this 8) + v3)) := (Ow.wI (ow.to m0 rfl rfl) hf); (mo_w_Model_beginWorld_j84 hD (ow.to m0 rfl rfl) (ow.to m0 rfl rfl) lQ hQ (fun _ e => e) (fun y0 y1 y2 u0 hf => mo_w_Model_beginWorld_L18 hD  lQ hQ n y0 y1 y2 u0 hf) g9)) (have g10 : Ow w D T _ M0 (sI M 130 v1 v3.toNatClampNeg ((mI M 11 this 8) + v3)) := (Ow.wI (ow.to m0 rfl rfl) hf); (mo_w_Model_beginWorld_j84 hD (ow.to m0 rfl rfl) (ow.to m0 rfl rfl) lQ hQ (fun _ e => e) (fun y0 y1 y2 u0 hf => mo_w_Model_beginWorld_L18 hD  lQ hQ n y0 y1 y2 u0 hf) g10)))))))
set_option maxRecDepth 20000 in
theorem mo_w_Model_beginWorld {w : Nat} {D : Nat → Nat → Prop} {T : Nat → Prop} {h : Hot} {this : Nat} {a1 : Nat} {a2 : Int32} {Q Q' : Mem → Prop} {M : Mem} (hD : Dok w D) (n0 : ow w D 12 a1) (hQ : ∀ z0, Ow w D T h M z0 → Q z0 → Q' z0) : St w D T h M → w_Model_beginWorld this a1 a2 Q M → w_Model_beginWorld this a1 a2 Q' M := by
  intro hs
  unfold w_Model_beginWorld
  exact (mf_and fun _ => (Exists.imp fun n50 => (have g1 : Ow w D T _ M (sI (sI (sI M 12 a1 0 (1 : Int32)) 12 a1 1 a2) 12 a1 2 (21 : Int32)) := (Ow.wI n0 (Ow.wI n0 (Ow.wI n0 (Ow.rf hs)))); (mo_w_Model_beginWorld_L18 hD  (fun _ e => e) hQ _ _ _ _ n0 g1))))
set_option maxRecDepth 20000 in
theorem mo_w_Model_classOf_L2 {w : Nat} {D : Nat → Nat → Prop} {T : Nat → Prop} {h : Hot} {this : Nat} {Q Q' : Int32 → Mem → Prop} {h_Q : Hot} {M0 : Mem} (hD : Dok w D)  (lQ : ∀ t, h_Q t = true → h t = true) (hQ : ∀ z0 z1, Ow w D T h_Q M0 z1 → Q z0 z1 → Q' z0 z1) : ∀ (n : Nat) (v1 : Int32) (v2 : Int32) (M : Mem), Ow w D T h M0 M → w_Model_classOf_L2 this Q n v1 v2 M → w_Model_classOf_L2 this Q' n v1 v2 M
  | 0, _, _, _ => fun  _ h => h
  | n + 1, v1, v2, M => fun  hf => by
    unfold w_Model_classOf_L2
    exact (Exists.imp fun i1 => (mf_and fun e1 => (mf_ite (hQ _ _  (Ow.dn lQ hf)) (Exists.imp fun i3 => (mf_and fun e3 => (mf_and fun _ => (mf_ite (hQ _ _  (Ow.dn lQ hf)) (mo_w_Model_classOf_L2 hD  lQ hQ _ _ _ _  hf))))))))
set_option maxRecDepth 20000 in
theorem mo_w_Model_classOf {w : Nat} {D : Nat → Nat → Prop} {T : Nat → Prop} {h : Hot} {this : Nat} {a1 : Int32} {Q Q' : Int32 → Mem → Prop} {M : Mem} (hD : Dok w D)  (hQ : ∀ z0 z1, Ow w D T h M z1 → Q z0 z1 → Q' z0 z1) : St w D T h M → w_Model_classOf this a1 Q M → w_Model_classOf this a1 Q' M := by
  intro hs
  unfold w_Model_classOf
  exact (Exists.imp fun n6 => (mo_w_Model_classOf_L2 hD  (fun _ e => e) hQ _ _ _ _  (Ow.rf hs)))
set_option maxRecDepth 20000 in
theorem mo_w_Model_isOff {w : Nat} {D : Nat → Nat → Prop} {T : Nat → Prop} {h : Hot} {this : Nat} {a1 : Int32} {Q Q' : Int32 → Mem → Prop} {M : Mem} (hD : Dok w D)  (hQ : ∀ z0 z1, Ow w D T h M z1 → Q z0 z1 → Q' z0 z1) : St w D T h M → w_Model_isOff this a1 Q M → w_Model_isOff this a1 Q' M := by
  intro hs
  unfold w_Model_isOff
  exact (Exists.imp fun i1 => (mf_and fun e1 => (mf_ite (hQ _ _  (Ow.rf hs)) (hQ _ _  (Ow.rf hs)))))
set_option maxRecDepth 20000 in
theorem mo_w_Model_wrong {w : Nat} {D : Nat → Nat → Prop} {T : Nat → Prop} {h : Hot} {this : Nat} {Q Q' : Mem → Prop} {X X' : Mem → Prop} {M : Mem} (hD : Dok w D) (n0 : ow w D 11 this) (hQ : ∀ z0, Ow w D T h M z0 → Q z0 → Q' z0) (hX : ∀ z0, Ow w D T h M z0 → X z0 → X' z0) : St w D T h M → w_Model_wrong this Q X M → w_Model_wrong this Q' X' M := by
  intro hs
  unfold w_Model_wrong
  exact (mf_and fun _ => (Exists.imp fun M2 => (mf_and fun e1 => (have g2 : Ow w D T _ M M2 := Ow.of e1 (Ow.wI n0 (Ow.wI n0 (Ow.rf hs))); (hX _  g2)))))
set_option maxRecDepth 20000 in
theorem mo_w_Model_refuse {w : Nat} {D : Nat → Nat → Prop} {T : Nat → Prop} {h : Hot} {this : Nat} {a1 : Int32} {a2 : Int32} {Q Q' : Mem → Prop} {X X' : Mem → Prop} {M : Mem} (hD : Dok w D) (n0 : ow w D 11 this) (hQ : ∀ z0, Ow w D T h M z0 → Q z0 → Q' z0) (hX : ∀ z0, Ow w D T h M z0 → X z0 → X' z0) : St w D T h M → w_Model_refuse this a1 a2 Q X M → w_Model_refuse this a1 a2 Q' X' M := by
  intro hs
  unfold w_Model_refuse
  exact (hX _  (Ow.wI n0 (Ow.wI n0 (Ow.rf hs))))
set_option maxRecDepth 20000 in
theorem mo_w_Model_asks {w : Nat} {D : Nat → Nat → Prop} {T : Nat → Prop} {h : Hot} {this : Nat} {a1 : Int32} {a2 : Int32} {Q Q' : Mem → Prop} {M : Mem} (hD : Dok w D) (n0 : ow w D 11 this) (hQ : ∀ z0, Ow w D T h M z0 → Q z0 → Q' z0) : St w D T h M → w_Model_asks this a1 a2 Q M → w_Model_asks this a1 a2 Q' M := by
  intro hs
  unfold w_Model_asks
  exact (mf_ite (hQ _  (Ow.rf hs)) (mf_ite (hQ _  (Ow.rf hs)) (hQ _  (Ow.wI n0 (Ow.rf hs)))))
set_option maxRecDepth 20000 in
theorem mo_w_Model_need_j17 {w : Nat} {D : Nat → Nat → Prop} {T : Nat → Prop} {h : Hot} {this : Nat} {Q Q' : Mem → Prop} {h_Q : Hot} {X X' : Mem → Prop} {h_X : Hot} {M : Mem} {M0 : Mem} (hD : Dok w D) (n0 : ow w D 11 this) (lQ : ∀ t, h_Q t = true → h t = true) (hQ : ∀ z0, Ow w D T h_Q M0 z0 → Q z0 → Q' z0) (lX : ∀ t, h_X t = true → h t = true) (hX : ∀ z0, Ow w D T h_X M0 z0 → X z0 → X' z0) : Ow w D T h M0 M → w_Model_need_j17 this Q X M → w_Model_need_j17 this Q' X' M := by
  intro hf
  unfold w_Model_need_j17
  exact (hQ _  (Ow.dn lQ (Ow.wI n0 hf)))
set_option maxRecDepth 20000 in
theorem mo_w_Model_need {w : Nat} {D : Nat → Nat → Prop} {T : Nat → Prop} {h : Hot} {this : Nat} {a1 : Int32} {Q Q' : Mem → Prop} {X X' : Mem → Prop} {M : Mem} (hD : Dok w D) (n0 : ow w D 11 this) (hQ : ∀ z0, Ow w D T h M z0 → Q z0 → Q' z0) (hX : ∀ z0, Ow w D T h M z0 → X z0 → X' z0) : St w D T h M → w_Model_need this a1 Q X M → w_Model_need this a1 Q' X' M := by
  intro hs
  unfold w_Model_need
  exact (mf_and fun _ => (mf_ite (mo_w_Model_need_j17 hD n0 (fun _ e => e) hQ (fun _ e => e) hX (Ow.rf hs)) (mo_w_Model_wrong hD n0 (fun M3 f1 => (have g2 : Ow w D T _ M M3 := (Ow.trans (Ow.rf hs) f1); (mo_w_Model_need_j17 hD n0 (fun _ e => e) hQ (fun _ e => e) hX g2))) (fun z4 f3 => hX z4 (Ow.trans (Ow.rf hs) f3)) (Ow.rf hs).1)))
set_option maxRecDepth 20000 in
theorem mo_w_Model_isWord {w : Nat} {D : Nat → Nat → Prop} {T : Nat → Prop} {h : Hot} {this : Nat} {a1 : Int32} {Q Q' : Int32 → Mem → Prop} {M : Mem} (hD : Dok w D)  (hQ : ∀ z0 z1, Ow w D T h M z1 → Q z0 z1 → Q' z0 z1) : St w D T h M → w_Model_isWord this a1 Q M → w_Model_isWord this a1 Q' M := by
  intro hs
  unfold w_Model_isWord
  exact (mf_and fun _ => (mf_ite (mf_and fun _ => (mf_ite (hQ _ _  (Ow.rf hs)) (hQ _ _  (Ow.rf hs)))) (hQ _ _  (Ow.rf hs))))
set_option maxRecDepth 20000 in
theorem mo_w_Model_takes_j20 {w : Nat} {D : Nat → Nat → Prop} {T : Nat → Prop} {h : Hot} {this : Nat} {Q Q' : Int32 → Mem → Prop} {h_Q : Hot} {v2 : Int32} {s0 : Int32} {s1 : Int32} {M : Mem} {M0 : Mem} (hD : Dok w D) (n0 : ow w D 11 this) (lQ : ∀ t, h_Q t = true → h t = true) (hQ : ∀ z0 z1, Ow w D T h_Q M0 z1 → Q z0 z1 → Q' z0 z1) : Ow w D T h M0 M → w_Model_takes_j20 this Q v2 s0 s1 M → w_Model_takes_j20 this Q' v2 s0 s1 M := by
  intro hf
  unfold w_Model_takes_j20
  exact (mf_and fun _ => (hQ _ _  (Ow.dn lQ (Ow.wI n0 hf))))
set_option maxRecDepth 20000 in
theorem mo_w_Model_takes {w : Nat} {D : Nat → Nat → Prop} {T : Nat → Prop} {h : Hot} {this : Nat} {a1 : Int32} {Q Q' : Int32 → Mem → Prop} {M : Mem} (hD : Dok w D) (n0 : ow w D 11 this) (hQ : ∀ z0 z1, Ow w D T h M z1 → Q z0 z1 → Q' z0 z1) : St w D T h M → w_Model_takes this a1 Q M → w_Model_takes this a1 Q' M := by
  intro hs
  unfold w_Model_takes
  exact (mo_w_Model_isWord hD  (fun r2 M1 f1 => (have g2 : Ow w D T _ M M1 := (Ow.trans (Ow.rf hs) f1); (mf_ite (mo_w_Model_takes_j20 hD n0 (fun _ e => e) hQ g2) (mo_w_Model_takes_j20 hD n0 (fun _ e => e) hQ g2)))) (Ow.rf hs).1)
set_option maxRecDepth 20000 in
theorem mo_w_Model_needWord {w : Nat} {D : Nat → Nat → Prop} {T : Nat → Prop} {h : Hot} {this : Nat} {a1 : Int32} {Q Q' : Mem → Prop} {X X' : Mem → Prop} {M : Mem} (hD : Dok w D) (n0 : ow w D 11 this) (hQ : ∀ z0, Ow w D T h M z0 → Q z0 → Q' z0) (hX : ∀ z0, Ow w D T h M z0 → X z0 → X' z0) : St w D T h M → w_Model_needWord this a1 Q X M → w_Model_needWord this a1 Q' X' M := by
  intro hs
  unfold w_Model_needWord
  exact (mo_w_Model_takes hD n0 (fun r2 M1 f1 => (have g2 : Ow w D T _ M M1 := (Ow.trans (Ow.rf hs) f1); (mf_ite (mo_w_Model_wrong hD n0 (fun M4 f3 => (have g4 : Ow w D T _ M M4 := (Ow.trans g2 f3); (hQ _  g4))) (fun z6 f5 => hX z6 (Ow.trans g2 f5)) g2.1) (hQ _  g2)))) (Ow.rf hs).1)
set_option maxRecDepth 20000 in
theorem mo_w_Model_plainName {w : Nat} {D : Nat → Nat → Prop} {T : Nat → Prop} {h : Hot} {this : Nat} {Q Q' : Int32 → Mem → Prop} {X X' : Mem → Prop} {M : Mem} (hD : Dok w D) (n0 : ow w D 11 this) (hQ : ∀ z0 z1, Ow w D T h M z1 → Q z0 z1 → Q' z0 z1) (hX : ∀ z0, Ow w D T h M z0 → X z0 → X' z0) : St w D T h M → w_Model_plainName this Q X M → w_Model_plainName this Q' X' M := by
  intro hs
  unfold w_Model_plainName
  exact (mf_and fun _ => (mo_w_Model_need hD n0 (fun M2 f1 => (have g2 : Ow w D T _ M M2 := (Ow.trans (Ow.rf hs) f1); (hQ _ _  g2))) (fun z4 f3 => hX z4 (Ow.trans (Ow.rf hs) f3)) (Ow.rf hs).1))
set_option maxRecDepth 20000 in
theorem mo_w_Model_isClassName {w : Nat} {D : Nat → Nat → Prop} {T : Nat → Prop} {h : Hot} {this : Nat} {a1 : Int32} {Q Q' : Int32 → Mem → Prop} {M : Mem} (hD : Dok w D)  (hQ : ∀ z0 z1, Ow w D T h M z1 → Q z0 z1 → Q' z0 z1) : St w D T h M → w_Model_isClassName this a1 Q M → w_Model_isClassName this a1 Q' M := by
  intro hs
  unfold w_Model_isClassName
  exact (mf_ite (hQ _ _  (Ow.rf hs)) (mf_ite (hQ _ _  (Ow.rf hs)) (mf_ite (hQ _ _  (Ow.rf hs)) (mf_ite (hQ _ _  (Ow.rf hs)) (mf_ite (hQ _ _  (Ow.rf hs)) (mf_ite (hQ _ _  (Ow.rf hs)) (mf_ite (hQ _ _  (Ow.rf hs)) (hQ _ _  (Ow.rf hs)))))))))
set_option maxRecDepth 20000 in
theorem mo_w_Model_className_j33 {w : Nat} {D : Nat → Nat → Prop} {T : Nat → Prop} {h : Hot} {this : Nat} {Q Q' : Int32 → Mem → Prop} {h_Q : Hot} {X X' : Mem → Prop} {h_X : Hot} {M : Mem} {M0 : Mem} (hD : Dok w D) (n0 : ow w D 11 this) (lQ : ∀ t, h_Q t = true → h t = true) (hQ : ∀ z0 z1, Ow w D T h_Q M0 z1 → Q z0 z1 → Q' z0 z1) (lX : ∀ t, h_X t = true → h t = true) (hX : ∀ z0, Ow w D T h_X M0 z0 → X z0 → X' z0) : Ow w D T h M0 M → w_Model_className_j33 this Q X M → w_Model_className_j33 this Q' X' M := by
  intro hf
  unfold w_Model_className_j33
  exact (mo_w_Model_plainName hD n0 (fun r9 M8 f1 => (have g2 : Ow w D T _ M0 M8 := (Ow.trans hf f1); (hQ _ _  (Ow.dn lQ g2)))) (fun z4 f3 => hX z4 (Ow.dn lX (Ow.trans hf f3))) hf.1)
set_option maxRecDepth 20000 in
theorem mo_w_Model_className_j29 {w : Nat} {D : Nat → Nat → Prop} {T : Nat → Prop} {h : Hot} {this : Nat} {Q Q' : Int32 → Mem → Prop} {h_Q : Hot} {X X' : Mem → Prop} {h_X : Hot} {M : Mem} {M0 : Mem} (hD : Dok w D) (n0 : ow w D 11 this) (lQ : ∀ t, h_Q t = true → h t = true) (hQ : ∀ z0 z1, Ow w D T h_Q M0 z1 → Q z0 z1 → Q' z0 z1) (lX : ∀ t, h_X t = true → h t = true) (hX : ∀ z0, Ow w D T h_X M0 z0 → X z0 → X' z0) : Ow w D T h M0 M → w_Model_className_j29 this Q X M → w_Model_className_j29 this Q' X' M := by
  intro hf
  unfold w_Model_className_j29
  exact (mo_w_Model_wrong hD n0 (fun M7 f1 => (have g2 : Ow w D T _ M0 M7 := (Ow.trans hf f1); (mo_w_Model_className_j33 hD n0 lQ hQ lX hX g2))) (fun z4 f3 => hX z4 (Ow.dn lX (Ow.trans hf f3))) hf.1)
set_option maxRecDepth 20000 in
theorem mo_w_Model_className {w : Nat} {D : Nat → Nat → Prop} {T : Nat → Prop} {h : Hot} {this : Nat} {Q Q' : Int32 → Mem → Prop} {X X' : Mem → Prop} {M : Mem} (hD : Dok w D) (n0 : ow w D 11 this) (hQ : ∀ z0 z1, Ow w D T h M z1 → Q z0 z1 → Q' z0 z1) (hX : ∀ z0, Ow w D T h M z0 → X z0 → X' z0) : St w D T h M → w_Model_className this Q X M → w_Model_className this Q' X' M := by
  intro hs
  unfold w_Model_className
  exact (mf_and fun _ => (mf_ite (mf_and fun _ => (mo_w_Model_isClassName hD  (fun r5 M4 f1 => (have g2 : Ow w D T _ M M4 := (Ow.trans (Ow.rf hs) f1); (mf_ite (mo_w_Model_className_j29 hD n0 (fun _ e => e) hQ (fun _ e => e) hX g2) (mo_w_Model_className_j33 hD n0 (fun _ e => e) hQ (fun _ e => e) hX g2)))) (Ow.rf hs).1)) (mo_w_Model_className_j29 hD n0 (fun _ e => e) hQ (fun _ e => e) hX (Ow.rf hs))))
set_option maxRecDepth 20000 in
theorem mo_w_Model_type {w : Nat} {D : Nat → Nat → Prop} {T : Nat → Prop} {h : Hot} {this : Nat} {Q Q' : Int32 → Mem → Prop} {X X' : Mem → Prop} {M : Mem} (hD : Dok w D) (n0 : ow w D 11 this) (hQ : ∀ z0 z1, Ow w D T h M z1 → Q z0 z1 → Q' z0 z1) (hX : ∀ z0, Ow w D T h M z0 → X z0 → X' z0) : St w D T h M → w_Model_type this Q X M → w_Model_type this Q' X' M := by
  intro hs
  unfold w_Model_type
  exact (mo_w_Model_takes hD n0 (fun r2 M1 f1 => (have g2 : Ow w D T _ M M1 := (Ow.trans (Ow.rf hs) f1); (mf_ite (mo_w_Model_takes hD n0 (fun r5 M4 f3 => (have g4 : Ow w D T _ M M4 := (Ow.trans g2 f3); (mf_ite (mo_w_Model_className hD n0 (fun r8 M7 f5 => (have g6 : Ow w D T _ M M7 := (Ow.trans g4 f5); (hQ _ _  g6))) (fun z8 f7 => hX z8 (Ow.trans g4 f7)) g4.1) (hQ _ _  g4)))) g2.1) (hQ _ _  g2)))) (Ow.rf hs).1)
set_option maxRecDepth 20000 in
theorem mo_w_Model_addType {w : Nat} {D : Nat → Nat → Prop} {T : Nat → Prop} {h : Hot} {this : Nat} {Q Q' : Mem → Prop} {X X' : Mem → Prop} {M : Mem} (hD : Dok w D) (n0 : ow w D 11 this) (hQ : ∀ z0, Ow w D T h M z0 → Q z0 → Q' z0) (hX : ∀ z0, Ow w D T h M z0 → X z0 → X' z0) : St w D T h M → w_Model_addType this Q X M → w_Model_addType this Q' X' M := by
  intro hs
  unfold w_Model_addType
  exact (Exists.imp fun i1 => (mf_and fun e1 => (have o2 : ow w D 300 i1 := (Ow.r0 e1 rfl n0 (Ow.rf hs)); (mo_w_Model_room hD o2 (fun i3 M2 o5 f3 => (have g4 : Ow w D T _ M M2 := (Ow.trans (Ow.rf hs) f3); (Exists.imp fun i4 => (mf_and fun e6 => (have o7 : ow w D 300 i4 := (Ow.r0 e6 rfl n0 (Ow.wR rfl n0 o5 g4)); (have g8 : Ow w D T _ M (sR M2 11 this 55 (some (300, i3))) := (Ow.wR rfl n0 o5 g4); (mo_w_Model_type hD n0 (fun r6 M5 f9 => (have g10 : Ow w D T _ M M5 := (Ow.trans g8 f9); (mf_and fun _ => (Exists.imp fun M8 => (mf_and fun e11 => (have g12 : Ow w D T _ M M8 := Ow.of e11 (Ow.wI o7 g10); (hQ _  (Ow.wI n0 g12)))))))) (fun z14 f13 => hX z14 (Ow.trans g8 f13)) g8.1))))))) (Ow.rf hs).1))))
set_option maxRecDepth 20000 in
theorem mo_w_Model_wholeSignature_j94 {w : Nat} {D : Nat → Nat → Prop} {T : Nat → Prop} {h : Hot} {this : Nat} {Q Q' : Int32 → Mem → Prop} {h_Q : Hot} {X X' : Mem → Prop} {h_X : Hot} {s0 : Int32} {s1 : Int32} {s2 : Nat} {M : Mem} {M0 : Mem} (hD : Dok w D) (n0 : ow w D 11 this) (lQ : ∀ t, h_Q t = true → h t = true) (hQ : ∀ z0 z1, Ow w D T h_Q M0 z1 → Q z0 z1 → Q' z0 z1) (lX : ∀ t, h_X t = true → h t = true) (hX : ∀ z0, Ow w D T h_X M0 z0 → X z0 → X' z0) : Ow w D T h M0 M → w_Model_wholeSignature_j94 this Q X s0 s1 s2 M → w_Model_wholeSignature_j94 this Q' X' s0 s1 s2 M := by
  intro hf
  unfold w_Model_wholeSignature_j94
  exact (mo_w_Model_signature hD n0 (fun r12 M11 f1 => (have g2 : Ow w D T _ M0 M11 := (Ow.trans hf f1); (hQ _ _  (Ow.dn lQ g2)))) hf.1)
set_option maxRecDepth 20000 in
theorem mo_w_Model_wholeSignature_j60 {w : Nat} {D : Nat → Nat → Prop} {T : Nat → Prop} {h : Hot} {this : Nat} {Q Q' : Int32 → Mem → Prop} {h_Q : Hot} {X X' : Mem → Prop} {h_X : Hot} {M : Mem} {M0 : Mem} (hD : Dok w D) (n0 : ow w D 11 this) (lQ : ∀ t, h_Q t = true → h t = true) (hQ : ∀ z0 z1, Ow w D T h_Q M0 z1 → Q z0 z1 → Q' z0 z1) (lX : ∀ t, h_X t = true → h t = true) (hX : ∀ z0, Ow w D T h_X M0 z0 → X z0 → X' z0) : Ow w D T h M0 M → w_Model_wholeSignature_j60 this Q X M → w_Model_wholeSignature_j60 this Q' X' M := by
  intro hf
  unfold w_Model_wholeSignature_j60
  exact (mo_w_Model_need hD n0 (fun M4 f1 => (have g2 : Ow w D T _ M0 M4 := (Ow.trans hf f1); (Exists.imp fun i5 => (mf_and fun e3 => (mo_w_Model_takes hD n0 (fun r7 M6 f5 => (have g6 : Ow w D T _ M0 M6 := (Ow.trans g2 f5); (mf_ite (mo_w_Model_type hD n0 (fun r10 M9 f7 => (have g8 : Ow w D T _ M0 M9 := (Ow.trans g6 f7); (mo_w_Model_wholeSignature_j94 hD n0 lQ hQ lX hX g8))) (fun z10 f9 => hX z10 (Ow.dn lX (Ow.trans g6 f9))) g6.1) (mo_w_Model_wholeSignature_j94 hD n0 lQ hQ lX hX g6)))) g2.1))))) (fun z12 f11 => hX z12 (Ow.dn lX (Ow.trans hf f11))) hf.1)
set_option maxRecDepth 20000 in
theorem mo_w_Model_wholeSignature_L29 {w : Nat} {D : Nat → Nat → Prop} {T : Nat → Prop} {h : Hot} {this : Nat} {Q Q' : Int32 → Mem → Prop} {h_Q : Hot} {X X' : Mem → Prop} {h_X : Hot} {M0 : Mem} (hD : Dok w D) (n0 : ow w D 11 this) (lQ : ∀ t, h_Q t = true → h t = true) (hQ : ∀ z0 z1, Ow w D T h_Q M0 z1 → Q z0 z1 → Q' z0 z1) (lX : ∀ t, h_X t = true → h t = true) (hX : ∀ z0, Ow w D T h_X M0 z0 → X z0 → X' z0) : ∀ (n : Nat) (M : Mem), Ow w D T h M0 M → w_Model_wholeSignature_L29 this Q X n M → w_Model_wholeSignature_L29 this Q' X' n M
  | 0, _ => fun  _ h => h
  | n + 1, M => fun  hf => by
    unfold w_Model_wholeSignature_L29
    exact (mf_and fun _ => (mf_ite (have g1 : Ow w D T _ M0 (sI M 11 this 43 ((mI M 11 this 43) + (1 : Int32))) := (Ow.wI n0 hf); (mo_w_Model_addType hD n0 (fun M16 f2 => (have g3 : Ow w D T _ M0 M16 := (Ow.trans g1 f2); (mo_w_Model_wholeSignature_L29 hD n0 lQ hQ lX hX _ _  g3))) (fun z5 f4 => hX z5 (Ow.dn lX (Ow.trans g1 f4))) g1.1)) (mo_w_Model_wholeSignature_j60 hD n0 lQ hQ lX hX hf)))
set_option maxRecDepth 20000 in
theorem mo_w_Model_wholeSignature {w : Nat} {D : Nat → Nat → Prop} {T : Nat → Prop} {h : Hot} {this : Nat} {Q Q' : Int32 → Mem → Prop} {X X' : Mem → Prop} {M : Mem} (hD : Dok w D) (n0 : ow w D 11 this) (hQ : ∀ z0 z1, Ow w D T h M z1 → Q z0 z1 → Q' z0 z1) (hX : ∀ z0, Ow w D T h M z0 → X z0 → X' z0) : St w D T h M → w_Model_wholeSignature this Q X M → w_Model_wholeSignature this Q' X' M := by
  intro hs
  unfold w_Model_wholeSignature
  exact (mo_w_Model_need hD n0 (fun M1 f1 => (have g2 : Ow w D T _ M M1 := (Ow.trans (Ow.rf hs) f1); (mf_and fun _ => (mf_ite (have g3 : Ow w D T _ M (sI M1 11 this 56 (0 : Int32)) := (Ow.wI n0 g2); (mo_w_Model_wholeSignature_j60 hD n0 (fun _ e => e) hQ (fun _ e => e) hX g3)) (have g4 : Ow w D T _ M (sI M1 11 this 56 (0 : Int32)) := (Ow.wI n0 g2); (mo_w_Model_addType hD n0 (fun M13 f5 => (have g6 : Ow w D T _ M M13 := (Ow.trans g4 f5); (Exists.imp fun n17 => (mo_w_Model_wholeSignature_L29 hD n0 (fun _ e => e) hQ (fun _ e => e) hX _ _  g6)))) (fun z8 f7 => hX z8 (Ow.trans g4 f7)) g4.1)))))) (fun z10 f9 => hX z10 (Ow.trans (Ow.rf hs) f9)) (Ow.rf hs).1)
set_option maxRecDepth 20000 in
theorem mo_w_Model_numberIn_j43 {w : Nat} {D : Nat → Nat → Prop} {T : Nat → Prop} {h : Hot} {this : Nat} {Q Q' : Int32 → Mem → Prop} {h_Q : Hot} {X X' : Mem → Prop} {h_X : Hot} {M : Mem} {M0 : Mem} (hD : Dok w D) (n0 : ow w D 11 this) (lQ : ∀ t, h_Q t = true → h t = true) (hQ : ∀ z0 z1, Ow w D T h_Q M0 z1 → Q z0 z1 → Q' z0 z1) (lX : ∀ t, h_X t = true → h t = true) (hX : ∀ z0, Ow w D T h_X M0 z0 → X z0 → X' z0) : Ow w D T h M0 M → w_Model_numberIn_j43 this Q X M → w_Model_numberIn_j43 this Q' X' M := by
  intro hf
  unfold w_Model_numberIn_j43
  exact (mf_and fun _ => (hQ _ _  (Ow.dn lQ (Ow.wI n0 hf))))
set_option maxRecDepth 20000 in
theorem mo_w_Model_numberIn_j39 {w : Nat} {D : Nat → Nat → Prop} {T : Nat → Prop} {h : Hot} {this : Nat} {Q Q' : Int32 → Mem → Prop} {h_Q : Hot} {X X' : Mem → Prop} {h_X : Hot} {M : Mem} {M0 : Mem} (hD : Dok w D) (n0 : ow w D 11 this) (lQ : ∀ t, h_Q t = true → h t = true) (hQ : ∀ z0 z1, Ow w D T h_Q M0 z1 → Q z0 z1 → Q' z0 z1) (lX : ∀ t, h_X t = true → h t = true) (hX : ∀ z0, Ow w D T h_X M0 z0 → X z0 → X' z0) : Ow w D T h M0 M → w_Model_numberIn_j39 this Q X M → w_Model_numberIn_j39 this Q' X' M := by
  intro hf
  unfold w_Model_numberIn_j39
  exact (mo_w_Model_wrong hD n0 (fun M5 f1 => (have g2 : Ow w D T _ M0 M5 := (Ow.trans hf f1); (mo_w_Model_numberIn_j43 hD n0 lQ hQ lX hX g2))) (fun z4 f3 => hX z4 (Ow.dn lX (Ow.trans hf f3))) hf.1)
set_option maxRecDepth 20000 in
theorem mo_w_Model_numberIn {w : Nat} {D : Nat → Nat → Prop} {T : Nat → Prop} {h : Hot} {this : Nat} {a1 : Int32} {a2 : Int32} {Q Q' : Int32 → Mem → Prop} {X X' : Mem → Prop} {M : Mem} (hD : Dok w D) (n0 : ow w D 11 this) (hQ : ∀ z0 z1, Ow w D T h M z1 → Q z0 z1 → Q' z0 z1) (hX : ∀ z0, Ow w D T h M z0 → X z0 → X' z0) : St w D T h M → w_Model_numberIn this a1 a2 Q X M → w_Model_numberIn this a1 a2 Q' X' M := by
  intro hs
  unfold w_Model_numberIn
  exact (mf_and fun _ => (mf_ite (mf_and fun _ => (mf_ite (mo_w_Model_numberIn_j39 hD n0 (fun _ e => e) hQ (fun _ e => e) hX (Ow.rf hs)) (mf_and fun _ => (mf_ite (mo_w_Model_numberIn_j43 hD n0 (fun _ e => e) hQ (fun _ e => e) hX (Ow.rf hs)) (mo_w_Model_numberIn_j39 hD n0 (fun _ e => e) hQ (fun _ e => e) hX (Ow.rf hs)))))) (mo_w_Model_numberIn_j39 hD n0 (fun _ e => e) hQ (fun _ e => e) hX (Ow.rf hs))))
set_option maxRecDepth 20000 in
theorem mo_w_Model_labelOf_L2 {w : Nat} {D : Nat → Nat → Prop} {T : Nat → Prop} {h : Hot} {this : Nat} {Q Q' : Int32 → Mem → Prop} {h_Q : Hot} {M0 : Mem} (hD : Dok w D)  (lQ : ∀ t, h_Q t = true → h t = true) (hQ : ∀ z0 z1, Ow w D T h_Q M0 z1 → Q z0 z1 → Q' z0 z1) : ∀ (n : Nat) (v1 : Int32) (v2 : Int32) (M : Mem), Ow w D T h M0 M → w_Model_labelOf_L2 this Q n v1 v2 M → w_Model_labelOf_L2 this Q' n v1 v2 M
  | 0, _, _, _ => fun  _ h => h
  | n + 1, v1, v2, M => fun  hf => by
    unfold w_Model_labelOf_L2
    exact (mf_ite (hQ _ _  (Ow.dn lQ hf)) (Exists.imp fun i2 => (mf_and fun e1 => (mf_and fun _ => (mf_ite (Exists.imp fun i5 => (mf_and fun e3 => (mf_and fun _ => (hQ _ _  (Ow.dn lQ hf))))) (mo_w_Model_labelOf_L2 hD  lQ hQ _ _ _ _  hf))))))
set_option maxRecDepth 20000 in
theorem mo_w_Model_labelOf {w : Nat} {D : Nat → Nat → Prop} {T : Nat → Prop} {h : Hot} {this : Nat} {a1 : Int32} {Q Q' : Int32 → Mem → Prop} {M : Mem} (hD : Dok w D)  (hQ : ∀ z0 z1, Ow w D T h M z1 → Q z0 z1 → Q' z0 z1) : St w D T h M → w_Model_labelOf this a1 Q M → w_Model_labelOf this a1 Q' M := by
  intro hs
  unfold w_Model_labelOf
  exact (Exists.imp fun n7 => (mo_w_Model_labelOf_L2 hD  (fun _ e => e) hQ _ _ _ _  (Ow.rf hs)))
set_option maxRecDepth 20000 in
theorem mo_w_Model_endMethod_j411 {w : Nat} {D : Nat → Nat → Prop} {T : Nat → Prop} {h : Hot} {this : Nat} {Q Q' : Mem → Prop} {h_Q : Hot} {X X' : Mem → Prop} {h_X : Hot} {k278 k278' : Int32 → Mem → Prop} {h_k278 : Hot} {v3 : Int32} {M : Mem} {M0 : Mem} (hD : Dok w D)  (lQ : ∀ t, h_Q t = true → h t = true) (hQ : ∀ z0, Ow w D T h_Q M0 z0 → Q z0 → Q' z0) (lX : ∀ t, h_X t = true → h t = true) (hX : ∀ z0, Ow w D T h_X M0 z0 → X z0 → X' z0) (lk278 : ∀ t, h_k278 t = true → h t = true) (hk278 : ∀ z0 z1, Ow w D T h_k278 M0 z1 → k278 z0 z1 → k278' z0 z1) : Ow w D T h M0 M → w_Model_endMethod_j411 this Q X k278 v3 M → w_Model_endMethod_j411 this Q' X' k278' v3 M := by
  intro hf
  unfold w_Model_endMethod_j411
  exact (hk278 _ _  (Ow.dn lk278 hf))
set_option maxRecDepth 20000 in
theorem mo_w_Model_endMethod_L357 {w : Nat} {D : Nat → Nat → Prop} {T : Nat → Prop} {h : Hot} {this : Nat} {Q Q' : Mem → Prop} {h_Q : Hot} {X X' : Mem → Prop} {h_X : Hot} {k278 k278' : Int32 → Mem → Prop} {h_k278 : Hot} {M0 : Mem} (hD : Dok w D) (n0 : h (11, this, 45) = true) (lQ : ∀ t, h_Q t = true → h t = true) (hQ : ∀ z0, Ow w D T h_Q M0 z0 → Q z0 → Q' z0) (lX : ∀ t, h_X t = true → h t = true) (hX : ∀ z0, Ow w D T h_X M0 z0 → X z0 → X' z0) (lk278 : ∀ t, h_k278 t = true → h t = true) (hk278 : ∀ z0 z1, Ow w D T h_k278 M0 z1 → k278 z0 z1 → k278' z0 z1) : ∀ (n : Nat) (v3 : Int32) (v5 : Int32) (M : Mem), Ow w D T h M0 M → w_Model_endMethod_L357 this Q X k278 n v3 v5 M → w_Model_endMethod_L357 this Q' X' k278' n v3 v5 M
  | 0, _, _, _ => fun  _ h => h
  | n + 1, v3, v5, M => fun  hf => by
    unfold w_Model_endMethod_L357
    exact (Exists.imp fun i22 => (mf_and fun e1 => (Exists.imp fun i23 => (mf_and fun e3 => (mf_and fun _ => (Exists.imp fun i25 => (mf_and fun e5 => (Exists.imp fun i26 => (mf_and fun e7 => (mf_and fun _ => (mf_ite (mo_w_Model_endMethod_j411 hD  lQ hQ lX hX lk278 hk278 hf) (Exists.imp fun i29 => (mf_and fun e9 => (have o10 : ow w D 12 i29 := (Ow.rh e9 rfl n0 hf); (Exists.imp fun i30 => (mf_and fun e11 => (have o12 : ow w D 300 i30 := (Ow.r1 e11 rfl rfl o10 hf); (Exists.imp fun i31 => (mf_and fun e13 => (Exists.imp fun i32 => (mf_and fun e15 => (mf_and fun _ => (mo_w_Model_labelOf hD  (fun r35 M34 f17 => (have g18 : Ow w D T _ M0 M34 := (Ow.trans hf f17); (mf_and fun _ => (have g19 : Ow w D T _ M0 (sI M34 300 i30 v5.toNatClampNeg r35) := (Ow.wI o12 g18); (mo_w_Model_endMethod_L357 hD n0 lQ hQ lX hX lk278 hk278 _ _ _ _  g19))))) hf.1)))))))))))))))))))))))
set_option maxRecDepth 20000 in
theorem mo_w_Model_endMethod_j339 {w : Nat} {D : Nat → Nat → Prop} {T : Nat → Prop} {h : Hot} {this : Nat} {Q Q' : Mem → Prop} {h_Q : Hot} {X X' : Mem → Prop} {h_X : Hot} {k278 k278' : Int32 → Mem → Prop} {h_k278 : Hot} {v3 : Int32} {v4 : Int32} {M : Mem} {M0 : Mem} (hD : Dok w D) (n0 : h (11, this, 45) = true) (lQ : ∀ t, h_Q t = true → h t = true) (hQ : ∀ z0, Ow w D T h_Q M0 z0 → Q z0 → Q' z0) (lX : ∀ t, h_X t = true → h t = true) (hX : ∀ z0, Ow w D T h_X M0 z0 → X z0 → X' z0) (lk278 : ∀ t, h_k278 t = true → h t = true) (hk278 : ∀ z0 z1, Ow w D T h_k278 M0 z1 → k278 z0 z1 → k278' z0 z1) : Ow w D T h M0 M → w_Model_endMethod_j339 this Q X k278 v3 v4 M → w_Model_endMethod_j339 this Q' X' k278' v3 v4 M := by
  intro hf
  unfold w_Model_endMethod_j339
  exact (mf_ite (Exists.imp fun i19 => (mf_and fun e1 => (Exists.imp fun i20 => (mf_and fun e3 => (mf_and fun _ => (Exists.imp fun n37 => (mo_w_Model_endMethod_L357 hD n0 lQ hQ lX hX lk278 hk278 _ _ _ _  hf))))))) (mo_w_Model_endMethod_j411 hD  lQ hQ lX hX lk278 hk278 hf))
set_option maxRecDepth 20000 in
theorem mo_w_Model_endMethod_L278 {w : Nat} {D : Nat → Nat → Prop} {T : Nat → Prop} {h : Hot} {this : Nat} {Q Q' : Mem → Prop} {h_Q : Hot} {X X' : Mem → Prop} {h_X : Hot} {M0 : Mem} (hD : Dok w D) (n0 : h (11, this, 45) = true) (lQ : ∀ t, h_Q t = true → h t = true) (hQ : ∀ z0, Ow w D T h_Q M0 z0 → Q z0 → Q' z0) (lX : ∀ t, h_X t = true → h t = true) (hX : ∀ z0, Ow w D T h_X M0 z0 → X z0 → X' z0) : ∀ (n : Nat) (v3 : Int32) (M : Mem), Ow w D T h M0 M → w_Model_endMethod_L278 this Q X n v3 M → w_Model_endMethod_L278 this Q' X' n v3 M
  | 0, _, _ => fun  _ h => h
  | n + 1, v3, M => fun  hf => by
    unfold w_Model_endMethod_L278
    exact (Exists.imp fun i12 => (mf_and fun e1 => (mf_ite (hQ _  (Ow.dn lQ hf)) (Exists.imp fun i14 => (mf_and fun e3 => (Exists.imp fun i15 => (mf_and fun e5 => (mf_and fun _ => (mf_ite (mo_w_Model_endMethod_j339 hD n0 lQ hQ lX hX (fun _ e => e) (fun y0 y1  hf => mo_w_Model_endMethod_L278 hD n0 lQ hQ lX hX n y0 y1  hf) hf) (mf_ite (mo_w_Model_endMethod_j339 hD n0 lQ hQ lX hX (fun _ e => e) (fun y0 y1  hf => mo_w_Model_endMethod_L278 hD n0 lQ hQ lX hX n y0 y1  hf) hf) (Exists.imp fun i39 => (mf_and fun e7 => (have o8 : ow w D 12 i39 := (Ow.rh e7 rfl n0 hf); (Exists.imp fun i40 => (mf_and fun e9 => (have o10 : ow w D 300 i40 := (Ow.r1 e9 rfl rfl o8 hf); (Exists.imp fun i41 => (mf_and fun e11 => (Exists.imp fun i42 => (mf_and fun e13 => (mf_and fun _ => (mo_w_Model_labelOf hD  (fun r45 M44 f15 => (have g16 : Ow w D T _ M0 M44 := (Ow.trans hf f15); (mf_and fun _ => (have g17 : Ow w D T _ M0 (sI M44 300 i40 v3.toNatClampNeg r45) := (Ow.wI o10 g16); (mo_w_Model_endMethod_j411 hD  lQ hQ lX hX (fun _ e => e) (fun y0 y1  hf => mo_w_Model_endMethod_L278 hD n0 lQ hQ lX hX n y0 y1  hf) g17))))) hf.1))))))))))))))))))))))
set_option maxRecDepth 20000 in
theorem mo_w_Model_endMethod_j265 {w : Nat} {D : Nat → Nat → Prop} {T : Nat → Prop} {h : Hot} {this : Nat} {Q Q' : Mem → Prop} {h_Q : Hot} {X X' : Mem → Prop} {h_X : Hot} {M : Mem} {M0 : Mem} (hD : Dok w D) (n0 : h (11, this, 45) = true) (lQ : ∀ t, h_Q t = true → h t = true) (hQ : ∀ z0, Ow w D T h_Q M0 z0 → Q z0 → Q' z0) (lX : ∀ t, h_X t = true → h t = true) (hX : ∀ z0, Ow w D T h_X M0 z0 → X z0 → X' z0) : Ow w D T h M0 M → w_Model_endMethod_j265 this Q X M → w_Model_endMethod_j265 this Q' X' M := by
  intro hf
  unfold w_Model_endMethod_j265
  exact (Exists.imp fun i10 => (mf_and fun e1 => (mf_and fun _ => (Exists.imp fun n47 => (mo_w_Model_endMethod_L278 hD n0 lQ hQ lX hX _ _ _  hf)))))
set_option maxRecDepth 20000 in
theorem mo_w_Model_endMethod_j243 {w : Nat} {D : Nat → Nat → Prop} {T : Nat → Prop} {h : Hot} {this : Nat} {Q Q' : Mem → Prop} {h_Q : Hot} {X X' : Mem → Prop} {h_X : Hot} {k112 k112' : Int32 → Int32 → Int32 → Mem → Prop} {h_k112 : Hot} {v1 : Int32} {v2 : Int32} {v3 : Int32} {M : Mem} {M0 : Mem} (hD : Dok w D)  (lQ : ∀ t, h_Q t = true → h t = true) (hQ : ∀ z0, Ow w D T h_Q M0 z0 → Q z0 → Q' z0) (lX : ∀ t, h_X t = true → h t = true) (hX : ∀ z0, Ow w D T h_X M0 z0 → X z0 → X' z0) (lk112 : ∀ t, h_k112 t = true → h t = true) (hk112 : ∀ z0 z1 z2 z3, Ow w D T h_k112 M0 z3 → k112 z0 z1 z2 z3 → k112' z0 z1 z2 z3) : Ow w D T h M0 M → w_Model_endMethod_j243 this Q X k112 v1 v2 v3 M → w_Model_endMethod_j243 this Q' X' k112' v1 v2 v3 M := by
  intro hf
  unfold w_Model_endMethod_j243
  exact (hk112 _ _ _ _  (Ow.dn lk112 hf))
set_option maxRecDepth 20000 in
theorem mo_w_Model_endMethod_L112 {w : Nat} {D : Nat → Nat → Prop} {T : Nat → Prop} {h : Hot} {this : Nat} {Q Q' : Mem → Prop} {h_Q : Hot} {X X' : Mem → Prop} {h_X : Hot} {M0 : Mem} (hD : Dok w D) (n0 : ow w D 11 this) (n1 : h (11, this, 45) = true) (lQ : ∀ t, h_Q t = true → h t = true) (hQ : ∀ z0, Ow w D T h_Q M0 z0 → Q z0 → Q' z0) (lX : ∀ t, h_X t = true → h t = true) (hX : ∀ z0, Ow w D T h_X M0 z0 → X z0 → X' z0) : ∀ (n : Nat) (v1 : Int32) (v2 : Int32) (v3 : Int32) (M : Mem), Ow w D T h M0 M → w_Model_endMethod_L112 this Q X n v1 v2 v3 M → w_Model_endMethod_L112 this Q' X' n v1 v2 v3 M
  | 0, _, _, _, _ => fun  _ h => h
  | n + 1, v1, v2, v3, M => fun  hf => by
    unfold w_Model_endMethod_L112
    exact (Exists.imp fun i4 => (mf_and fun e1 => (mf_and fun _ => (mf_ite (mf_ite (mf_and fun _ => (mo_w_Model_refuse hD n0 (fun M9 f3 => (have g4 : Ow w D T _ M0 M9 := (Ow.trans hf f3); (mo_w_Model_endMethod_j265 hD n1 lQ hQ lX hX g4))) (fun z6 f5 => hX z6 (Ow.dn lX (Ow.trans hf f5))) hf.1)) (mo_w_Model_endMethod_j265 hD n1 lQ hQ lX hX hf)) (Exists.imp fun i48 => (mf_and fun e7 => (have o8 : ow w D 12 i48 := (Ow.rh e7 rfl n1 hf); (Exists.imp fun i49 => (mf_and fun e9 => (mf_and fun _ => (mo_w_Model_labelOf hD  (fun r52 M51 f11 => (have g12 : Ow w D T _ M0 M51 := (Ow.trans hf f11); (mf_and fun _ => (Exists.imp fun i54 => (mf_and fun e13 => (have o14 : ow w D 12 i54 := (Ow.rh e13 rfl n1 (Ow.wI (ow.to o8 rfl rfl) g12)); (Exists.imp fun i55 => (mf_and fun e15 => (mf_and fun _ => (have g17 : Ow w D T _ M0 (sI M51 152 i48 (v2 + v3).toNatClampNeg r52) := (Ow.wI (ow.to o8 rfl rfl) g12); (mo_w_Model_labelOf hD  (fun r58 M57 f18 => (have g19 : Ow w D T _ M0 M57 := (Ow.trans g17 f18); (mf_and fun _ => (Exists.imp fun i60 => (mf_and fun e20 => (have o21 : ow w D 12 i60 := (Ow.rh e20 rfl n1 (Ow.wI (ow.to o14 rfl rfl) g19)); (Exists.imp fun i61 => (mf_and fun e22 => (mf_and fun _ => (have g24 : Ow w D T _ M0 (sI M57 153 i54 (v2 + v3).toNatClampNeg r58) := (Ow.wI (ow.to o14 rfl rfl) g19); (mo_w_Model_labelOf hD  (fun r64 M63 f25 => (have g26 : Ow w D T _ M0 M63 := (Ow.trans g24 f25); (mf_and fun _ => (Exists.imp fun i66 => (mf_and fun e27 => (mf_and fun _ => (Exists.imp fun i68 => (mf_and fun e29 => (mf_and fun _ => (mf_ite (have g31 : Ow w D T _ M0 (sI M63 154 i60 (v2 + v3).toNatClampNeg r64) := (Ow.wI (ow.to o21 rfl rfl) g26); (mo_w_Model_endMethod_j243 hD  lQ hQ lX hX (fun _ e => e) (fun y0 y1 y2 y3  hf => mo_w_Model_endMethod_L112 hD n0 n1 lQ hQ lX hX n y0 y1 y2 y3  hf) g31)) (mf_and fun _ => (have g32 : Ow w D T _ M0 (sI M63 154 i60 (v2 + v3).toNatClampNeg r64) := (Ow.wI (ow.to o21 rfl rfl) g26); (mo_w_Model_refuse hD n0 (fun M72 f33 => (have g34 : Ow w D T _ M0 M72 := (Ow.trans g32 f33); (mo_w_Model_endMethod_j243 hD  lQ hQ lX hX (fun _ e => e) (fun y0 y1 y2 y3  hf => mo_w_Model_endMethod_L112 hD n0 n1 lQ hQ lX hX n y0 y1 y2 y3  hf) g34))) (fun z36 f35 => hX z36 (Ow.dn lX (Ow.trans g32 f35))) g32.1))))))))))))) g24.1))))))))))) g17.1))))))))))) hf.1)))))))))))
set_option maxRecDepth 20000 in
theorem mo_w_Model_endMethod_j96 {w : Nat} {D : Nat → Nat → Prop} {T : Nat → Prop} {h : Hot} {this : Nat} {Q Q' : Mem → Prop} {h_Q : Hot} {X X' : Mem → Prop} {h_X : Hot} {k15 k15' : Int32 → Int32 → Mem → Prop} {h_k15 : Hot} {v1 : Int32} {v2 : Int32} {M : Mem} {M0 : Mem} (hD : Dok w D)  (lQ : ∀ t, h_Q t = true → h t = true) (hQ : ∀ z0, Ow w D T h_Q M0 z0 → Q z0 → Q' z0) (lX : ∀ t, h_X t = true → h t = true) (hX : ∀ z0, Ow w D T h_X M0 z0 → X z0 → X' z0) (lk15 : ∀ t, h_k15 t = true → h t = true) (hk15 : ∀ z0 z1 z2, Ow w D T h_k15 M0 z2 → k15 z0 z1 z2 → k15' z0 z1 z2) : Ow w D T h M0 M → w_Model_endMethod_j96 this Q X k15 v1 v2 M → w_Model_endMethod_j96 this Q' X' k15' v1 v2 M := by
  intro hf
  unfold w_Model_endMethod_j96
  exact (hk15 _ _ _  (Ow.dn lk15 hf))
set_option maxRecDepth 20000 in
theorem mo_w_Model_endMethod_j84 {w : Nat} {D : Nat → Nat → Prop} {T : Nat → Prop} {h : Hot} {this : Nat} {Q Q' : Mem → Prop} {h_Q : Hot} {X X' : Mem → Prop} {h_X : Hot} {k15 k15' : Int32 → Int32 → Mem → Prop} {h_k15 : Hot} {v1 : Int32} {v2 : Int32} {M : Mem} {M0 : Mem} (hD : Dok w D) (n0 : ow w D 11 this) (lQ : ∀ t, h_Q t = true → h t = true) (hQ : ∀ z0, Ow w D T h_Q M0 z0 → Q z0 → Q' z0) (lX : ∀ t, h_X t = true → h t = true) (hX : ∀ z0, Ow w D T h_X M0 z0 → X z0 → X' z0) (lk15 : ∀ t, h_k15 t = true → h t = true) (hk15 : ∀ z0 z1 z2, Ow w D T h_k15 M0 z2 → k15 z0 z1 z2 → k15' z0 z1 z2) : Ow w D T h M0 M → w_Model_endMethod_j84 this Q X k15 v1 v2 M → w_Model_endMethod_j84 this Q' X' k15' v1 v2 M := by
  intro hf
  unfold w_Model_endMethod_j84
  exact (Exists.imp fun i84 => (mf_and fun e1 => (mf_and fun _ => (mo_w_Model_refuse hD n0 (fun M86 f3 => (have g4 : Ow w D T _ M0 M86 := (Ow.trans hf f3); (mo_w_Model_endMethod_j96 hD  lQ hQ lX hX lk15 hk15 g4))) (fun z6 f5 => hX z6 (Ow.dn lX (Ow.trans hf f5))) hf.1))))
set_option maxRecDepth 20000 in
theorem mo_w_Model_endMethod_j53 {w : Nat} {D : Nat → Nat → Prop} {T : Nat → Prop} {h : Hot} {this : Nat} {Q Q' : Mem → Prop} {h_Q : Hot} {X X' : Mem → Prop} {h_X : Hot} {k15 k15' : Int32 → Int32 → Mem → Prop} {h_k15 : Hot} {v1 : Int32} {v2 : Int32} {s0 : Int32} {M : Mem} {M0 : Mem} (hD : Dok w D) (n0 : ow w D 11 this) (lQ : ∀ t, h_Q t = true → h t = true) (hQ : ∀ z0, Ow w D T h_Q M0 z0 → Q z0 → Q' z0) (lX : ∀ t, h_X t = true → h t = true) (hX : ∀ z0, Ow w D T h_X M0 z0 → X z0 → X' z0) (lk15 : ∀ t, h_k15 t = true → h t = true) (hk15 : ∀ z0 z1 z2, Ow w D T h_k15 M0 z2 → k15 z0 z1 z2 → k15' z0 z1 z2) : Ow w D T h M0 M → w_Model_endMethod_j53 this Q X k15 v1 v2 s0 M → w_Model_endMethod_j53 this Q' X' k15' v1 v2 s0 M := by
  intro hf
  unfold w_Model_endMethod_j53
  exact (Exists.imp fun i81 => (mf_and fun e1 => (mf_and fun _ => (mf_ite (mo_w_Model_endMethod_j84 hD n0 lQ hQ lX hX lk15 hk15 hf) (mf_ite (mo_w_Model_endMethod_j84 hD n0 lQ hQ lX hX lk15 hk15 hf) (mf_ite (Exists.imp fun i89 => (mf_and fun e3 => (mf_and fun _ => (mf_ite (mo_w_Model_endMethod_j84 hD n0 lQ hQ lX hX lk15 hk15 hf) (mo_w_Model_endMethod_j96 hD  lQ hQ lX hX lk15 hk15 hf))))) (mo_w_Model_endMethod_j96 hD  lQ hQ lX hX lk15 hk15 hf)))))))
set_option maxRecDepth 20000 in
theorem mo_w_Model_endMethod_L15 {w : Nat} {D : Nat → Nat → Prop} {T : Nat → Prop} {h : Hot} {this : Nat} {Q Q' : Mem → Prop} {h_Q : Hot} {X X' : Mem → Prop} {h_X : Hot} {M0 : Mem} (hD : Dok w D) (n0 : ow w D 11 this) (n1 : h (11, this, 45) = true) (lQ : ∀ t, h_Q t = true → h t = true) (hQ : ∀ z0, Ow w D T h_Q M0 z0 → Q z0 → Q' z0) (lX : ∀ t, h_X t = true → h t = true) (hX : ∀ z0, Ow w D T h_X M0 z0 → X z0 → X' z0) : ∀ (n : Nat) (v1 : Int32) (v2 : Int32) (M : Mem), Ow w D T h M0 M → w_Model_endMethod_L15 this Q X n v1 v2 M → w_Model_endMethod_L15 this Q' X' n v1 v2 M
  | 0, _, _, _ => fun  _ h => h
  | n + 1, v1, v2, M => fun  hf => by
    unfold w_Model_endMethod_L15
    exact (mf_ite (Exists.imp fun n73 => (mo_w_Model_endMethod_L112 hD n0 n1 lQ hQ lX hX _ _ _ _ _  hf)) (Exists.imp fun i74 => (mf_and fun e1 => (mf_and fun _ => (mf_ite (Exists.imp fun i77 => (mf_and fun e3 => (mf_and fun _ => (mo_w_Model_labelOf hD  (fun r80 M79 f5 => (have g6 : Ow w D T _ M0 M79 := (Ow.trans hf f5); (mo_w_Model_endMethod_j53 hD n0 lQ hQ lX hX (fun _ e => e) (fun y0 y1 y2  hf => mo_w_Model_endMethod_L15 hD n0 n1 lQ hQ lX hX n y0 y1 y2  hf) g6))) hf.1)))) (Exists.imp fun i92 => (mf_and fun e7 => (mf_and fun _ => (mo_w_Model_endMethod_j53 hD n0 lQ hQ lX hX (fun _ e => e) (fun y0 y1 y2  hf => mo_w_Model_endMethod_L15 hD n0 n1 lQ hQ lX hX n y0 y1 y2  hf) hf)))))))))
set_option maxRecDepth 20000 in
theorem mo_w_Model_endMethod {w : Nat} {D : Nat → Nat → Prop} {T : Nat → Prop} {h : Hot} {this : Nat} {Q Q' : Mem → Prop} {X X' : Mem → Prop} {M : Mem} (hD : Dok w D) (n0 : ow w D 11 this) (n1 : h (11, this, 45) = true) (hQ : ∀ z0, Ow w D T h M z0 → Q z0 → Q' z0) (hX : ∀ z0, Ow w D T h M z0 → X z0 → X' z0) : St w D T h M → w_Model_endMethod this Q X M → w_Model_endMethod this Q' X' M := by
  intro hs
  unfold w_Model_endMethod
  exact (Exists.imp fun i1 => (mf_and fun e1 => (mf_and fun _ => (Exists.imp fun n94 => (mo_w_Model_endMethod_L15 hD n0 n1 (fun _ e => e) hQ (fun _ e => e) hX _ _ _ _  (Ow.rf hs))))))
set_option maxRecDepth 20000 in
theorem mo_w_Model_classLine_j324 {w : Nat} {D : Nat → Nat → Prop} {T : Nat → Prop} {h : Hot} {this : Nat} {Q Q' : Mem → Prop} {h_Q : Hot} {X X' : Mem → Prop} {h_X : Hot} {k240 k240' : Int32 → Int32 → Int32 → Int32 → Mem → Prop} {h_k240 : Hot} {k297 k297' : Int32 → Int32 → Int32 → Int32 → Int32 → Int32 → Mem → Prop} {h_k297 : Hot} {v1 : Int32} {v3 : Int32} {v4 : Int32} {v5 : Int32} {v6 : Int32} {v7 : Int32} {s0 : Int32} {s1 : Int32} {M : Mem} {M0 : Mem} (hD : Dok w D) (n0 : ow w D 11 this) (lQ : ∀ t, h_Q t = true → h t = true) (hQ : ∀ z0, Ow w D T h_Q M0 z0 → Q z0 → Q' z0) (lX : ∀ t, h_X t = true → h t = true) (hX : ∀ z0, Ow w D T h_X M0 z0 → X z0 → X' z0) (lk240 : ∀ t, h_k240 t = true → h t = true) (hk240 : ∀ z0 z1 z2 z3 z4, Ow w D T h_k240 M0 z4 → k240 z0 z1 z2 z3 z4 → k240' z0 z1 z2 z3 z4) (lk297 : ∀ t, h_k297 t = true → h t = true) (hk297 : ∀ z0 z1 z2 z3 z4 z5 z6, Ow w D T h_k297 M0 z6 → k297 z0 z1 z2 z3 z4 z5 z6 → k297' z0 z1 z2 z3 z4 z5 z6) : Ow w D T h M0 M → w_Model_classLine_j324 this Q X k240 k297 v1 v3 v4 v5 v6 v7 s0 s1 M → w_Model_classLine_j324 this Q' X' k240' k297' v1 v3 v4 v5 v6 v7 s0 s1 M := by
  intro hf
  unfold w_Model_classLine_j324
  exact (mo_w_Model_asks hD n0 (fun M38 f1 => (have g2 : Ow w D T _ M0 M38 := (Ow.trans hf f1); (hk297 _ _ _ _ _ _ _  (Ow.dn lk297 g2)))) hf.1)
set_option maxRecDepth 20000 in
theorem mo_w_Model_classLine_L297 {w : Nat} {D : Nat → Nat → Prop} {T : Nat → Prop} {h : Hot} {this : Nat} {Q Q' : Mem → Prop} {h_Q : Hot} {X X' : Mem → Prop} {h_X : Hot} {k240 k240' : Int32 → Int32 → Int32 → Int32 → Mem → Prop} {h_k240 : Hot} {M0 : Mem} (hD : Dok w D) (n0 : ow w D 11 this) (lQ : ∀ t, h_Q t = true → h t = true) (hQ : ∀ z0, Ow w D T h_Q M0 z0 → Q z0 → Q' z0) (lX : ∀ t, h_X t = true → h t = true) (hX : ∀ z0, Ow w D T h_X M0 z0 → X z0 → X' z0) (lk240 : ∀ t, h_k240 t = true → h t = true) (hk240 : ∀ z0 z1 z2 z3 z4, Ow w D T h_k240 M0 z4 → k240 z0 z1 z2 z3 z4 → k240' z0 z1 z2 z3 z4) : ∀ (n : Nat) (v1 : Int32) (v3 : Int32) (v4 : Int32) (v5 : Int32) (v6 : Int32) (v7 : Int32) (M : Mem), Ow w D T h M0 M → w_Model_classLine_L297 this Q X k240 n v1 v3 v4 v5 v6 v7 M → w_Model_classLine_L297 this Q' X' k240' n v1 v3 v4 v5 v6 v7 M
  | 0, _, _, _, _, _, _, _ => fun  _ h => h
  | n + 1, v1, v3, v4, v5, v6, v7, M => fun  hf => by
    unfold w_Model_classLine_L297
    exact (mf_ite (Exists.imp fun i30 => (mf_and fun e1 => (have o2 : ow w D 300 i30 := (Ow.r0 e1 rfl n0 hf); (mo_w_Model_room hD o2 (fun i32 M31 o5 f3 => (have g4 : Ow w D T _ M0 M31 := (Ow.trans hf f3); (Exists.imp fun i33 => (mf_and fun e6 => (have o7 : ow w D 300 i33 := (Ow.r0 e6 rfl n0 (Ow.wR rfl n0 o5 g4)); (mf_and fun _ => (hk240 _ _ _ _ _  (Ow.dn lk240 (Ow.wI o7 (Ow.wR rfl n0 o5 g4)))))))))) hf.1)))) (Exists.imp fun i35 => (mf_and fun e8 => (mf_and fun _ => (mf_ite (mo_w_Model_classLine_j324 hD n0 lQ hQ lX hX lk240 hk240 (fun _ e => e) (fun y0 y1 y2 y3 y4 y5 y6  hf => mo_w_Model_classLine_L297 hD n0 lQ hQ lX hX lk240 hk240 n y0 y1 y2 y3 y4 y5 y6  hf) hf) (mo_w_Model_classLine_j324 hD n0 lQ hQ lX hX lk240 hk240 (fun _ e => e) (fun y0 y1 y2 y3 y4 y5 y6  hf => mo_w_Model_classLine_L297 hD n0 lQ hQ lX hX lk240 hk240 n y0 y1 y2 y3 y4 y5 y6  hf) hf))))))
set_option maxRecDepth 20000 in
theorem mo_w_Model_classLine_j291 {w : Nat} {D : Nat → Nat → Prop} {T : Nat → Prop} {h : Hot} {this : Nat} {Q Q' : Mem → Prop} {h_Q : Hot} {X X' : Mem → Prop} {h_X : Hot} {k240 k240' : Int32 → Int32 → Int32 → Int32 → Mem → Prop} {h_k240 : Hot} {v1 : Int32} {v3 : Int32} {v4 : Int32} {v5 : Int32} {v6 : Int32} {s0 : Int32} {s1 : Int32} {M : Mem} {M0 : Mem} (hD : Dok w D) (n0 : ow w D 11 this) (lQ : ∀ t, h_Q t = true → h t = true) (hQ : ∀ z0, Ow w D T h_Q M0 z0 → Q z0 → Q' z0) (lX : ∀ t, h_X t = true → h t = true) (hX : ∀ z0, Ow w D T h_X M0 z0 → X z0 → X' z0) (lk240 : ∀ t, h_k240 t = true → h t = true) (hk240 : ∀ z0 z1 z2 z3 z4, Ow w D T h_k240 M0 z4 → k240 z0 z1 z2 z3 z4 → k240' z0 z1 z2 z3 z4) : Ow w D T h M0 M → w_Model_classLine_j291 this Q X k240 v1 v3 v4 v5 v6 s0 s1 M → w_Model_classLine_j291 this Q' X' k240' v1 v3 v4 v5 v6 s0 s1 M := by
  intro hf
  unfold w_Model_classLine_j291
  exact (mo_w_Model_asks hD n0 (fun M28 f1 => (have g2 : Ow w D T _ M0 M28 := (Ow.trans hf f1); (Exists.imp fun n39 => (mo_w_Model_classLine_L297 hD n0 lQ hQ lX hX lk240 hk240 _ _ _ _ _ _ _ _  g2)))) hf.1)
set_option maxRecDepth 20000 in
theorem mo_w_Model_classLine_j286 {w : Nat} {D : Nat → Nat → Prop} {T : Nat → Prop} {h : Hot} {this : Nat} {Q Q' : Mem → Prop} {h_Q : Hot} {X X' : Mem → Prop} {h_X : Hot} {k240 k240' : Int32 → Int32 → Int32 → Int32 → Mem → Prop} {h_k240 : Hot} {v1 : Int32} {v3 : Int32} {v4 : Int32} {v5 : Int32} {v6 : Int32} {s0 : Int32} {M : Mem} {M0 : Mem} (hD : Dok w D) (n0 : ow w D 11 this) (lQ : ∀ t, h_Q t = true → h t = true) (hQ : ∀ z0, Ow w D T h_Q M0 z0 → Q z0 → Q' z0) (lX : ∀ t, h_X t = true → h t = true) (hX : ∀ z0, Ow w D T h_X M0 z0 → X z0 → X' z0) (lk240 : ∀ t, h_k240 t = true → h t = true) (hk240 : ∀ z0 z1 z2 z3 z4, Ow w D T h_k240 M0 z4 → k240 z0 z1 z2 z3 z4 → k240' z0 z1 z2 z3 z4) : Ow w D T h M0 M → w_Model_classLine_j286 this Q X k240 v1 v3 v4 v5 v6 s0 M → w_Model_classLine_j286 this Q' X' k240' v1 v3 v4 v5 v6 s0 M := by
  intro hf
  unfold w_Model_classLine_j286
  exact (mo_w_Model_classLine_j291 hD n0 lQ hQ lX hX lk240 hk240 hf)
set_option maxRecDepth 20000 in
theorem mo_w_Model_classLine_j377 {w : Nat} {D : Nat → Nat → Prop} {T : Nat → Prop} {h : Hot} {this : Nat} {Q Q' : Mem → Prop} {h_Q : Hot} {X X' : Mem → Prop} {h_X : Hot} {v1 : Int32} {v3 : Int32} {v4 : Int32} {v5 : Int32} {s0 : Int32} {s1 : Int32} {M : Mem} {M0 : Mem} (hD : Dok w D) (n0 : ow w D 11 this) (n1 : h (11, this, 45) = true) (lQ : ∀ t, h_Q t = true → h t = true) (hQ : ∀ z0, Ow w D T h_Q M0 z0 → Q z0 → Q' z0) (lX : ∀ t, h_X t = true → h t = true) (hX : ∀ z0, Ow w D T h_X M0 z0 → X z0 → X' z0) : Ow w D T h M0 M → w_Model_classLine_j377 this Q X v1 v3 v4 v5 s0 s1 M → w_Model_classLine_j377 this Q' X' v1 v3 v4 v5 s0 s1 M := by
  intro hf
  unfold w_Model_classLine_j377
  exact (mo_w_Model_asks hD n0 (fun M42 f1 => (have g2 : Ow w D T _ M0 M42 := (Ow.trans hf f1); (mo_w_Model_need hD n0 (fun M43 f3 => (have g4 : Ow w D T _ M0 M43 := (Ow.trans g2 f3); (mf_ite (Exists.imp fun i45 => (mf_and fun e5 => (Exists.imp fun i46 => (mf_and fun e7 => (Exists.imp fun i47 => (mf_and fun e9 => (have o10 : ow w D 12 i47 := (Ow.rh e9 rfl n1 g4); (mf_and fun _ => (mf_and fun _ => (mf_and fun _ => (mf_and fun _ => (mf_and fun _ => (Exists.imp fun M48 => (mf_and fun e11 => (have g12 : Ow w D T _ M0 M48 := Ow.of e11 (Ow.wcp (ow.to o10 rfl rfl) g4); (Exists.imp fun i54 => (mf_and fun e13 => (have o14 : ow w D 12 i54 := (Ow.rh e13 rfl n1 g12); (mf_and fun _ => (Exists.imp fun i56 => (mf_and fun e15 => (have o16 : ow w D 12 i56 := (Ow.rh e15 rfl n1 (Ow.wI (ow.to o14 rfl rfl) g12)); (mf_and fun _ => (Exists.imp fun M58 => (mf_and fun e17 => (have g18 : Ow w D T _ M0 M58 := Ow.of e17 (Ow.wI (ow.to o16 rfl rfl) (Ow.wI (ow.to o14 rfl rfl) g12)); (Exists.imp fun i59 => (mf_and fun e19 => (have o20 : ow w D 12 i59 := (Ow.rh e19 rfl n1 g18); (mf_and fun _ => (Exists.imp fun i61 => (mf_and fun e21 => (have o22 : ow w D 12 i61 := (Ow.rh e21 rfl n1 (Ow.wI (ow.to o20 rfl rfl) g18)); (mf_and fun _ => (Exists.imp fun M63 => (mf_and fun e23 => (have g24 : Ow w D T _ M0 M63 := Ow.of e23 (Ow.wI (ow.to o22 rfl rfl) (Ow.wI (ow.to o20 rfl rfl) g18)); (Exists.imp fun i64 => (mf_and fun e25 => (have o26 : ow w D 12 i64 := (Ow.rh e25 rfl n1 g24); (mf_and fun _ => (Exists.imp fun i66 => (mf_and fun e27 => (have o28 : ow w D 12 i66 := (Ow.rh e27 rfl n1 (Ow.wI (ow.to o26 rfl rfl) g24)); (mf_and fun _ => (Exists.imp fun M68 => (mf_and fun e29 => (have g30 : Ow w D T _ M0 M68 := Ow.of e29 (Ow.wI (ow.to o28 rfl rfl) (Ow.wI (ow.to o26 rfl rfl) g24)); (Exists.imp fun i69 => (mf_and fun e31 => (have o32 : ow w D 12 i69 := (Ow.rh e31 rfl n1 g30); (mf_and fun _ => (Exists.imp fun i71 => (mf_and fun e33 => (have o34 : ow w D 12 i71 := (Ow.rh e33 rfl n1 (Ow.wI (ow.to o32 rfl rfl) g30)); (mf_and fun _ => (Exists.imp fun M73 => (mf_and fun e35 => (have g36 : Ow w D T _ M0 M73 := Ow.of e35 (Ow.wI (ow.to o34 rfl rfl) (Ow.wI (ow.to o32 rfl rfl) g30)); (Exists.imp fun i74 => (mf_and fun e37 => (have o38 : ow w D 12 i74 := (Ow.rh e37 rfl n1 g36); (Exists.imp fun M75 => (mf_and fun e39 => (have g40 : Ow w D T _ M0 M75 := Ow.of e39 (Ow.wI n0 (Ow.wI o38 g36)); (hQ _  (Ow.dn lQ (Ow.wI n0 g40)))))))))))))))))))))))))))))))))))))))))))))))))))))))))))))))))))) (hQ _  (Ow.dn lQ g4))))) (fun z42 f41 => hX z42 (Ow.dn lX (Ow.trans g2 f41))) g2.1))) hf.1)
set_option maxRecDepth 20000 in
theorem mo_w_Model_classLine_L240 {w : Nat} {D : Nat → Nat → Prop} {T : Nat → Prop} {h : Hot} {this : Nat} {Q Q' : Mem → Prop} {h_Q : Hot} {X X' : Mem → Prop} {h_X : Hot} {M0 : Mem} (hD : Dok w D) (n0 : ow w D 11 this) (n1 : h (11, this, 45) = true) (lQ : ∀ t, h_Q t = true → h t = true) (hQ : ∀ z0, Ow w D T h_Q M0 z0 → Q z0 → Q' z0) (lX : ∀ t, h_X t = true → h t = true) (hX : ∀ z0, Ow w D T h_X M0 z0 → X z0 → X' z0) : ∀ (n : Nat) (v1 : Int32) (v3 : Int32) (v4 : Int32) (v5 : Int32) (M : Mem), Ow w D T h M0 M → w_Model_classLine_L240 this Q X n v1 v3 v4 v5 M → w_Model_classLine_L240 this Q' X' n v1 v3 v4 v5 M
  | 0, _, _, _, _, _ => fun  _ h => h
  | n + 1, v1, v3, v4, v5, M => fun  hf => by
    unfold w_Model_classLine_L240
    exact (mf_and fun _ => (mf_ite (have g1 : Ow w D T _ M0 (sI M 11 this 43 ((mI M 11 this 43) + (1 : Int32))) := (Ow.wI n0 hf); (mo_w_Model_className hD n0 (fun r26 M25 f2 => (have g3 : Ow w D T _ M0 M25 := (Ow.trans g1 f2); (mf_ite (mo_w_Model_classLine_j286 hD n0 lQ hQ lX hX (fun _ e => e) (fun y0 y1 y2 y3 y4  hf => mo_w_Model_classLine_L240 hD n0 n1 lQ hQ lX hX n y0 y1 y2 y3 y4  hf) g3) (mf_ite (mo_w_Model_classLine_j286 hD n0 lQ hQ lX hX (fun _ e => e) (fun y0 y1 y2 y3 y4  hf => mo_w_Model_classLine_L240 hD n0 n1 lQ hQ lX hX n y0 y1 y2 y3 y4  hf) g3) (mo_w_Model_classLine_j291 hD n0 lQ hQ lX hX (fun _ e => e) (fun y0 y1 y2 y3 y4  hf => mo_w_Model_classLine_L240 hD n0 n1 lQ hQ lX hX n y0 y1 y2 y3 y4  hf) g3))))) (fun z5 f4 => hX z5 (Ow.dn lX (Ow.trans g1 f4))) g1.1)) (mf_ite (mo_w_Model_classLine_j377 hD n0 n1 lQ hQ lX hX hf) (mo_w_Model_classLine_j377 hD n0 n1 lQ hQ lX hX hf))))
set_option maxRecDepth 20000 in
theorem mo_w_Model_classLine_j234 {w : Nat} {D : Nat → Nat → Prop} {T : Nat → Prop} {h : Hot} {this : Nat} {Q Q' : Mem → Prop} {h_Q : Hot} {X X' : Mem → Prop} {h_X : Hot} {v1 : Int32} {v3 : Int32} {v4 : Int32} {s0 : Int32} {s1 : Int32} {M : Mem} {M0 : Mem} (hD : Dok w D) (n0 : ow w D 11 this) (n1 : h (11, this, 45) = true) (lQ : ∀ t, h_Q t = true → h t = true) (hQ : ∀ z0, Ow w D T h_Q M0 z0 → Q z0 → Q' z0) (lX : ∀ t, h_X t = true → h t = true) (hX : ∀ z0, Ow w D T h_X M0 z0 → X z0 → X' z0) : Ow w D T h M0 M → w_Model_classLine_j234 this Q X v1 v3 v4 s0 s1 M → w_Model_classLine_j234 this Q' X' v1 v3 v4 s0 s1 M := by
  intro hf
  unfold w_Model_classLine_j234
  exact (mo_w_Model_asks hD n0 (fun M22 f1 => (have g2 : Ow w D T _ M0 M22 := (Ow.trans hf f1); (Exists.imp fun n76 => (mo_w_Model_classLine_L240 hD n0 n1 lQ hQ lX hX _ _ _ _ _ _  g2)))) hf.1)
set_option maxRecDepth 20000 in
theorem mo_w_Model_classLine_j211 {w : Nat} {D : Nat → Nat → Prop} {T : Nat → Prop} {h : Hot} {this : Nat} {Q Q' : Mem → Prop} {h_Q : Hot} {X X' : Mem → Prop} {h_X : Hot} {v1 : Int32} {v3 : Int32} {v4 : Int32} {s0 : Int32} {s1 : Int32} {M : Mem} {M0 : Mem} (hD : Dok w D) (n0 : ow w D 11 this) (n1 : h (11, this, 45) = true) (lQ : ∀ t, h_Q t = true → h t = true) (hQ : ∀ z0, Ow w D T h_Q M0 z0 → Q z0 → Q' z0) (lX : ∀ t, h_X t = true → h t = true) (hX : ∀ z0, Ow w D T h_X M0 z0 → X z0 → X' z0) : Ow w D T h M0 M → w_Model_classLine_j211 this Q X v1 v3 v4 s0 s1 M → w_Model_classLine_j211 this Q' X' v1 v3 v4 s0 s1 M := by
  intro hf
  unfold w_Model_classLine_j211
  exact (mo_w_Model_asks hD n0 (fun M19 f1 => (have g2 : Ow w D T _ M0 M19 := (Ow.trans hf f1); (Exists.imp fun i20 => (mf_and fun e3 => (mf_ite (mo_w_Model_classLine_j234 hD n0 n1 lQ hQ lX hX g2) (mo_w_Model_classLine_j234 hD n0 n1 lQ hQ lX hX g2)))))) hf.1)
set_option maxRecDepth 20000 in
theorem mo_w_Model_classLine_j194 {w : Nat} {D : Nat → Nat → Prop} {T : Nat → Prop} {h : Hot} {this : Nat} {Q Q' : Mem → Prop} {h_Q : Hot} {X X' : Mem → Prop} {h_X : Hot} {v1 : Int32} {v3 : Int32} {v4 : Int32} {s0 : Int32} {s1 : Int32} {M : Mem} {M0 : Mem} (hD : Dok w D) (n0 : ow w D 11 this) (n1 : h (11, this, 45) = true) (lQ : ∀ t, h_Q t = true → h t = true) (hQ : ∀ z0, Ow w D T h_Q M0 z0 → Q z0 → Q' z0) (lX : ∀ t, h_X t = true → h t = true) (hX : ∀ z0, Ow w D T h_X M0 z0 → X z0 → X' z0) : Ow w D T h M0 M → w_Model_classLine_j194 this Q X v1 v3 v4 s0 s1 M → w_Model_classLine_j194 this Q' X' v1 v3 v4 s0 s1 M := by
  intro hf
  unfold w_Model_classLine_j194
  exact (mo_w_Model_asks hD n0 (fun M17 f1 => (have g2 : Ow w D T _ M0 M17 := (Ow.trans hf f1); (mf_ite (mo_w_Model_classLine_j211 hD n0 n1 lQ hQ lX hX g2) (mo_w_Model_classLine_j211 hD n0 n1 lQ hQ lX hX g2)))) hf.1)
set_option maxRecDepth 20000 in
theorem mo_w_Model_classLine_j189 {w : Nat} {D : Nat → Nat → Prop} {T : Nat → Prop} {h : Hot} {this : Nat} {Q Q' : Mem → Prop} {h_Q : Hot} {X X' : Mem → Prop} {h_X : Hot} {v1 : Int32} {v3 : Int32} {v4 : Int32} {s0 : Int32} {M : Mem} {M0 : Mem} (hD : Dok w D) (n0 : ow w D 11 this) (n1 : h (11, this, 45) = true) (lQ : ∀ t, h_Q t = true → h t = true) (hQ : ∀ z0, Ow w D T h_Q M0 z0 → Q z0 → Q' z0) (lX : ∀ t, h_X t = true → h t = true) (hX : ∀ z0, Ow w D T h_X M0 z0 → X z0 → X' z0) : Ow w D T h M0 M → w_Model_classLine_j189 this Q X v1 v3 v4 s0 M → w_Model_classLine_j189 this Q' X' v1 v3 v4 s0 M := by
  intro hf
  unfold w_Model_classLine_j189
  exact (mo_w_Model_classLine_j194 hD n0 n1 lQ hQ lX hX hf)
set_option maxRecDepth 20000 in
theorem mo_w_Model_classLine_j193 {w : Nat} {D : Nat → Nat → Prop} {T : Nat → Prop} {h : Hot} {this : Nat} {Q Q' : Mem → Prop} {h_Q : Hot} {X X' : Mem → Prop} {h_X : Hot} {v1 : Int32} {v3 : Int32} {v4 : Int32} {s0 : Int32} {M : Mem} {M0 : Mem} (hD : Dok w D) (n0 : ow w D 11 this) (n1 : h (11, this, 45) = true) (lQ : ∀ t, h_Q t = true → h t = true) (hQ : ∀ z0, Ow w D T h_Q M0 z0 → Q z0 → Q' z0) (lX : ∀ t, h_X t = true → h t = true) (hX : ∀ z0, Ow w D T h_X M0 z0 → X z0 → X' z0) : Ow w D T h M0 M → w_Model_classLine_j193 this Q X v1 v3 v4 s0 M → w_Model_classLine_j193 this Q' X' v1 v3 v4 s0 M := by
  intro hf
  unfold w_Model_classLine_j193
  exact (mo_w_Model_classLine_j194 hD n0 n1 lQ hQ lX hX hf)
set_option maxRecDepth 20000 in
theorem mo_w_Model_classLine_j168 {w : Nat} {D : Nat → Nat → Prop} {T : Nat → Prop} {h : Hot} {this : Nat} {Q Q' : Mem → Prop} {h_Q : Hot} {X X' : Mem → Prop} {h_X : Hot} {v1 : Int32} {v3 : Int32} {v4 : Int32} {s0 : Int32} {M : Mem} {M0 : Mem} (hD : Dok w D) (n0 : ow w D 11 this) (n1 : h (11, this, 45) = true) (lQ : ∀ t, h_Q t = true → h t = true) (hQ : ∀ z0, Ow w D T h_Q M0 z0 → Q z0 → Q' z0) (lX : ∀ t, h_X t = true → h t = true) (hX : ∀ z0, Ow w D T h_X M0 z0 → X z0 → X' z0) : Ow w D T h M0 M → w_Model_classLine_j168 this Q X v1 v3 v4 s0 M → w_Model_classLine_j168 this Q' X' v1 v3 v4 s0 M := by
  intro hf
  unfold w_Model_classLine_j168
  exact (mf_ite (mo_w_Model_classLine_j189 hD n0 n1 lQ hQ lX hX hf) (mf_ite (mo_w_Model_classLine_j193 hD n0 n1 lQ hQ lX hX hf) (mf_ite (mo_w_Model_classLine_j193 hD n0 n1 lQ hQ lX hX hf) (mo_w_Model_classLine_j189 hD n0 n1 lQ hQ lX hX hf))))
set_option maxRecDepth 20000 in
theorem mo_w_Model_classLine_j144 {w : Nat} {D : Nat → Nat → Prop} {T : Nat → Prop} {h : Hot} {this : Nat} {Q Q' : Mem → Prop} {h_Q : Hot} {X X' : Mem → Prop} {h_X : Hot} {v1 : Int32} {v3 : Int32} {v4 : Int32} {s0 : Int32} {s1 : Int32} {M : Mem} {M0 : Mem} (hD : Dok w D) (n0 : ow w D 11 this) (n1 : h (11, this, 45) = true) (lQ : ∀ t, h_Q t = true → h t = true) (hQ : ∀ z0, Ow w D T h_Q M0 z0 → Q z0 → Q' z0) (lX : ∀ t, h_X t = true → h t = true) (hX : ∀ z0, Ow w D T h_X M0 z0 → X z0 → X' z0) : Ow w D T h M0 M → w_Model_classLine_j144 this Q X v1 v3 v4 s0 s1 M → w_Model_classLine_j144 this Q' X' v1 v3 v4 s0 s1 M := by
  intro hf
  unfold w_Model_classLine_j144
  exact (mo_w_Model_asks hD n0 (fun M11 f1 => (have g2 : Ow w D T _ M0 M11 := (Ow.trans hf f1); (mo_w_Model_isOff hD  (fun r13 M12 f3 => (have g4 : Ow w D T _ M0 M12 := (Ow.trans g2 f3); (mf_ite (mf_ite (mo_w_Model_classLine_j168 hD n0 n1 lQ hQ lX hX g4) (mf_ite (mo_w_Model_classLine_j168 hD n0 n1 lQ hQ lX hX g4) (mo_w_Model_classLine_j189 hD n0 n1 lQ hQ lX hX g4))) (mo_w_Model_classLine_j193 hD n0 n1 lQ hQ lX hX g4)))) g2.1))) hf.1)
set_option maxRecDepth 20000 in
theorem mo_w_Model_classLine_j97 {w : Nat} {D : Nat → Nat → Prop} {T : Nat → Prop} {h : Hot} {this : Nat} {Q Q' : Mem → Prop} {h_Q : Hot} {X X' : Mem → Prop} {h_X : Hot} {k4 k4' : Int32 → Int32 → Mem → Prop} {h_k4 : Hot} {v1 : Int32} {v2 : Int32} {s0 : Int32} {s1 : Int32} {M : Mem} {M0 : Mem} (hD : Dok w D) (n0 : ow w D 11 this) (lQ : ∀ t, h_Q t = true → h t = true) (hQ : ∀ z0, Ow w D T h_Q M0 z0 → Q z0 → Q' z0) (lX : ∀ t, h_X t = true → h t = true) (hX : ∀ z0, Ow w D T h_X M0 z0 → X z0 → X' z0) (lk4 : ∀ t, h_k4 t = true → h t = true) (hk4 : ∀ z0 z1 z2, Ow w D T h_k4 M0 z2 → k4 z0 z1 z2 → k4' z0 z1 z2) : Ow w D T h M0 M → w_Model_classLine_j97 this Q X k4 v1 v2 s0 s1 M → w_Model_classLine_j97 this Q' X' k4' v1 v2 s0 s1 M := by
  intro hf
  unfold w_Model_classLine_j97
  exact (hk4 _ _ _  (Ow.dn lk4 (Ow.wI n0 hf)))
set_option maxRecDepth 20000 in
theorem mo_w_Model_classLine_j81 {w : Nat} {D : Nat → Nat → Prop} {T : Nat → Prop} {h : Hot} {this : Nat} {Q Q' : Mem → Prop} {h_Q : Hot} {X X' : Mem → Prop} {h_X : Hot} {k4 k4' : Int32 → Int32 → Mem → Prop} {h_k4 : Hot} {v2 : Int32} {s0 : Int32} {s1 : Int32} {M : Mem} {M0 : Mem} (hD : Dok w D) (n0 : ow w D 11 this) (lQ : ∀ t, h_Q t = true → h t = true) (hQ : ∀ z0, Ow w D T h_Q M0 z0 → Q z0 → Q' z0) (lX : ∀ t, h_X t = true → h t = true) (hX : ∀ z0, Ow w D T h_X M0 z0 → X z0 → X' z0) (lk4 : ∀ t, h_k4 t = true → h t = true) (hk4 : ∀ z0 z1 z2, Ow w D T h_k4 M0 z2 → k4 z0 z1 z2 → k4' z0 z1 z2) : Ow w D T h M0 M → w_Model_classLine_j81 this Q X k4 v2 s0 s1 M → w_Model_classLine_j81 this Q' X' k4' v2 s0 s1 M := by
  intro hf
  unfold w_Model_classLine_j81
  exact (mf_ite (mo_w_Model_classLine_j97 hD n0 lQ hQ lX hX lk4 hk4 hf) (mo_w_Model_classLine_j97 hD n0 lQ hQ lX hX lk4 hk4 hf))
set_option maxRecDepth 20000 in
theorem mo_w_Model_classLine_j70 {w : Nat} {D : Nat → Nat → Prop} {T : Nat → Prop} {h : Hot} {this : Nat} {Q Q' : Mem → Prop} {h_Q : Hot} {X X' : Mem → Prop} {h_X : Hot} {k4 k4' : Int32 → Int32 → Mem → Prop} {h_k4 : Hot} {v1 : Int32} {v3 : Int32} {s0 : Int32} {M : Mem} {M0 : Mem} (hD : Dok w D) (n0 : ow w D 11 this) (lQ : ∀ t, h_Q t = true → h t = true) (hQ : ∀ z0, Ow w D T h_Q M0 z0 → Q z0 → Q' z0) (lX : ∀ t, h_X t = true → h t = true) (hX : ∀ z0, Ow w D T h_X M0 z0 → X z0 → X' z0) (lk4 : ∀ t, h_k4 t = true → h t = true) (hk4 : ∀ z0 z1 z2, Ow w D T h_k4 M0 z2 → k4 z0 z1 z2 → k4' z0 z1 z2) : Ow w D T h M0 M → w_Model_classLine_j70 this Q X k4 v1 v3 s0 M → w_Model_classLine_j70 this Q' X' k4' v1 v3 s0 M := by
  intro hf
  unfold w_Model_classLine_j70
  exact (mf_ite (mo_w_Model_classLine_j81 hD n0 lQ hQ lX hX lk4 hk4 hf) (mo_w_Model_classLine_j81 hD n0 lQ hQ lX hX lk4 hk4 hf))
set_option maxRecDepth 20000 in
theorem mo_w_Model_classLine_j69 {w : Nat} {D : Nat → Nat → Prop} {T : Nat → Prop} {h : Hot} {this : Nat} {Q Q' : Mem → Prop} {h_Q : Hot} {X X' : Mem → Prop} {h_X : Hot} {k4 k4' : Int32 → Int32 → Mem → Prop} {h_k4 : Hot} {v1 : Int32} {v3 : Int32} {M : Mem} {M0 : Mem} (hD : Dok w D) (n0 : ow w D 11 this) (lQ : ∀ t, h_Q t = true → h t = true) (hQ : ∀ z0, Ow w D T h_Q M0 z0 → Q z0 → Q' z0) (lX : ∀ t, h_X t = true → h t = true) (hX : ∀ z0, Ow w D T h_X M0 z0 → X z0 → X' z0) (lk4 : ∀ t, h_k4 t = true → h t = true) (hk4 : ∀ z0 z1 z2, Ow w D T h_k4 M0 z2 → k4 z0 z1 z2 → k4' z0 z1 z2) : Ow w D T h M0 M → w_Model_classLine_j69 this Q X k4 v1 v3 M → w_Model_classLine_j69 this Q' X' k4' v1 v3 M := by
  intro hf
  unfold w_Model_classLine_j69
  exact (mo_w_Model_classLine_j70 hD n0 lQ hQ lX hX lk4 hk4 hf)
set_option maxRecDepth 20000 in
theorem mo_w_Model_classLine_j54 {w : Nat} {D : Nat → Nat → Prop} {T : Nat → Prop} {h : Hot} {this : Nat} {Q Q' : Mem → Prop} {h_Q : Hot} {X X' : Mem → Prop} {h_X : Hot} {k4 k4' : Int32 → Int32 → Mem → Prop} {h_k4 : Hot} {v1 : Int32} {s0 : Int32} {M : Mem} {M0 : Mem} (hD : Dok w D) (n0 : ow w D 11 this) (lQ : ∀ t, h_Q t = true → h t = true) (hQ : ∀ z0, Ow w D T h_Q M0 z0 → Q z0 → Q' z0) (lX : ∀ t, h_X t = true → h t = true) (hX : ∀ z0, Ow w D T h_X M0 z0 → X z0 → X' z0) (lk4 : ∀ t, h_k4 t = true → h t = true) (hk4 : ∀ z0 z1 z2, Ow w D T h_k4 M0 z2 → k4 z0 z1 z2 → k4' z0 z1 z2) : Ow w D T h M0 M → w_Model_classLine_j54 this Q X k4 v1 s0 M → w_Model_classLine_j54 this Q' X' k4' v1 s0 M := by
  intro hf
  unfold w_Model_classLine_j54
  exact (mf_ite (mo_w_Model_classLine_j69 hD n0 lQ hQ lX hX lk4 hk4 hf) (mf_ite (mo_w_Model_classLine_j70 hD n0 lQ hQ lX hX lk4 hk4 hf) (mo_w_Model_classLine_j69 hD n0 lQ hQ lX hX lk4 hk4 hf)))
set_option maxRecDepth 20000 in
theorem mo_w_Model_classLine_L4 {w : Nat} {D : Nat → Nat → Prop} {T : Nat → Prop} {h : Hot} {this : Nat} {Q Q' : Mem → Prop} {h_Q : Hot} {X X' : Mem → Prop} {h_X : Hot} {M0 : Mem} (hD : Dok w D) (n0 : ow w D 11 this) (n1 : h (11, this, 45) = true) (lQ : ∀ t, h_Q t = true → h t = true) (hQ : ∀ z0, Ow w D T h_Q M0 z0 → Q z0 → Q' z0) (lX : ∀ t, h_X t = true → h t = true) (hX : ∀ z0, Ow w D T h_X M0 z0 → X z0 → X' z0) : ∀ (n : Nat) (v1 : Int32) (v2 : Int32) (M : Mem), Ow w D T h M0 M → w_Model_classLine_L4 this Q X n v1 v2 M → w_Model_classLine_L4 this Q' X' n v1 v2 M
  | 0, _, _, _ => fun  _ h => h
  | n + 1, v1, v2, M => fun  hf => by
    unfold w_Model_classLine_L4
    exact (mf_ite (mo_w_Model_needWord hD n0 (fun M2 f1 => (have g2 : Ow w D T _ M0 M2 := (Ow.trans hf f1); (mo_w_Model_className hD n0 (fun r4 M3 f3 => (have g4 : Ow w D T _ M0 M3 := (Ow.trans g2 f3); (mo_w_Model_need hD n0 (fun M5 f5 => (have g6 : Ow w D T _ M0 M5 := (Ow.trans g4 f5); (mo_w_Model_className hD n0 (fun r7 M6 f7 => (have g8 : Ow w D T _ M0 M6 := (Ow.trans g6 f7); (mo_w_Model_classOf hD  (fun r9 M8 f9 => (have g10 : Ow w D T _ M0 M8 := (Ow.trans g8 f9); (mf_ite (mo_w_Model_classLine_j144 hD n0 n1 lQ hQ lX hX g10) (mo_w_Model_classLine_j144 hD n0 n1 lQ hQ lX hX g10)))) g8.1))) (fun z12 f11 => hX z12 (Ow.dn lX (Ow.trans g6 f11))) g6.1))) (fun z14 f13 => hX z14 (Ow.dn lX (Ow.trans g4 f13))) g4.1))) (fun z16 f15 => hX z16 (Ow.dn lX (Ow.trans g2 f15))) g2.1))) (fun z18 f17 => hX z18 (Ow.dn lX (Ow.trans hf f17))) hf.1) (mo_w_Model_isWord hD  (fun r81 M80 f19 => (have g20 : Ow w D T _ M0 M80 := (Ow.trans hf f19); (mf_ite (mo_w_Model_isWord hD  (fun r84 M83 f21 => (have g22 : Ow w D T _ M0 M83 := (Ow.trans g20 f21); (mf_ite (mo_w_Model_isWord hD  (fun r87 M86 f23 => (have g24 : Ow w D T _ M0 M86 := (Ow.trans g22 f23); (mf_ite (mo_w_Model_classLine_j54 hD n0 lQ hQ lX hX (fun _ e => e) (fun y0 y1 y2  hf => mo_w_Model_classLine_L4 hD n0 n1 lQ hQ lX hX n y0 y1 y2  hf) g24) (mo_w_Model_classLine_j54 hD n0 lQ hQ lX hX (fun _ e => e) (fun y0 y1 y2  hf => mo_w_Model_classLine_L4 hD n0 n1 lQ hQ lX hX n y0 y1 y2  hf) g24)))) g22.1) (mo_w_Model_classLine_j54 hD n0 lQ hQ lX hX (fun _ e => e) (fun y0 y1 y2  hf => mo_w_Model_classLine_L4 hD n0 n1 lQ hQ lX hX n y0 y1 y2  hf) g22)))) g20.1) (mo_w_Model_classLine_j54 hD n0 lQ hQ lX hX (fun _ e => e) (fun y0 y1 y2  hf => mo_w_Model_classLine_L4 hD n0 n1 lQ hQ lX hX n y0 y1 y2  hf) g20)))) hf.1))
set_option maxRecDepth 20000 in
theorem mo_w_Model_classLine {w : Nat} {D : Nat → Nat → Prop} {T : Nat → Prop} {h : Hot} {this : Nat} {Q Q' : Mem → Prop} {X X' : Mem → Prop} {M : Mem} (hD : Dok w D) (n0 : ow w D 11 this) (n1 : h (11, this, 45) = true) (hQ : ∀ z0, Ow w D T h M z0 → Q z0 → Q' z0) (hX : ∀ z0, Ow w D T h M z0 → X z0 → X' z0) : St w D T h M → w_Model_classLine this Q X M → w_Model_classLine this Q' X' M := by
  intro hs
  unfold w_Model_classLine
  exact (Exists.imp fun n93 => (mo_w_Model_classLine_L4 hD n0 n1 (fun _ e => e) hQ (fun _ e => e) hX _ _ _ _  (Ow.rf hs)))
set_option maxRecDepth 20000 in
theorem mo_w_Model_fieldLine_j334 {w : Nat} {D : Nat → Nat → Prop} {T : Nat → Prop} {h : Hot} {this : Nat} {Q Q' : Mem → Prop} {h_Q : Hot} {X X' : Mem → Prop} {h_X : Hot} {v1 : Int32} {v3 : Int32} {v4 : Int32} {v5 : Int32} {v6 : Int32} {v7 : Int32} {v8 : Int32} {s0 : Int32} {s1 : Int32} {M : Mem} {M0 : Mem} (hD : Dok w D) (n0 : ow w D 11 this) (n1 : h (11, this, 45) = true) (lQ : ∀ t, h_Q t = true → h t = true) (hQ : ∀ z0, Ow w D T h_Q M0 z0 → Q z0 → Q' z0) (lX : ∀ t, h_X t = true → h t = true) (hX : ∀ z0, Ow w D T h_X M0 z0 → X z0 → X' z0) : Ow w D T h M0 M → w_Model_fieldLine_j334 this Q X v1 v3 v4 v5 v6 v7 v8 s0 s1 M → w_Model_fieldLine_j334 this Q' X' v1 v3 v4 v5 v6 v7 v8 s0 s1 M := by
  intro hf
  unfold w_Model_fieldLine_j334
  exact (mo_w_Model_asks hD n0 (fun M21 f1 => (have g2 : Ow w D T _ M0 M21 := (Ow.trans hf f1); (mf_ite (Exists.imp fun i23 => (mf_and fun e3 => (have o4 : ow w D 12 i23 := (Ow.rh e3 rfl n1 g2); (mf_and fun _ => (Exists.imp fun i25 => (mf_and fun e5 => (have o6 : ow w D 12 i25 := (Ow.rh e5 rfl n1 (Ow.wI (ow.to o4 rfl rfl) g2)); (mf_and fun _ => (Exists.imp fun M27 => (mf_and fun e7 => (have g8 : Ow w D T _ M0 M27 := Ow.of e7 (Ow.wI (ow.to o6 rfl rfl) (Ow.wI (ow.to o4 rfl rfl) g2)); (Exists.imp fun i28 => (mf_and fun e9 => (have o10 : ow w D 12 i28 := (Ow.rh e9 rfl n1 g8); (mf_and fun _ => (Exists.imp fun i30 => (mf_and fun e11 => (have o12 : ow w D 12 i30 := (Ow.rh e11 rfl n1 (Ow.wI (ow.to o10 rfl rfl) g8)); (mf_and fun _ => (Exists.imp fun M32 => (mf_and fun e13 => (have g14 : Ow w D T _ M0 M32 := Ow.of e13 (Ow.wI (ow.to o12 rfl rfl) (Ow.wI (ow.to o10 rfl rfl) g8)); (Exists.imp fun i33 => (mf_and fun e15 => (have o16 : ow w D 12 i33 := (Ow.rh e15 rfl n1 g14); (mf_and fun _ => (Exists.imp fun i35 => (mf_and fun e17 => (have o18 : ow w D 12 i35 := (Ow.rh e17 rfl n1 (Ow.wI (ow.to o16 rfl rfl) g14)); (mf_and fun _ => (Exists.imp fun M37 => (mf_and fun e19 => (have g20 : Ow w D T _ M0 M37 := Ow.of e19 (Ow.wI (ow.to o18 rfl rfl) (Ow.wI (ow.to o16 rfl rfl) g14)); (Exists.imp fun i38 => (mf_and fun e21 => (have o22 : ow w D 12 i38 := (Ow.rh e21 rfl n1 g20); (mf_and fun _ => (mf_and fun _ => (Exists.imp fun M41 => (mf_and fun e23 => (have g24 : Ow w D T _ M0 M41 := Ow.of e23 (Ow.wI (ow.to o22 rfl rfl) g20); (hQ _  (Ow.dn lQ g24))))))))))))))))))))))))))))))))))))))))))) (hQ _  (Ow.dn lQ g2))))) hf.1)
set_option maxRecDepth 20000 in
theorem mo_w_Model_fieldLine_j333 {w : Nat} {D : Nat → Nat → Prop} {T : Nat → Prop} {h : Hot} {this : Nat} {Q Q' : Mem → Prop} {h_Q : Hot} {X X' : Mem → Prop} {h_X : Hot} {v1 : Int32} {v3 : Int32} {v4 : Int32} {v5 : Int32} {v6 : Int32} {v7 : Int32} {v8 : Int32} {s0 : Int32} {M : Mem} {M0 : Mem} (hD : Dok w D) (n0 : ow w D 11 this) (n1 : h (11, this, 45) = true) (lQ : ∀ t, h_Q t = true → h t = true) (hQ : ∀ z0, Ow w D T h_Q M0 z0 → Q z0 → Q' z0) (lX : ∀ t, h_X t = true → h t = true) (hX : ∀ z0, Ow w D T h_X M0 z0 → X z0 → X' z0) : Ow w D T h M0 M → w_Model_fieldLine_j333 this Q X v1 v3 v4 v5 v6 v7 v8 s0 M → w_Model_fieldLine_j333 this Q' X' v1 v3 v4 v5 v6 v7 v8 s0 M := by
  intro hf
  unfold w_Model_fieldLine_j333
  exact (mo_w_Model_fieldLine_j334 hD n0 n1 lQ hQ lX hX hf)
set_option maxRecDepth 20000 in
theorem mo_w_Model_fieldLine_j329 {w : Nat} {D : Nat → Nat → Prop} {T : Nat → Prop} {h : Hot} {this : Nat} {Q Q' : Mem → Prop} {h_Q : Hot} {X X' : Mem → Prop} {h_X : Hot} {v1 : Int32} {v3 : Int32} {v4 : Int32} {v5 : Int32} {v6 : Int32} {v7 : Int32} {v8 : Int32} {s0 : Int32} {M : Mem} {M0 : Mem} (hD : Dok w D) (n0 : ow w D 11 this) (n1 : h (11, this, 45) = true) (lQ : ∀ t, h_Q t = true → h t = true) (hQ : ∀ z0, Ow w D T h_Q M0 z0 → Q z0 → Q' z0) (lX : ∀ t, h_X t = true → h t = true) (hX : ∀ z0, Ow w D T h_X M0 z0 → X z0 → X' z0) : Ow w D T h M0 M → w_Model_fieldLine_j329 this Q X v1 v3 v4 v5 v6 v7 v8 s0 M → w_Model_fieldLine_j329 this Q' X' v1 v3 v4 v5 v6 v7 v8 s0 M := by
  intro hf
  unfold w_Model_fieldLine_j329
  exact (mo_w_Model_fieldLine_j334 hD n0 n1 lQ hQ lX hX hf)
set_option maxRecDepth 20000 in
theorem mo_w_Model_fieldLine_j306 {w : Nat} {D : Nat → Nat → Prop} {T : Nat → Prop} {h : Hot} {this : Nat} {Q Q' : Mem → Prop} {h_Q : Hot} {X X' : Mem → Prop} {h_X : Hot} {v1 : Int32} {v3 : Int32} {v4 : Int32} {v5 : Int32} {v6 : Int32} {v7 : Int32} {v8 : Int32} {s0 : Int32} {s1 : Int32} {M : Mem} {M0 : Mem} (hD : Dok w D) (n0 : ow w D 11 this) (n1 : h (11, this, 45) = true) (lQ : ∀ t, h_Q t = true → h t = true) (hQ : ∀ z0, Ow w D T h_Q M0 z0 → Q z0 → Q' z0) (lX : ∀ t, h_X t = true → h t = true) (hX : ∀ z0, Ow w D T h_X M0 z0 → X z0 → X' z0) : Ow w D T h M0 M → w_Model_fieldLine_j306 this Q X v1 v3 v4 v5 v6 v7 v8 s0 s1 M → w_Model_fieldLine_j306 this Q' X' v1 v3 v4 v5 v6 v7 v8 s0 s1 M := by
  intro hf
  unfold w_Model_fieldLine_j306
  exact (mo_w_Model_asks hD n0 (fun M19 f1 => (have g2 : Ow w D T _ M0 M19 := (Ow.trans hf f1); (mf_ite (mo_w_Model_fieldLine_j333 hD n0 n1 lQ hQ lX hX g2) (mf_ite (mo_w_Model_fieldLine_j329 hD n0 n1 lQ hQ lX hX g2) (mf_ite (mo_w_Model_fieldLine_j333 hD n0 n1 lQ hQ lX hX g2) (mo_w_Model_fieldLine_j329 hD n0 n1 lQ hQ lX hX g2)))))) hf.1)
set_option maxRecDepth 20000 in
theorem mo_w_Model_fieldLine_j288 {w : Nat} {D : Nat → Nat → Prop} {T : Nat → Prop} {h : Hot} {this : Nat} {Q Q' : Mem → Prop} {h_Q : Hot} {X X' : Mem → Prop} {h_X : Hot} {v1 : Int32} {v3 : Int32} {v4 : Int32} {v5 : Int32} {v6 : Int32} {v7 : Int32} {v8 : Int32} {s0 : Int32} {s1 : Int32} {M : Mem} {M0 : Mem} (hD : Dok w D) (n0 : ow w D 11 this) (n1 : h (11, this, 45) = true) (lQ : ∀ t, h_Q t = true → h t = true) (hQ : ∀ z0, Ow w D T h_Q M0 z0 → Q z0 → Q' z0) (lX : ∀ t, h_X t = true → h t = true) (hX : ∀ z0, Ow w D T h_X M0 z0 → X z0 → X' z0) : Ow w D T h M0 M → w_Model_fieldLine_j288 this Q X v1 v3 v4 v5 v6 v7 v8 s0 s1 M → w_Model_fieldLine_j288 this Q' X' v1 v3 v4 v5 v6 v7 v8 s0 s1 M := by
  intro hf
  unfold w_Model_fieldLine_j288
  exact (mo_w_Model_asks hD n0 (fun M17 f1 => (have g2 : Ow w D T _ M0 M17 := (Ow.trans hf f1); (mf_ite (mo_w_Model_fieldLine_j306 hD n0 n1 lQ hQ lX hX g2) (mo_w_Model_fieldLine_j306 hD n0 n1 lQ hQ lX hX g2)))) hf.1)
set_option maxRecDepth 20000 in
theorem mo_w_Model_fieldLine_j287 {w : Nat} {D : Nat → Nat → Prop} {T : Nat → Prop} {h : Hot} {this : Nat} {Q Q' : Mem → Prop} {h_Q : Hot} {X X' : Mem → Prop} {h_X : Hot} {v1 : Int32} {v3 : Int32} {v4 : Int32} {v5 : Int32} {v6 : Int32} {v7 : Int32} {v8 : Int32} {s0 : Int32} {M : Mem} {M0 : Mem} (hD : Dok w D) (n0 : ow w D 11 this) (n1 : h (11, this, 45) = true) (lQ : ∀ t, h_Q t = true → h t = true) (hQ : ∀ z0, Ow w D T h_Q M0 z0 → Q z0 → Q' z0) (lX : ∀ t, h_X t = true → h t = true) (hX : ∀ z0, Ow w D T h_X M0 z0 → X z0 → X' z0) : Ow w D T h M0 M → w_Model_fieldLine_j287 this Q X v1 v3 v4 v5 v6 v7 v8 s0 M → w_Model_fieldLine_j287 this Q' X' v1 v3 v4 v5 v6 v7 v8 s0 M := by
  intro hf
  unfold w_Model_fieldLine_j287
  exact (mo_w_Model_fieldLine_j288 hD n0 n1 lQ hQ lX hX hf)
set_option maxRecDepth 20000 in
theorem mo_w_Model_fieldLine_j259 {w : Nat} {D : Nat → Nat → Prop} {T : Nat → Prop} {h : Hot} {this : Nat} {Q Q' : Mem → Prop} {h_Q : Hot} {X X' : Mem → Prop} {h_X : Hot} {v1 : Int32} {v3 : Int32} {v4 : Int32} {v5 : Int32} {v6 : Int32} {v7 : Int32} {v8 : Int32} {s0 : Int32} {M : Mem} {M0 : Mem} (hD : Dok w D) (n0 : ow w D 11 this) (n1 : h (11, this, 45) = true) (lQ : ∀ t, h_Q t = true → h t = true) (hQ : ∀ z0, Ow w D T h_Q M0 z0 → Q z0 → Q' z0) (lX : ∀ t, h_X t = true → h t = true) (hX : ∀ z0, Ow w D T h_X M0 z0 → X z0 → X' z0) : Ow w D T h M0 M → w_Model_fieldLine_j259 this Q X v1 v3 v4 v5 v6 v7 v8 s0 M → w_Model_fieldLine_j259 this Q' X' v1 v3 v4 v5 v6 v7 v8 s0 M := by
  intro hf
  unfold w_Model_fieldLine_j259
  exact (mf_ite (mo_w_Model_fieldLine_j287 hD n0 n1 lQ hQ lX hX hf) (mo_w_Model_isOff hD  (fun r45 M44 f1 => (have g2 : Ow w D T _ M0 M44 := (Ow.trans hf f1); (mf_ite (mf_ite (mo_w_Model_fieldLine_j287 hD n0 n1 lQ hQ lX hX g2) (mo_w_Model_fieldLine_j288 hD n0 n1 lQ hQ lX hX g2)) (mo_w_Model_fieldLine_j287 hD n0 n1 lQ hQ lX hX g2)))) hf.1))
set_option maxRecDepth 20000 in
theorem mo_w_Model_fieldLine_j228 {w : Nat} {D : Nat → Nat → Prop} {T : Nat → Prop} {h : Hot} {this : Nat} {Q Q' : Mem → Prop} {h_Q : Hot} {X X' : Mem → Prop} {h_X : Hot} {k197 k197' : Int32 → Int32 → Int32 → Int32 → Int32 → Int32 → Int32 → Int32 → Mem → Prop} {h_k197 : Hot} {v1 : Int32} {v3 : Int32} {v4 : Int32} {v5 : Int32} {v6 : Int32} {v7 : Int32} {v8 : Int32} {v9 : Int32} {s0 : Int32} {s1 : Int32} {M : Mem} {M0 : Mem} (hD : Dok w D) (n0 : ow w D 11 this) (lQ : ∀ t, h_Q t = true → h t = true) (hQ : ∀ z0, Ow w D T h_Q M0 z0 → Q z0 → Q' z0) (lX : ∀ t, h_X t = true → h t = true) (hX : ∀ z0, Ow w D T h_X M0 z0 → X z0 → X' z0) (lk197 : ∀ t, h_k197 t = true → h t = true) (hk197 : ∀ z0 z1 z2 z3 z4 z5 z6 z7 z8, Ow w D T h_k197 M0 z8 → k197 z0 z1 z2 z3 z4 z5 z6 z7 z8 → k197' z0 z1 z2 z3 z4 z5 z6 z7 z8) : Ow w D T h M0 M → w_Model_fieldLine_j228 this Q X k197 v1 v3 v4 v5 v6 v7 v8 v9 s0 s1 M → w_Model_fieldLine_j228 this Q' X' k197' v1 v3 v4 v5 v6 v7 v8 v9 s0 s1 M := by
  intro hf
  unfold w_Model_fieldLine_j228
  exact (mo_w_Model_asks hD n0 (fun M51 f1 => (have g2 : Ow w D T _ M0 M51 := (Ow.trans hf f1); (hk197 _ _ _ _ _ _ _ _ _  (Ow.dn lk197 g2)))) hf.1)
set_option maxRecDepth 20000 in
theorem mo_w_Model_fieldLine_L197 {w : Nat} {D : Nat → Nat → Prop} {T : Nat → Prop} {h : Hot} {this : Nat} {Q Q' : Mem → Prop} {h_Q : Hot} {X X' : Mem → Prop} {h_X : Hot} {M0 : Mem} (hD : Dok w D) (n0 : ow w D 11 this) (n1 : h (11, this, 45) = true) (lQ : ∀ t, h_Q t = true → h t = true) (hQ : ∀ z0, Ow w D T h_Q M0 z0 → Q z0 → Q' z0) (lX : ∀ t, h_X t = true → h t = true) (hX : ∀ z0, Ow w D T h_X M0 z0 → X z0 → X' z0) : ∀ (n : Nat) (v1 : Int32) (v3 : Int32) (v4 : Int32) (v5 : Int32) (v6 : Int32) (v7 : Int32) (v8 : Int32) (v9 : Int32) (M : Mem), Ow w D T h M0 M → w_Model_fieldLine_L197 this Q X n v1 v3 v4 v5 v6 v7 v8 v9 M → w_Model_fieldLine_L197 this Q' X' n v1 v3 v4 v5 v6 v7 v8 v9 M
  | 0, _, _, _, _, _, _, _, _, _ => fun  _ h => h
  | n + 1, v1, v3, v4, v5, v6, v7, v8, v9, M => fun  hf => by
    unfold w_Model_fieldLine_L197
    exact (mf_ite (Exists.imp fun i13 => (mf_and fun e1 => (mf_and fun _ => (mf_ite (mo_w_Model_fieldLine_j259 hD n0 n1 lQ hQ lX hX hf) (mo_w_Model_fieldLine_j259 hD n0 n1 lQ hQ lX hX hf))))) (Exists.imp fun i48 => (mf_and fun e3 => (mf_and fun _ => (mf_ite (mo_w_Model_fieldLine_j228 hD n0 lQ hQ lX hX (fun _ e => e) (fun y0 y1 y2 y3 y4 y5 y6 y7 y8  hf => mo_w_Model_fieldLine_L197 hD n0 n1 lQ hQ lX hX n y0 y1 y2 y3 y4 y5 y6 y7 y8  hf) hf) (mo_w_Model_fieldLine_j228 hD n0 lQ hQ lX hX (fun _ e => e) (fun y0 y1 y2 y3 y4 y5 y6 y7 y8  hf => mo_w_Model_fieldLine_L197 hD n0 n1 lQ hQ lX hX n y0 y1 y2 y3 y4 y5 y6 y7 y8  hf) hf))))))
set_option maxRecDepth 20000 in
theorem mo_w_Model_fieldLine_j166 {w : Nat} {D : Nat → Nat → Prop} {T : Nat → Prop} {h : Hot} {this : Nat} {Q Q' : Mem → Prop} {h_Q : Hot} {X X' : Mem → Prop} {h_X : Hot} {v1 : Int32} {v3 : Int32} {v4 : Int32} {v5 : Int32} {v6 : Int32} {M : Mem} {M0 : Mem} (hD : Dok w D) (n0 : ow w D 11 this) (n1 : h (11, this, 45) = true) (lQ : ∀ t, h_Q t = true → h t = true) (hQ : ∀ z0, Ow w D T h_Q M0 z0 → Q z0 → Q' z0) (lX : ∀ t, h_X t = true → h t = true) (hX : ∀ z0, Ow w D T h_X M0 z0 → X z0 → X' z0) : Ow w D T h M0 M → w_Model_fieldLine_j166 this Q X v1 v3 v4 v5 v6 M → w_Model_fieldLine_j166 this Q' X' v1 v3 v4 v5 v6 M := by
  intro hf
  unfold w_Model_fieldLine_j166
  exact (mo_w_Model_need hD n0 (fun M9 f1 => (have g2 : Ow w D T _ M0 M9 := (Ow.trans hf f1); (Exists.imp fun i10 => (mf_and fun e3 => (mf_and fun _ => (Exists.imp fun n52 => (mo_w_Model_fieldLine_L197 hD n0 n1 lQ hQ lX hX _ _ _ _ _ _ _ _ _ _  g2))))))) (fun z6 f5 => hX z6 (Ow.dn lX (Ow.trans hf f5))) hf.1)
set_option maxRecDepth 20000 in
theorem mo_w_Model_fieldLine_j134 {w : Nat} {D : Nat → Nat → Prop} {T : Nat → Prop} {h : Hot} {this : Nat} {Q Q' : Mem → Prop} {h_Q : Hot} {X X' : Mem → Prop} {h_X : Hot} {v1 : Int32} {v3 : Int32} {v4 : Int32} {s0 : Int32} {M : Mem} {M0 : Mem} (hD : Dok w D) (n0 : ow w D 11 this) (n1 : h (11, this, 45) = true) (lQ : ∀ t, h_Q t = true → h t = true) (hQ : ∀ z0, Ow w D T h_Q M0 z0 → Q z0 → Q' z0) (lX : ∀ t, h_X t = true → h t = true) (hX : ∀ z0, Ow w D T h_X M0 z0 → X z0 → X' z0) : Ow w D T h M0 M → w_Model_fieldLine_j134 this Q X v1 v3 v4 s0 M → w_Model_fieldLine_j134 this Q' X' v1 v3 v4 s0 M := by
  intro hf
  unfold w_Model_fieldLine_j134
  exact (mf_ite (mo_w_Model_fieldLine_j166 hD n0 n1 lQ hQ lX hX hf) (have g1 : Ow w D T _ M0 (sI M 11 this 43 ((mI M 11 this 43) + (1 : Int32))) := (Ow.wI n0 hf); (mo_w_Model_numberIn hD n0 (fun r54 M53 f2 => (have g3 : Ow w D T _ M0 M53 := (Ow.trans g1 f2); (mo_w_Model_fieldLine_j166 hD n0 n1 lQ hQ lX hX g3))) (fun z5 f4 => hX z5 (Ow.dn lX (Ow.trans g1 f4))) g1.1)))
set_option maxRecDepth 20000 in
theorem mo_w_Model_fieldLine_j97 {w : Nat} {D : Nat → Nat → Prop} {T : Nat → Prop} {h : Hot} {this : Nat} {Q Q' : Mem → Prop} {h_Q : Hot} {X X' : Mem → Prop} {h_X : Hot} {k4 k4' : Int32 → Int32 → Mem → Prop} {h_k4 : Hot} {v1 : Int32} {v2 : Int32} {s0 : Int32} {s1 : Int32} {M : Mem} {M0 : Mem} (hD : Dok w D) (n0 : ow w D 11 this) (lQ : ∀ t, h_Q t = true → h t = true) (hQ : ∀ z0, Ow w D T h_Q M0 z0 → Q z0 → Q' z0) (lX : ∀ t, h_X t = true → h t = true) (hX : ∀ z0, Ow w D T h_X M0 z0 → X z0 → X' z0) (lk4 : ∀ t, h_k4 t = true → h t = true) (hk4 : ∀ z0 z1 z2, Ow w D T h_k4 M0 z2 → k4 z0 z1 z2 → k4' z0 z1 z2) : Ow w D T h M0 M → w_Model_fieldLine_j97 this Q X k4 v1 v2 s0 s1 M → w_Model_fieldLine_j97 this Q' X' k4' v1 v2 s0 s1 M := by
  intro hf
  unfold w_Model_fieldLine_j97
  exact (hk4 _ _ _  (Ow.dn lk4 (Ow.wI n0 hf)))
set_option maxRecDepth 20000 in
theorem mo_w_Model_fieldLine_j81 {w : Nat} {D : Nat → Nat → Prop} {T : Nat → Prop} {h : Hot} {this : Nat} {Q Q' : Mem → Prop} {h_Q : Hot} {X X' : Mem → Prop} {h_X : Hot} {k4 k4' : Int32 → Int32 → Mem → Prop} {h_k4 : Hot} {v2 : Int32} {s0 : Int32} {s1 : Int32} {M : Mem} {M0 : Mem} (hD : Dok w D) (n0 : ow w D 11 this) (lQ : ∀ t, h_Q t = true → h t = true) (hQ : ∀ z0, Ow w D T h_Q M0 z0 → Q z0 → Q' z0) (lX : ∀ t, h_X t = true → h t = true) (hX : ∀ z0, Ow w D T h_X M0 z0 → X z0 → X' z0) (lk4 : ∀ t, h_k4 t = true → h t = true) (hk4 : ∀ z0 z1 z2, Ow w D T h_k4 M0 z2 → k4 z0 z1 z2 → k4' z0 z1 z2) : Ow w D T h M0 M → w_Model_fieldLine_j81 this Q X k4 v2 s0 s1 M → w_Model_fieldLine_j81 this Q' X' k4' v2 s0 s1 M := by
  intro hf
  unfold w_Model_fieldLine_j81
  exact (mf_ite (mo_w_Model_fieldLine_j97 hD n0 lQ hQ lX hX lk4 hk4 hf) (mo_w_Model_fieldLine_j97 hD n0 lQ hQ lX hX lk4 hk4 hf))
set_option maxRecDepth 20000 in
theorem mo_w_Model_fieldLine_j70 {w : Nat} {D : Nat → Nat → Prop} {T : Nat → Prop} {h : Hot} {this : Nat} {Q Q' : Mem → Prop} {h_Q : Hot} {X X' : Mem → Prop} {h_X : Hot} {k4 k4' : Int32 → Int32 → Mem → Prop} {h_k4 : Hot} {v1 : Int32} {v3 : Int32} {s0 : Int32} {M : Mem} {M0 : Mem} (hD : Dok w D) (n0 : ow w D 11 this) (lQ : ∀ t, h_Q t = true → h t = true) (hQ : ∀ z0, Ow w D T h_Q M0 z0 → Q z0 → Q' z0) (lX : ∀ t, h_X t = true → h t = true) (hX : ∀ z0, Ow w D T h_X M0 z0 → X z0 → X' z0) (lk4 : ∀ t, h_k4 t = true → h t = true) (hk4 : ∀ z0 z1 z2, Ow w D T h_k4 M0 z2 → k4 z0 z1 z2 → k4' z0 z1 z2) : Ow w D T h M0 M → w_Model_fieldLine_j70 this Q X k4 v1 v3 s0 M → w_Model_fieldLine_j70 this Q' X' k4' v1 v3 s0 M := by
  intro hf
  unfold w_Model_fieldLine_j70
  exact (mf_ite (mo_w_Model_fieldLine_j81 hD n0 lQ hQ lX hX lk4 hk4 hf) (mo_w_Model_fieldLine_j81 hD n0 lQ hQ lX hX lk4 hk4 hf))
set_option maxRecDepth 20000 in
theorem mo_w_Model_fieldLine_j69 {w : Nat} {D : Nat → Nat → Prop} {T : Nat → Prop} {h : Hot} {this : Nat} {Q Q' : Mem → Prop} {h_Q : Hot} {X X' : Mem → Prop} {h_X : Hot} {k4 k4' : Int32 → Int32 → Mem → Prop} {h_k4 : Hot} {v1 : Int32} {v3 : Int32} {M : Mem} {M0 : Mem} (hD : Dok w D) (n0 : ow w D 11 this) (lQ : ∀ t, h_Q t = true → h t = true) (hQ : ∀ z0, Ow w D T h_Q M0 z0 → Q z0 → Q' z0) (lX : ∀ t, h_X t = true → h t = true) (hX : ∀ z0, Ow w D T h_X M0 z0 → X z0 → X' z0) (lk4 : ∀ t, h_k4 t = true → h t = true) (hk4 : ∀ z0 z1 z2, Ow w D T h_k4 M0 z2 → k4 z0 z1 z2 → k4' z0 z1 z2) : Ow w D T h M0 M → w_Model_fieldLine_j69 this Q X k4 v1 v3 M → w_Model_fieldLine_j69 this Q' X' k4' v1 v3 M := by
  intro hf
  unfold w_Model_fieldLine_j69
  exact (mo_w_Model_fieldLine_j70 hD n0 lQ hQ lX hX lk4 hk4 hf)
set_option maxRecDepth 20000 in
theorem mo_w_Model_fieldLine_j54 {w : Nat} {D : Nat → Nat → Prop} {T : Nat → Prop} {h : Hot} {this : Nat} {Q Q' : Mem → Prop} {h_Q : Hot} {X X' : Mem → Prop} {h_X : Hot} {k4 k4' : Int32 → Int32 → Mem → Prop} {h_k4 : Hot} {v1 : Int32} {s0 : Int32} {M : Mem} {M0 : Mem} (hD : Dok w D) (n0 : ow w D 11 this) (lQ : ∀ t, h_Q t = true → h t = true) (hQ : ∀ z0, Ow w D T h_Q M0 z0 → Q z0 → Q' z0) (lX : ∀ t, h_X t = true → h t = true) (hX : ∀ z0, Ow w D T h_X M0 z0 → X z0 → X' z0) (lk4 : ∀ t, h_k4 t = true → h t = true) (hk4 : ∀ z0 z1 z2, Ow w D T h_k4 M0 z2 → k4 z0 z1 z2 → k4' z0 z1 z2) : Ow w D T h M0 M → w_Model_fieldLine_j54 this Q X k4 v1 s0 M → w_Model_fieldLine_j54 this Q' X' k4' v1 s0 M := by
  intro hf
  unfold w_Model_fieldLine_j54
  exact (mf_ite (mo_w_Model_fieldLine_j69 hD n0 lQ hQ lX hX lk4 hk4 hf) (mf_ite (mo_w_Model_fieldLine_j70 hD n0 lQ hQ lX hX lk4 hk4 hf) (mo_w_Model_fieldLine_j69 hD n0 lQ hQ lX hX lk4 hk4 hf)))
set_option maxRecDepth 20000 in
theorem mo_w_Model_fieldLine_L4 {w : Nat} {D : Nat → Nat → Prop} {T : Nat → Prop} {h : Hot} {this : Nat} {Q Q' : Mem → Prop} {h_Q : Hot} {X X' : Mem → Prop} {h_X : Hot} {M0 : Mem} (hD : Dok w D) (n0 : ow w D 11 this) (n1 : h (11, this, 45) = true) (lQ : ∀ t, h_Q t = true → h t = true) (hQ : ∀ z0, Ow w D T h_Q M0 z0 → Q z0 → Q' z0) (lX : ∀ t, h_X t = true → h t = true) (hX : ∀ z0, Ow w D T h_X M0 z0 → X z0 → X' z0) : ∀ (n : Nat) (v1 : Int32) (v2 : Int32) (M : Mem), Ow w D T h M0 M → w_Model_fieldLine_L4 this Q X n v1 v2 M → w_Model_fieldLine_L4 this Q' X' n v1 v2 M
  | 0, _, _, _ => fun  _ h => h
  | n + 1, v1, v2, M => fun  hf => by
    unfold w_Model_fieldLine_L4
    exact (mf_ite (mo_w_Model_plainName hD n0 (fun r3 M2 f1 => (have g2 : Ow w D T _ M0 M2 := (Ow.trans hf f1); (mo_w_Model_type hD n0 (fun r5 M4 f3 => (have g4 : Ow w D T _ M0 M4 := (Ow.trans g2 f3); (mf_and fun _ => (mf_ite (mo_w_Model_fieldLine_j134 hD n0 n1 lQ hQ lX hX g4) (mo_w_Model_fieldLine_j134 hD n0 n1 lQ hQ lX hX g4))))) (fun z6 f5 => hX z6 (Ow.dn lX (Ow.trans g2 f5))) g2.1))) (fun z8 f7 => hX z8 (Ow.dn lX (Ow.trans hf f7))) hf.1) (mo_w_Model_isWord hD  (fun r56 M55 f9 => (have g10 : Ow w D T _ M0 M55 := (Ow.trans hf f9); (mf_ite (mo_w_Model_isWord hD  (fun r59 M58 f11 => (have g12 : Ow w D T _ M0 M58 := (Ow.trans g10 f11); (mf_ite (mo_w_Model_isWord hD  (fun r62 M61 f13 => (have g14 : Ow w D T _ M0 M61 := (Ow.trans g12 f13); (mf_ite (mo_w_Model_fieldLine_j54 hD n0 lQ hQ lX hX (fun _ e => e) (fun y0 y1 y2  hf => mo_w_Model_fieldLine_L4 hD n0 n1 lQ hQ lX hX n y0 y1 y2  hf) g14) (mo_w_Model_fieldLine_j54 hD n0 lQ hQ lX hX (fun _ e => e) (fun y0 y1 y2  hf => mo_w_Model_fieldLine_L4 hD n0 n1 lQ hQ lX hX n y0 y1 y2  hf) g14)))) g12.1) (mo_w_Model_fieldLine_j54 hD n0 lQ hQ lX hX (fun _ e => e) (fun y0 y1 y2  hf => mo_w_Model_fieldLine_L4 hD n0 n1 lQ hQ lX hX n y0 y1 y2  hf) g12)))) g10.1) (mo_w_Model_fieldLine_j54 hD n0 lQ hQ lX hX (fun _ e => e) (fun y0 y1 y2  hf => mo_w_Model_fieldLine_L4 hD n0 n1 lQ hQ lX hX n y0 y1 y2  hf) g10)))) hf.1))
set_option maxRecDepth 20000 in
theorem mo_w_Model_fieldLine {w : Nat} {D : Nat → Nat → Prop} {T : Nat → Prop} {h : Hot} {this : Nat} {Q Q' : Mem → Prop} {X X' : Mem → Prop} {M : Mem} (hD : Dok w D) (n0 : ow w D 11 this) (n1 : h (11, this, 45) = true) (hQ : ∀ z0, Ow w D T h M z0 → Q z0 → Q' z0) (hX : ∀ z0, Ow w D T h M z0 → X z0 → X' z0) : St w D T h M → w_Model_fieldLine this Q X M → w_Model_fieldLine this Q' X' M := by
  intro hs
  unfold w_Model_fieldLine
  exact (Exists.imp fun n68 => (mo_w_Model_fieldLine_L4 hD n0 n1 (fun _ e => e) hQ (fun _ e => e) hX _ _ _ _  (Ow.rf hs)))
set_option maxRecDepth 20000 in
theorem mo_w_Model_methodLine_j691 {w : Nat} {D : Nat → Nat → Prop} {T : Nat → Prop} {h : Hot} {this : Nat} {Q Q' : Mem → Prop} {h_Q : Hot} {X X' : Mem → Prop} {h_X : Hot} {s0 : Int32} {M : Mem} {M0 : Mem} (hD : Dok w D) (n0 : ow w D 11 this) (lQ : ∀ t, h_Q t = true → h t = true) (hQ : ∀ z0, Ow w D T h_Q M0 z0 → Q z0 → Q' z0) (lX : ∀ t, h_X t = true → h t = true) (hX : ∀ z0, Ow w D T h_X M0 z0 → X z0 → X' z0) : Ow w D T h M0 M → w_Model_methodLine_j691 this Q X s0 M → w_Model_methodLine_j691 this Q' X' s0 M := by
  intro hf
  unfold w_Model_methodLine_j691
  exact (hQ _  (Ow.dn lQ (Ow.wI n0 hf)))
set_option maxRecDepth 20000 in
theorem mo_w_Model_methodLine_j516 {w : Nat} {D : Nat → Nat → Prop} {T : Nat → Prop} {h : Hot} {this : Nat} {Q Q' : Mem → Prop} {h_Q : Hot} {X X' : Mem → Prop} {h_X : Hot} {v1 : Int32} {v3 : Int32} {v4 : Int32} {v5 : Int32} {v6 : Int32} {v8 : Int32} {s0 : Int32} {s1 : Int32} {M : Mem} {M0 : Mem} (hD : Dok w D) (n0 : ow w D 11 this) (n1 : h (11, this, 45) = true) (lQ : ∀ t, h_Q t = true → h t = true) (hQ : ∀ z0, Ow w D T h_Q M0 z0 → Q z0 → Q' z0) (lX : ∀ t, h_X t = true → h t = true) (hX : ∀ z0, Ow w D T h_X M0 z0 → X z0 → X' z0) : Ow w D T h M0 M → w_Model_methodLine_j516 this Q X v1 v3 v4 v5 v6 v8 s0 s1 M → w_Model_methodLine_j516 this Q' X' v1 v3 v4 v5 v6 v8 s0 s1 M := by
  intro hf
  unfold w_Model_methodLine_j516
  exact (mo_w_Model_asks hD n0 (fun M31 f1 => (have g2 : Ow w D T _ M0 M31 := (Ow.trans hf f1); (mf_ite (Exists.imp fun i33 => (mf_and fun e3 => (have o4 : ow w D 12 i33 := (Ow.rh e3 rfl n1 (Ow.wI n0 g2)); (mf_and fun _ => (Exists.imp fun M35 => (mf_and fun e5 => (have g6 : Ow w D T _ M0 M35 := Ow.of e5 (Ow.wI (ow.to o4 rfl rfl) (Ow.wI n0 g2)); (Exists.imp fun i36 => (mf_and fun e7 => (have o8 : ow w D 12 i36 := (Ow.rh e7 rfl n1 g6); (mf_and fun _ => (Exists.imp fun i38 => (mf_and fun e9 => (have o10 : ow w D 12 i38 := (Ow.rh e9 rfl n1 (Ow.wI (ow.to o8 rfl rfl) g6)); (mf_and fun _ => (Exists.imp fun M40 => (mf_and fun e11 => (have g12 : Ow w D T _ M0 M40 := Ow.of e11 (Ow.wI (ow.to o10 rfl rfl) (Ow.wI (ow.to o8 rfl rfl) g6)); (Exists.imp fun i41 => (mf_and fun e13 => (have o14 : ow w D 12 i41 := (Ow.rh e13 rfl n1 g12); (mf_and fun _ => (Exists.imp fun i43 => (mf_and fun e15 => (have o16 : ow w D 12 i43 := (Ow.rh e15 rfl n1 (Ow.wI (ow.to o14 rfl rfl) g12)); (mf_and fun _ => (Exists.imp fun M45 => (mf_and fun e17 => (have g18 : Ow w D T _ M0 M45 := Ow.of e17 (Ow.wI (ow.to o16 rfl rfl) (Ow.wI (ow.to o14 rfl rfl) g12)); (Exists.imp fun i46 => (mf_and fun e19 => (have o20 : ow w D 12 i46 := (Ow.rh e19 rfl n1 g18); (Exists.imp fun i47 => (mf_and fun e21 => (mf_and fun _ => (Exists.imp fun i49 => (mf_and fun e23 => (have o24 : ow w D 12 i49 := (Ow.rh e23 rfl n1 (Ow.wI (ow.to o20 rfl rfl) g18)); (mf_and fun _ => (Exists.imp fun M51 => (mf_and fun e25 => (have g26 : Ow w D T _ M0 M51 := Ow.of e25 (Ow.wI (ow.to o24 rfl rfl) (Ow.wI (ow.to o20 rfl rfl) g18)); (Exists.imp fun i52 => (mf_and fun e27 => (have o28 : ow w D 12 i52 := (Ow.rh e27 rfl n1 g26); (mf_and fun _ => (Exists.imp fun i54 => (mf_and fun e29 => (have o30 : ow w D 12 i54 := (Ow.rh e29 rfl n1 (Ow.wI (ow.to o28 rfl rfl) g26)); (mf_and fun _ => (mf_and fun _ => (Exists.imp fun M57 => (mf_and fun e31 => (have g32 : Ow w D T _ M0 M57 := Ow.of e31 (Ow.wI (ow.to o30 rfl rfl) (Ow.wI (ow.to o28 rfl rfl) g26)); (Exists.imp fun M58 => (mf_and fun e33 => (have g34 : Ow w D T _ M0 M58 := Ow.of e33 (Ow.wI n0 (Ow.wI n0 (Ow.wI n0 g32))); (mf_ite (mo_w_Model_methodLine_j691 hD n0 lQ hQ lX hX g34) (mo_w_Model_methodLine_j691 hD n0 lQ hQ lX hX g34))))))))))))))))))))))))))))))))))))))))))))))))))))))))))) (hQ _  (Ow.dn lQ g2))))) hf.1)
set_option maxRecDepth 20000 in
theorem mo_w_Model_methodLine_j511 {w : Nat} {D : Nat → Nat → Prop} {T : Nat → Prop} {h : Hot} {this : Nat} {Q Q' : Mem → Prop} {h_Q : Hot} {X X' : Mem → Prop} {h_X : Hot} {v1 : Int32} {v3 : Int32} {v4 : Int32} {v5 : Int32} {v6 : Int32} {v8 : Int32} {s0 : Int32} {M : Mem} {M0 : Mem} (hD : Dok w D) (n0 : ow w D 11 this) (n1 : h (11, this, 45) = true) (lQ : ∀ t, h_Q t = true → h t = true) (hQ : ∀ z0, Ow w D T h_Q M0 z0 → Q z0 → Q' z0) (lX : ∀ t, h_X t = true → h t = true) (hX : ∀ z0, Ow w D T h_X M0 z0 → X z0 → X' z0) : Ow w D T h M0 M → w_Model_methodLine_j511 this Q X v1 v3 v4 v5 v6 v8 s0 M → w_Model_methodLine_j511 this Q' X' v1 v3 v4 v5 v6 v8 s0 M := by
  intro hf
  unfold w_Model_methodLine_j511
  exact (mo_w_Model_methodLine_j516 hD n0 n1 lQ hQ lX hX hf)
set_option maxRecDepth 20000 in
theorem mo_w_Model_methodLine_j486 {w : Nat} {D : Nat → Nat → Prop} {T : Nat → Prop} {h : Hot} {this : Nat} {Q Q' : Mem → Prop} {h_Q : Hot} {X X' : Mem → Prop} {h_X : Hot} {v1 : Int32} {v3 : Int32} {v4 : Int32} {v5 : Int32} {v6 : Int32} {v8 : Int32} {s0 : Int32} {s1 : Int32} {M : Mem} {M0 : Mem} (hD : Dok w D) (n0 : ow w D 11 this) (n1 : h (11, this, 45) = true) (lQ : ∀ t, h_Q t = true → h t = true) (hQ : ∀ z0, Ow w D T h_Q M0 z0 → Q z0 → Q' z0) (lX : ∀ t, h_X t = true → h t = true) (hX : ∀ z0, Ow w D T h_X M0 z0 → X z0 → X' z0) : Ow w D T h M0 M → w_Model_methodLine_j486 this Q X v1 v3 v4 v5 v6 v8 s0 s1 M → w_Model_methodLine_j486 this Q' X' v1 v3 v4 v5 v6 v8 s0 s1 M := by
  intro hf
  unfold w_Model_methodLine_j486
  exact (mo_w_Model_asks hD n0 (fun M29 f1 => (have g2 : Ow w D T _ M0 M29 := (Ow.trans hf f1); (mf_ite (mo_w_Model_methodLine_j511 hD n0 n1 lQ hQ lX hX g2) (Exists.imp fun i60 => (mf_and fun e3 => (mf_and fun _ => (mf_ite (mo_w_Model_methodLine_j516 hD n0 n1 lQ hQ lX hX g2) (mo_w_Model_methodLine_j511 hD n0 n1 lQ hQ lX hX g2)))))))) hf.1)
set_option maxRecDepth 20000 in
theorem mo_w_Model_methodLine_j481 {w : Nat} {D : Nat → Nat → Prop} {T : Nat → Prop} {h : Hot} {this : Nat} {Q Q' : Mem → Prop} {h_Q : Hot} {X X' : Mem → Prop} {h_X : Hot} {v1 : Int32} {v3 : Int32} {v4 : Int32} {v5 : Int32} {v6 : Int32} {v8 : Int32} {s0 : Int32} {M : Mem} {M0 : Mem} (hD : Dok w D) (n0 : ow w D 11 this) (n1 : h (11, this, 45) = true) (lQ : ∀ t, h_Q t = true → h t = true) (hQ : ∀ z0, Ow w D T h_Q M0 z0 → Q z0 → Q' z0) (lX : ∀ t, h_X t = true → h t = true) (hX : ∀ z0, Ow w D T h_X M0 z0 → X z0 → X' z0) : Ow w D T h M0 M → w_Model_methodLine_j481 this Q X v1 v3 v4 v5 v6 v8 s0 M → w_Model_methodLine_j481 this Q' X' v1 v3 v4 v5 v6 v8 s0 M := by
  intro hf
  unfold w_Model_methodLine_j481
  exact (mo_w_Model_methodLine_j486 hD n0 n1 lQ hQ lX hX hf)
set_option maxRecDepth 20000 in
theorem mo_w_Model_methodLine_j485 {w : Nat} {D : Nat → Nat → Prop} {T : Nat → Prop} {h : Hot} {this : Nat} {Q Q' : Mem → Prop} {h_Q : Hot} {X X' : Mem → Prop} {h_X : Hot} {v1 : Int32} {v3 : Int32} {v4 : Int32} {v5 : Int32} {v6 : Int32} {v8 : Int32} {s0 : Int32} {M : Mem} {M0 : Mem} (hD : Dok w D) (n0 : ow w D 11 this) (n1 : h (11, this, 45) = true) (lQ : ∀ t, h_Q t = true → h t = true) (hQ : ∀ z0, Ow w D T h_Q M0 z0 → Q z0 → Q' z0) (lX : ∀ t, h_X t = true → h t = true) (hX : ∀ z0, Ow w D T h_X M0 z0 → X z0 → X' z0) : Ow w D T h M0 M → w_Model_methodLine_j485 this Q X v1 v3 v4 v5 v6 v8 s0 M → w_Model_methodLine_j485 this Q' X' v1 v3 v4 v5 v6 v8 s0 M := by
  intro hf
  unfold w_Model_methodLine_j485
  exact (mo_w_Model_methodLine_j486 hD n0 n1 lQ hQ lX hX hf)
set_option maxRecDepth 20000 in
theorem mo_w_Model_methodLine_j445 {w : Nat} {D : Nat → Nat → Prop} {T : Nat → Prop} {h : Hot} {this : Nat} {Q Q' : Mem → Prop} {h_Q : Hot} {X X' : Mem → Prop} {h_X : Hot} {v1 : Int32} {v3 : Int32} {v4 : Int32} {v5 : Int32} {v6 : Int32} {v8 : Int32} {s0 : Int32} {s1 : Int32} {M : Mem} {M0 : Mem} (hD : Dok w D) (n0 : ow w D 11 this) (n1 : h (11, this, 45) = true) (lQ : ∀ t, h_Q t = true → h t = true) (hQ : ∀ z0, Ow w D T h_Q M0 z0 → Q z0 → Q' z0) (lX : ∀ t, h_X t = true → h t = true) (hX : ∀ z0, Ow w D T h_X M0 z0 → X z0 → X' z0) : Ow w D T h M0 M → w_Model_methodLine_j445 this Q X v1 v3 v4 v5 v6 v8 s0 s1 M → w_Model_methodLine_j445 this Q' X' v1 v3 v4 v5 v6 v8 s0 s1 M := by
  intro hf
  unfold w_Model_methodLine_j445
  exact (mo_w_Model_asks hD n0 (fun M26 f1 => (have g2 : Ow w D T _ M0 M26 := (Ow.trans hf f1); (mf_ite (mf_ite (mo_w_Model_methodLine_j481 hD n0 n1 lQ hQ lX hX g2) (mf_ite (mf_ite (mo_w_Model_methodLine_j485 hD n0 n1 lQ hQ lX hX g2) (mo_w_Model_methodLine_j481 hD n0 n1 lQ hQ lX hX g2)) (mo_w_Model_methodLine_j481 hD n0 n1 lQ hQ lX hX g2))) (mo_w_Model_methodLine_j485 hD n0 n1 lQ hQ lX hX g2)))) hf.1)
set_option maxRecDepth 20000 in
theorem mo_w_Model_methodLine_j444 {w : Nat} {D : Nat → Nat → Prop} {T : Nat → Prop} {h : Hot} {this : Nat} {Q Q' : Mem → Prop} {h_Q : Hot} {X X' : Mem → Prop} {h_X : Hot} {v1 : Int32} {v3 : Int32} {v4 : Int32} {v5 : Int32} {v6 : Int32} {v8 : Int32} {s0 : Int32} {M : Mem} {M0 : Mem} (hD : Dok w D) (n0 : ow w D 11 this) (n1 : h (11, this, 45) = true) (lQ : ∀ t, h_Q t = true → h t = true) (hQ : ∀ z0, Ow w D T h_Q M0 z0 → Q z0 → Q' z0) (lX : ∀ t, h_X t = true → h t = true) (hX : ∀ z0, Ow w D T h_X M0 z0 → X z0 → X' z0) : Ow w D T h M0 M → w_Model_methodLine_j444 this Q X v1 v3 v4 v5 v6 v8 s0 M → w_Model_methodLine_j444 this Q' X' v1 v3 v4 v5 v6 v8 s0 M := by
  intro hf
  unfold w_Model_methodLine_j444
  exact (mo_w_Model_methodLine_j445 hD n0 n1 lQ hQ lX hX hf)
set_option maxRecDepth 20000 in
theorem mo_w_Model_methodLine_j440 {w : Nat} {D : Nat → Nat → Prop} {T : Nat → Prop} {h : Hot} {this : Nat} {Q Q' : Mem → Prop} {h_Q : Hot} {X X' : Mem → Prop} {h_X : Hot} {v1 : Int32} {v3 : Int32} {v4 : Int32} {v5 : Int32} {v6 : Int32} {v8 : Int32} {s0 : Int32} {M : Mem} {M0 : Mem} (hD : Dok w D) (n0 : ow w D 11 this) (n1 : h (11, this, 45) = true) (lQ : ∀ t, h_Q t = true → h t = true) (hQ : ∀ z0, Ow w D T h_Q M0 z0 → Q z0 → Q' z0) (lX : ∀ t, h_X t = true → h t = true) (hX : ∀ z0, Ow w D T h_X M0 z0 → X z0 → X' z0) : Ow w D T h M0 M → w_Model_methodLine_j440 this Q X v1 v3 v4 v5 v6 v8 s0 M → w_Model_methodLine_j440 this Q' X' v1 v3 v4 v5 v6 v8 s0 M := by
  intro hf
  unfold w_Model_methodLine_j440
  exact (mo_w_Model_methodLine_j445 hD n0 n1 lQ hQ lX hX hf)
set_option maxRecDepth 20000 in
theorem mo_w_Model_methodLine_j409 {w : Nat} {D : Nat → Nat → Prop} {T : Nat → Prop} {h : Hot} {this : Nat} {Q Q' : Mem → Prop} {h_Q : Hot} {X X' : Mem → Prop} {h_X : Hot} {v1 : Int32} {v3 : Int32} {v4 : Int32} {v5 : Int32} {v6 : Int32} {v8 : Int32} {s0 : Int32} {s1 : Int32} {M : Mem} {M0 : Mem} (hD : Dok w D) (n0 : ow w D 11 this) (n1 : h (11, this, 45) = true) (lQ : ∀ t, h_Q t = true → h t = true) (hQ : ∀ z0, Ow w D T h_Q M0 z0 → Q z0 → Q' z0) (lX : ∀ t, h_X t = true → h t = true) (hX : ∀ z0, Ow w D T h_X M0 z0 → X z0 → X' z0) : Ow w D T h M0 M → w_Model_methodLine_j409 this Q X v1 v3 v4 v5 v6 v8 s0 s1 M → w_Model_methodLine_j409 this Q' X' v1 v3 v4 v5 v6 v8 s0 s1 M := by
  intro hf
  unfold w_Model_methodLine_j409
  exact (mo_w_Model_asks hD n0 (fun M20 f1 => (have g2 : Ow w D T _ M0 M20 := (Ow.trans hf f1); (mf_ite (mf_ite (Exists.imp fun i23 => (mf_and fun e3 => (mf_and fun _ => (mf_ite (mo_w_Model_methodLine_j444 hD n0 n1 lQ hQ lX hX g2) (mo_w_Model_methodLine_j440 hD n0 n1 lQ hQ lX hX g2))))) (mo_w_Model_methodLine_j440 hD n0 n1 lQ hQ lX hX g2)) (mo_w_Model_methodLine_j444 hD n0 n1 lQ hQ lX hX g2)))) hf.1)
set_option maxRecDepth 20000 in
theorem mo_w_Model_methodLine_j408 {w : Nat} {D : Nat → Nat → Prop} {T : Nat → Prop} {h : Hot} {this : Nat} {Q Q' : Mem → Prop} {h_Q : Hot} {X X' : Mem → Prop} {h_X : Hot} {v1 : Int32} {v3 : Int32} {v4 : Int32} {v5 : Int32} {v6 : Int32} {v8 : Int32} {s0 : Int32} {M : Mem} {M0 : Mem} (hD : Dok w D) (n0 : ow w D 11 this) (n1 : h (11, this, 45) = true) (lQ : ∀ t, h_Q t = true → h t = true) (hQ : ∀ z0, Ow w D T h_Q M0 z0 → Q z0 → Q' z0) (lX : ∀ t, h_X t = true → h t = true) (hX : ∀ z0, Ow w D T h_X M0 z0 → X z0 → X' z0) : Ow w D T h M0 M → w_Model_methodLine_j408 this Q X v1 v3 v4 v5 v6 v8 s0 M → w_Model_methodLine_j408 this Q' X' v1 v3 v4 v5 v6 v8 s0 M := by
  intro hf
  unfold w_Model_methodLine_j408
  exact (mo_w_Model_methodLine_j409 hD n0 n1 lQ hQ lX hX hf)
set_option maxRecDepth 20000 in
theorem mo_w_Model_methodLine_j367 {w : Nat} {D : Nat → Nat → Prop} {T : Nat → Prop} {h : Hot} {this : Nat} {Q Q' : Mem → Prop} {h_Q : Hot} {X X' : Mem → Prop} {h_X : Hot} {v1 : Int32} {v3 : Int32} {v4 : Int32} {v5 : Int32} {v6 : Int32} {v8 : Int32} {s0 : Int32} {s1 : Int32} {M : Mem} {M0 : Mem} (hD : Dok w D) (n0 : ow w D 11 this) (n1 : h (11, this, 45) = true) (lQ : ∀ t, h_Q t = true → h t = true) (hQ : ∀ z0, Ow w D T h_Q M0 z0 → Q z0 → Q' z0) (lX : ∀ t, h_X t = true → h t = true) (hX : ∀ z0, Ow w D T h_X M0 z0 → X z0 → X' z0) : Ow w D T h M0 M → w_Model_methodLine_j367 this Q X v1 v3 v4 v5 v6 v8 s0 s1 M → w_Model_methodLine_j367 this Q' X' v1 v3 v4 v5 v6 v8 s0 s1 M := by
  intro hf
  unfold w_Model_methodLine_j367
  exact (mo_w_Model_asks hD n0 (fun M18 f1 => (have g2 : Ow w D T _ M0 M18 := (Ow.trans hf f1); (mf_ite (mo_w_Model_methodLine_j408 hD n0 n1 lQ hQ lX hX g2) (Exists.imp fun i65 => (mf_and fun e3 => (mf_and fun _ => (mf_ite (mo_w_Model_isOff hD  (fun r69 M68 f5 => (have g6 : Ow w D T _ M0 M68 := (Ow.trans g2 f5); (mf_ite (mo_w_Model_methodLine_j409 hD n0 n1 lQ hQ lX hX g6) (mo_w_Model_methodLine_j408 hD n0 n1 lQ hQ lX hX g6)))) g2.1) (mo_w_Model_methodLine_j408 hD n0 n1 lQ hQ lX hX g2)))))))) hf.1)
set_option maxRecDepth 20000 in
theorem mo_w_Model_methodLine_j366 {w : Nat} {D : Nat → Nat → Prop} {T : Nat → Prop} {h : Hot} {this : Nat} {Q Q' : Mem → Prop} {h_Q : Hot} {X X' : Mem → Prop} {h_X : Hot} {v1 : Int32} {v3 : Int32} {v4 : Int32} {v5 : Int32} {v6 : Int32} {v8 : Int32} {s0 : Int32} {M : Mem} {M0 : Mem} (hD : Dok w D) (n0 : ow w D 11 this) (n1 : h (11, this, 45) = true) (lQ : ∀ t, h_Q t = true → h t = true) (hQ : ∀ z0, Ow w D T h_Q M0 z0 → Q z0 → Q' z0) (lX : ∀ t, h_X t = true → h t = true) (hX : ∀ z0, Ow w D T h_X M0 z0 → X z0 → X' z0) : Ow w D T h M0 M → w_Model_methodLine_j366 this Q X v1 v3 v4 v5 v6 v8 s0 M → w_Model_methodLine_j366 this Q' X' v1 v3 v4 v5 v6 v8 s0 M := by
  intro hf
  unfold w_Model_methodLine_j366
  exact (mo_w_Model_methodLine_j367 hD n0 n1 lQ hQ lX hX hf)
set_option maxRecDepth 20000 in
theorem mo_w_Model_methodLine_j362 {w : Nat} {D : Nat → Nat → Prop} {T : Nat → Prop} {h : Hot} {this : Nat} {Q Q' : Mem → Prop} {h_Q : Hot} {X X' : Mem → Prop} {h_X : Hot} {v1 : Int32} {v3 : Int32} {v4 : Int32} {v5 : Int32} {v6 : Int32} {v8 : Int32} {s0 : Int32} {M : Mem} {M0 : Mem} (hD : Dok w D) (n0 : ow w D 11 this) (n1 : h (11, this, 45) = true) (lQ : ∀ t, h_Q t = true → h t = true) (hQ : ∀ z0, Ow w D T h_Q M0 z0 → Q z0 → Q' z0) (lX : ∀ t, h_X t = true → h t = true) (hX : ∀ z0, Ow w D T h_X M0 z0 → X z0 → X' z0) : Ow w D T h M0 M → w_Model_methodLine_j362 this Q X v1 v3 v4 v5 v6 v8 s0 M → w_Model_methodLine_j362 this Q' X' v1 v3 v4 v5 v6 v8 s0 M := by
  intro hf
  unfold w_Model_methodLine_j362
  exact (mo_w_Model_methodLine_j367 hD n0 n1 lQ hQ lX hX hf)
set_option maxRecDepth 20000 in
theorem mo_w_Model_methodLine_j329 {w : Nat} {D : Nat → Nat → Prop} {T : Nat → Prop} {h : Hot} {this : Nat} {Q Q' : Mem → Prop} {h_Q : Hot} {X X' : Mem → Prop} {h_X : Hot} {v1 : Int32} {v3 : Int32} {v4 : Int32} {v5 : Int32} {v6 : Int32} {v7 : Int32} {v8 : Int32} {s0 : Int32} {s1 : Int32} {M : Mem} {M0 : Mem} (hD : Dok w D) (n0 : ow w D 11 this) (n1 : h (11, this, 45) = true) (lQ : ∀ t, h_Q t = true → h t = true) (hQ : ∀ z0, Ow w D T h_Q M0 z0 → Q z0 → Q' z0) (lX : ∀ t, h_X t = true → h t = true) (hX : ∀ z0, Ow w D T h_X M0 z0 → X z0 → X' z0) : Ow w D T h M0 M → w_Model_methodLine_j329 this Q X v1 v3 v4 v5 v6 v7 v8 s0 s1 M → w_Model_methodLine_j329 this Q' X' v1 v3 v4 v5 v6 v7 v8 s0 s1 M := by
  intro hf
  unfold w_Model_methodLine_j329
  exact (mo_w_Model_asks hD n0 (fun M16 f1 => (have g2 : Ow w D T _ M0 M16 := (Ow.trans hf f1); (mf_ite (mo_w_Model_methodLine_j366 hD n0 n1 lQ hQ lX hX g2) (mo_w_Model_isOff hD  (fun r72 M71 f3 => (have g4 : Ow w D T _ M0 M71 := (Ow.trans g2 f3); (mf_ite (mf_ite (mf_ite (mo_w_Model_methodLine_j362 hD n0 n1 lQ hQ lX hX g4) (mo_w_Model_methodLine_j366 hD n0 n1 lQ hQ lX hX g4)) (mo_w_Model_methodLine_j362 hD n0 n1 lQ hQ lX hX g4)) (mo_w_Model_methodLine_j366 hD n0 n1 lQ hQ lX hX g4)))) g2.1)))) hf.1)
set_option maxRecDepth 20000 in
theorem mo_w_Model_methodLine_j328 {w : Nat} {D : Nat → Nat → Prop} {T : Nat → Prop} {h : Hot} {this : Nat} {Q Q' : Mem → Prop} {h_Q : Hot} {X X' : Mem → Prop} {h_X : Hot} {v1 : Int32} {v3 : Int32} {v4 : Int32} {v5 : Int32} {v6 : Int32} {v7 : Int32} {v8 : Int32} {s0 : Int32} {M : Mem} {M0 : Mem} (hD : Dok w D) (n0 : ow w D 11 this) (n1 : h (11, this, 45) = true) (lQ : ∀ t, h_Q t = true → h t = true) (hQ : ∀ z0, Ow w D T h_Q M0 z0 → Q z0 → Q' z0) (lX : ∀ t, h_X t = true → h t = true) (hX : ∀ z0, Ow w D T h_X M0 z0 → X z0 → X' z0) : Ow w D T h M0 M → w_Model_methodLine_j328 this Q X v1 v3 v4 v5 v6 v7 v8 s0 M → w_Model_methodLine_j328 this Q' X' v1 v3 v4 v5 v6 v7 v8 s0 M := by
  intro hf
  unfold w_Model_methodLine_j328
  exact (mo_w_Model_methodLine_j329 hD n0 n1 lQ hQ lX hX hf)
set_option maxRecDepth 20000 in
theorem mo_w_Model_methodLine_j301 {w : Nat} {D : Nat → Nat → Prop} {T : Nat → Prop} {h : Hot} {this : Nat} {Q Q' : Mem → Prop} {h_Q : Hot} {X X' : Mem → Prop} {h_X : Hot} {v1 : Int32} {v3 : Int32} {v4 : Int32} {v5 : Int32} {v6 : Int32} {v7 : Int32} {s0 : Int32} {M : Mem} {M0 : Mem} (hD : Dok w D) (n0 : ow w D 11 this) (n1 : h (11, this, 45) = true) (lQ : ∀ t, h_Q t = true → h t = true) (hQ : ∀ z0, Ow w D T h_Q M0 z0 → Q z0 → Q' z0) (lX : ∀ t, h_X t = true → h t = true) (hX : ∀ z0, Ow w D T h_X M0 z0 → X z0 → X' z0) : Ow w D T h M0 M → w_Model_methodLine_j301 this Q X v1 v3 v4 v5 v6 v7 s0 M → w_Model_methodLine_j301 this Q' X' v1 v3 v4 v5 v6 v7 s0 M := by
  intro hf
  unfold w_Model_methodLine_j301
  exact (mf_ite (mo_w_Model_methodLine_j328 hD n0 n1 lQ hQ lX hX hf) (mf_ite (mo_w_Model_methodLine_j328 hD n0 n1 lQ hQ lX hX hf) (mo_w_Model_isOff hD  (fun r78 M77 f1 => (have g2 : Ow w D T _ M0 M77 := (Ow.trans hf f1); (mf_ite (mo_w_Model_methodLine_j329 hD n0 n1 lQ hQ lX hX g2) (mo_w_Model_methodLine_j328 hD n0 n1 lQ hQ lX hX g2)))) hf.1)))
set_option maxRecDepth 20000 in
theorem mo_w_Model_methodLine_j287 {w : Nat} {D : Nat → Nat → Prop} {T : Nat → Prop} {h : Hot} {this : Nat} {Q Q' : Mem → Prop} {h_Q : Hot} {X X' : Mem → Prop} {h_X : Hot} {v1 : Int32} {v3 : Int32} {v4 : Int32} {v5 : Int32} {v6 : Int32} {s0 : Int32} {M : Mem} {M0 : Mem} (hD : Dok w D) (n0 : ow w D 11 this) (n1 : h (11, this, 45) = true) (lQ : ∀ t, h_Q t = true → h t = true) (hQ : ∀ z0, Ow w D T h_Q M0 z0 → Q z0 → Q' z0) (lX : ∀ t, h_X t = true → h t = true) (hX : ∀ z0, Ow w D T h_X M0 z0 → X z0 → X' z0) : Ow w D T h M0 M → w_Model_methodLine_j287 this Q X v1 v3 v4 v5 v6 s0 M → w_Model_methodLine_j287 this Q' X' v1 v3 v4 v5 v6 s0 M := by
  intro hf
  unfold w_Model_methodLine_j287
  exact (mf_ite (mo_w_Model_methodLine_j301 hD n0 n1 lQ hQ lX hX hf) (mo_w_Model_methodLine_j301 hD n0 n1 lQ hQ lX hX hf))
set_option maxRecDepth 20000 in
theorem mo_w_Model_methodLine_j256 {w : Nat} {D : Nat → Nat → Prop} {T : Nat → Prop} {h : Hot} {this : Nat} {Q Q' : Mem → Prop} {h_Q : Hot} {X X' : Mem → Prop} {h_X : Hot} {k207 k207' : Int32 → Int32 → Int32 → Int32 → Int32 → Int32 → Mem → Prop} {h_k207 : Hot} {v1 : Int32} {v3 : Int32} {v4 : Int32} {v5 : Int32} {v6 : Int32} {v7 : Int32} {s0 : Int32} {s1 : Int32} {M : Mem} {M0 : Mem} (hD : Dok w D) (n0 : ow w D 11 this) (lQ : ∀ t, h_Q t = true → h t = true) (hQ : ∀ z0, Ow w D T h_Q M0 z0 → Q z0 → Q' z0) (lX : ∀ t, h_X t = true → h t = true) (hX : ∀ z0, Ow w D T h_X M0 z0 → X z0 → X' z0) (lk207 : ∀ t, h_k207 t = true → h t = true) (hk207 : ∀ z0 z1 z2 z3 z4 z5 z6, Ow w D T h_k207 M0 z6 → k207 z0 z1 z2 z3 z4 z5 z6 → k207' z0 z1 z2 z3 z4 z5 z6) : Ow w D T h M0 M → w_Model_methodLine_j256 this Q X k207 v1 v3 v4 v5 v6 v7 s0 s1 M → w_Model_methodLine_j256 this Q' X' k207' v1 v3 v4 v5 v6 v7 s0 s1 M := by
  intro hf
  unfold w_Model_methodLine_j256
  exact (mo_w_Model_asks hD n0 (fun M86 f1 => (have g2 : Ow w D T _ M0 M86 := (Ow.trans hf f1); (hk207 _ _ _ _ _ _ _  (Ow.dn lk207 g2)))) hf.1)
set_option maxRecDepth 20000 in
theorem mo_w_Model_methodLine_j255 {w : Nat} {D : Nat → Nat → Prop} {T : Nat → Prop} {h : Hot} {this : Nat} {Q Q' : Mem → Prop} {h_Q : Hot} {X X' : Mem → Prop} {h_X : Hot} {k207 k207' : Int32 → Int32 → Int32 → Int32 → Int32 → Int32 → Mem → Prop} {h_k207 : Hot} {v1 : Int32} {v3 : Int32} {v4 : Int32} {v5 : Int32} {v6 : Int32} {v7 : Int32} {s0 : Int32} {M : Mem} {M0 : Mem} (hD : Dok w D) (n0 : ow w D 11 this) (lQ : ∀ t, h_Q t = true → h t = true) (hQ : ∀ z0, Ow w D T h_Q M0 z0 → Q z0 → Q' z0) (lX : ∀ t, h_X t = true → h t = true) (hX : ∀ z0, Ow w D T h_X M0 z0 → X z0 → X' z0) (lk207 : ∀ t, h_k207 t = true → h t = true) (hk207 : ∀ z0 z1 z2 z3 z4 z5 z6, Ow w D T h_k207 M0 z6 → k207 z0 z1 z2 z3 z4 z5 z6 → k207' z0 z1 z2 z3 z4 z5 z6) : Ow w D T h M0 M → w_Model_methodLine_j255 this Q X k207 v1 v3 v4 v5 v6 v7 s0 M → w_Model_methodLine_j255 this Q' X' k207' v1 v3 v4 v5 v6 v7 s0 M := by
  intro hf
  unfold w_Model_methodLine_j255
  exact (mo_w_Model_methodLine_j256 hD n0 lQ hQ lX hX lk207 hk207 hf)
set_option maxRecDepth 20000 in
theorem mo_w_Model_methodLine_L207 {w : Nat} {D : Nat → Nat → Prop} {T : Nat → Prop} {h : Hot} {this : Nat} {Q Q' : Mem → Prop} {h_Q : Hot} {X X' : Mem → Prop} {h_X : Hot} {M0 : Mem} (hD : Dok w D) (n0 : ow w D 11 this) (n1 : h (11, this, 45) = true) (lQ : ∀ t, h_Q t = true → h t = true) (hQ : ∀ z0, Ow w D T h_Q M0 z0 → Q z0 → Q' z0) (lX : ∀ t, h_X t = true → h t = true) (hX : ∀ z0, Ow w D T h_X M0 z0 → X z0 → X' z0) : ∀ (n : Nat) (v1 : Int32) (v3 : Int32) (v4 : Int32) (v5 : Int32) (v6 : Int32) (v7 : Int32) (M : Mem), Ow w D T h M0 M → w_Model_methodLine_L207 this Q X n v1 v3 v4 v5 v6 v7 M → w_Model_methodLine_L207 this Q' X' n v1 v3 v4 v5 v6 v7 M
  | 0, _, _, _, _, _, _, _ => fun  _ h => h
  | n + 1, v1, v3, v4, v5, v6, v7, M => fun  hf => by
    unfold w_Model_methodLine_L207
    exact (mf_ite (Exists.imp fun i11 => (mf_and fun e1 => (mf_and fun _ => (mf_ite (mo_w_Model_methodLine_j287 hD n0 n1 lQ hQ lX hX hf) (mo_w_Model_methodLine_j287 hD n0 n1 lQ hQ lX hX hf))))) (Exists.imp fun i80 => (mf_and fun e3 => (mf_and fun _ => (mf_ite (Exists.imp fun i83 => (mf_and fun e5 => (mf_and fun _ => (mf_ite (mo_w_Model_methodLine_j256 hD n0 lQ hQ lX hX (fun _ e => e) (fun y0 y1 y2 y3 y4 y5 y6  hf => mo_w_Model_methodLine_L207 hD n0 n1 lQ hQ lX hX n y0 y1 y2 y3 y4 y5 y6  hf) hf) (mo_w_Model_methodLine_j255 hD n0 lQ hQ lX hX (fun _ e => e) (fun y0 y1 y2 y3 y4 y5 y6  hf => mo_w_Model_methodLine_L207 hD n0 n1 lQ hQ lX hX n y0 y1 y2 y3 y4 y5 y6  hf) hf))))) (mo_w_Model_methodLine_j255 hD n0 lQ hQ lX hX (fun _ e => e) (fun y0 y1 y2 y3 y4 y5 y6  hf => mo_w_Model_methodLine_L207 hD n0 n1 lQ hQ lX hX n y0 y1 y2 y3 y4 y5 y6  hf) hf))))))
set_option maxRecDepth 20000 in
theorem mo_w_Model_methodLine_j150 {w : Nat} {D : Nat → Nat → Prop} {T : Nat → Prop} {h : Hot} {this : Nat} {Q Q' : Mem → Prop} {h_Q : Hot} {X X' : Mem → Prop} {h_X : Hot} {v1 : Int32} {M : Mem} {M0 : Mem} (hD : Dok w D) (n0 : ow w D 11 this) (n1 : h (11, this, 45) = true) (lQ : ∀ t, h_Q t = true → h t = true) (hQ : ∀ z0, Ow w D T h_Q M0 z0 → Q z0 → Q' z0) (lX : ∀ t, h_X t = true → h t = true) (hX : ∀ z0, Ow w D T h_X M0 z0 → X z0 → X' z0) : Ow w D T h M0 M → w_Model_methodLine_j150 this Q X v1 M → w_Model_methodLine_j150 this Q' X' v1 M := by
  intro hf
  unfold w_Model_methodLine_j150
  exact (mf_and fun _ => (have g1 : Ow w D T _ M0 (sI M 11 this 43 ((mI M 11 this 43) + (1 : Int32))) := (Ow.wI n0 hf); (mo_w_Model_wholeSignature hD n0 (fun r6 M5 f2 => (have g3 : Ow w D T _ M0 M5 := (Ow.trans g1 f2); (mo_w_Model_need hD n0 (fun M7 f4 => (have g5 : Ow w D T _ M0 M7 := (Ow.trans g3 f4); (Exists.imp fun i8 => (mf_and fun e6 => (mf_and fun _ => (Exists.imp fun n87 => (mo_w_Model_methodLine_L207 hD n0 n1 lQ hQ lX hX _ _ _ _ _ _ _ _  g5))))))) (fun z9 f8 => hX z9 (Ow.dn lX (Ow.trans g3 f8))) g3.1))) (fun z11 f10 => hX z11 (Ow.dn lX (Ow.trans g1 f10))) g1.1)))
set_option maxRecDepth 20000 in
theorem mo_w_Model_methodLine_j113 {w : Nat} {D : Nat → Nat → Prop} {T : Nat → Prop} {h : Hot} {this : Nat} {Q Q' : Mem → Prop} {h_Q : Hot} {X X' : Mem → Prop} {h_X : Hot} {k4 k4' : Int32 → Int32 → Mem → Prop} {h_k4 : Hot} {v1 : Int32} {v2 : Int32} {s0 : Int32} {s1 : Int32} {M : Mem} {M0 : Mem} (hD : Dok w D) (n0 : ow w D 11 this) (lQ : ∀ t, h_Q t = true → h t = true) (hQ : ∀ z0, Ow w D T h_Q M0 z0 → Q z0 → Q' z0) (lX : ∀ t, h_X t = true → h t = true) (hX : ∀ z0, Ow w D T h_X M0 z0 → X z0 → X' z0) (lk4 : ∀ t, h_k4 t = true → h t = true) (hk4 : ∀ z0 z1 z2, Ow w D T h_k4 M0 z2 → k4 z0 z1 z2 → k4' z0 z1 z2) : Ow w D T h M0 M → w_Model_methodLine_j113 this Q X k4 v1 v2 s0 s1 M → w_Model_methodLine_j113 this Q' X' k4' v1 v2 s0 s1 M := by
  intro hf
  unfold w_Model_methodLine_j113
  exact (hk4 _ _ _  (Ow.dn lk4 (Ow.wI n0 hf)))
set_option maxRecDepth 20000 in
theorem mo_w_Model_methodLine_j97 {w : Nat} {D : Nat → Nat → Prop} {T : Nat → Prop} {h : Hot} {this : Nat} {Q Q' : Mem → Prop} {h_Q : Hot} {X X' : Mem → Prop} {h_X : Hot} {k4 k4' : Int32 → Int32 → Mem → Prop} {h_k4 : Hot} {v2 : Int32} {s0 : Int32} {s1 : Int32} {M : Mem} {M0 : Mem} (hD : Dok w D) (n0 : ow w D 11 this) (lQ : ∀ t, h_Q t = true → h t = true) (hQ : ∀ z0, Ow w D T h_Q M0 z0 → Q z0 → Q' z0) (lX : ∀ t, h_X t = true → h t = true) (hX : ∀ z0, Ow w D T h_X M0 z0 → X z0 → X' z0) (lk4 : ∀ t, h_k4 t = true → h t = true) (hk4 : ∀ z0 z1 z2, Ow w D T h_k4 M0 z2 → k4 z0 z1 z2 → k4' z0 z1 z2) : Ow w D T h M0 M → w_Model_methodLine_j97 this Q X k4 v2 s0 s1 M → w_Model_methodLine_j97 this Q' X' k4' v2 s0 s1 M := by
  intro hf
  unfold w_Model_methodLine_j97
  exact (mf_ite (mo_w_Model_methodLine_j113 hD n0 lQ hQ lX hX lk4 hk4 hf) (mo_w_Model_methodLine_j113 hD n0 lQ hQ lX hX lk4 hk4 hf))
set_option maxRecDepth 20000 in
theorem mo_w_Model_methodLine_j86 {w : Nat} {D : Nat → Nat → Prop} {T : Nat → Prop} {h : Hot} {this : Nat} {Q Q' : Mem → Prop} {h_Q : Hot} {X X' : Mem → Prop} {h_X : Hot} {k4 k4' : Int32 → Int32 → Mem → Prop} {h_k4 : Hot} {v1 : Int32} {v3 : Int32} {s0 : Int32} {M : Mem} {M0 : Mem} (hD : Dok w D) (n0 : ow w D 11 this) (lQ : ∀ t, h_Q t = true → h t = true) (hQ : ∀ z0, Ow w D T h_Q M0 z0 → Q z0 → Q' z0) (lX : ∀ t, h_X t = true → h t = true) (hX : ∀ z0, Ow w D T h_X M0 z0 → X z0 → X' z0) (lk4 : ∀ t, h_k4 t = true → h t = true) (hk4 : ∀ z0 z1 z2, Ow w D T h_k4 M0 z2 → k4 z0 z1 z2 → k4' z0 z1 z2) : Ow w D T h M0 M → w_Model_methodLine_j86 this Q X k4 v1 v3 s0 M → w_Model_methodLine_j86 this Q' X' k4' v1 v3 s0 M := by
  intro hf
  unfold w_Model_methodLine_j86
  exact (mf_ite (mo_w_Model_methodLine_j97 hD n0 lQ hQ lX hX lk4 hk4 hf) (mo_w_Model_methodLine_j97 hD n0 lQ hQ lX hX lk4 hk4 hf))
set_option maxRecDepth 20000 in
theorem mo_w_Model_methodLine_j85 {w : Nat} {D : Nat → Nat → Prop} {T : Nat → Prop} {h : Hot} {this : Nat} {Q Q' : Mem → Prop} {h_Q : Hot} {X X' : Mem → Prop} {h_X : Hot} {k4 k4' : Int32 → Int32 → Mem → Prop} {h_k4 : Hot} {v1 : Int32} {v3 : Int32} {M : Mem} {M0 : Mem} (hD : Dok w D) (n0 : ow w D 11 this) (lQ : ∀ t, h_Q t = true → h t = true) (hQ : ∀ z0, Ow w D T h_Q M0 z0 → Q z0 → Q' z0) (lX : ∀ t, h_X t = true → h t = true) (hX : ∀ z0, Ow w D T h_X M0 z0 → X z0 → X' z0) (lk4 : ∀ t, h_k4 t = true → h t = true) (hk4 : ∀ z0 z1 z2, Ow w D T h_k4 M0 z2 → k4 z0 z1 z2 → k4' z0 z1 z2) : Ow w D T h M0 M → w_Model_methodLine_j85 this Q X k4 v1 v3 M → w_Model_methodLine_j85 this Q' X' k4' v1 v3 M := by
  intro hf
  unfold w_Model_methodLine_j85
  exact (mo_w_Model_methodLine_j86 hD n0 lQ hQ lX hX lk4 hk4 hf)
set_option maxRecDepth 20000 in
theorem mo_w_Model_methodLine_j70 {w : Nat} {D : Nat → Nat → Prop} {T : Nat → Prop} {h : Hot} {this : Nat} {Q Q' : Mem → Prop} {h_Q : Hot} {X X' : Mem → Prop} {h_X : Hot} {k4 k4' : Int32 → Int32 → Mem → Prop} {h_k4 : Hot} {v1 : Int32} {s0 : Int32} {M : Mem} {M0 : Mem} (hD : Dok w D) (n0 : ow w D 11 this) (lQ : ∀ t, h_Q t = true → h t = true) (hQ : ∀ z0, Ow w D T h_Q M0 z0 → Q z0 → Q' z0) (lX : ∀ t, h_X t = true → h t = true) (hX : ∀ z0, Ow w D T h_X M0 z0 → X z0 → X' z0) (lk4 : ∀ t, h_k4 t = true → h t = true) (hk4 : ∀ z0 z1 z2, Ow w D T h_k4 M0 z2 → k4 z0 z1 z2 → k4' z0 z1 z2) : Ow w D T h M0 M → w_Model_methodLine_j70 this Q X k4 v1 s0 M → w_Model_methodLine_j70 this Q' X' k4' v1 s0 M := by
  intro hf
  unfold w_Model_methodLine_j70
  exact (mf_ite (mo_w_Model_methodLine_j85 hD n0 lQ hQ lX hX lk4 hk4 hf) (mf_ite (mo_w_Model_methodLine_j86 hD n0 lQ hQ lX hX lk4 hk4 hf) (mo_w_Model_methodLine_j85 hD n0 lQ hQ lX hX lk4 hk4 hf)))
set_option maxRecDepth 20000 in
theorem mo_w_Model_methodLine_L4 {w : Nat} {D : Nat → Nat → Prop} {T : Nat → Prop} {h : Hot} {this : Nat} {Q Q' : Mem → Prop} {h_Q : Hot} {X X' : Mem → Prop} {h_X : Hot} {M0 : Mem} (hD : Dok w D) (n0 : ow w D 11 this) (n1 : h (11, this, 45) = true) (lQ : ∀ t, h_Q t = true → h t = true) (hQ : ∀ z0, Ow w D T h_Q M0 z0 → Q z0 → Q' z0) (lX : ∀ t, h_X t = true → h t = true) (hX : ∀ z0, Ow w D T h_X M0 z0 → X z0 → X' z0) : ∀ (n : Nat) (v1 : Int32) (v2 : Int32) (M : Mem), Ow w D T h M0 M → w_Model_methodLine_L4 this Q X n v1 v2 M → w_Model_methodLine_L4 this Q' X' n v1 v2 M
  | 0, _, _, _ => fun  _ h => h
  | n + 1, v1, v2, M => fun  hf => by
    unfold w_Model_methodLine_L4
    exact (mf_ite (mf_and fun _ => (mf_ite (mo_w_Model_methodLine_j150 hD n0 n1 lQ hQ lX hX hf) (mf_and fun _ => (mf_ite (mo_w_Model_methodLine_j150 hD n0 n1 lQ hQ lX hX hf) (mo_w_Model_wrong hD n0 (fun M90 f1 => (have g2 : Ow w D T _ M0 M90 := (Ow.trans hf f1); (mo_w_Model_methodLine_j150 hD n0 n1 lQ hQ lX hX g2))) (fun z4 f3 => hX z4 (Ow.dn lX (Ow.trans hf f3))) hf.1))))) (mo_w_Model_isWord hD  (fun r92 M91 f5 => (have g6 : Ow w D T _ M0 M91 := (Ow.trans hf f5); (mf_ite (mo_w_Model_isWord hD  (fun r95 M94 f7 => (have g8 : Ow w D T _ M0 M94 := (Ow.trans g6 f7); (mf_ite (mo_w_Model_isWord hD  (fun r98 M97 f9 => (have g10 : Ow w D T _ M0 M97 := (Ow.trans g8 f9); (mf_ite (mo_w_Model_isWord hD  (fun r101 M100 f11 => (have g12 : Ow w D T _ M0 M100 := (Ow.trans g10 f11); (mf_ite (mo_w_Model_methodLine_j70 hD n0 lQ hQ lX hX (fun _ e => e) (fun y0 y1 y2  hf => mo_w_Model_methodLine_L4 hD n0 n1 lQ hQ lX hX n y0 y1 y2  hf) g12) (mo_w_Model_methodLine_j70 hD n0 lQ hQ lX hX (fun _ e => e) (fun y0 y1 y2  hf => mo_w_Model_methodLine_L4 hD n0 n1 lQ hQ lX hX n y0 y1 y2  hf) g12)))) g10.1) (mo_w_Model_methodLine_j70 hD n0 lQ hQ lX hX (fun _ e => e) (fun y0 y1 y2  hf => mo_w_Model_methodLine_L4 hD n0 n1 lQ hQ lX hX n y0 y1 y2  hf) g10)))) g8.1) (mo_w_Model_methodLine_j70 hD n0 lQ hQ lX hX (fun _ e => e) (fun y0 y1 y2  hf => mo_w_Model_methodLine_L4 hD n0 n1 lQ hQ lX hX n y0 y1 y2  hf) g8)))) g6.1) (mo_w_Model_methodLine_j70 hD n0 lQ hQ lX hX (fun _ e => e) (fun y0 y1 y2  hf => mo_w_Model_methodLine_L4 hD n0 n1 lQ hQ lX hX n y0 y1 y2  hf) g6)))) hf.1))
set_option maxRecDepth 20000 in
theorem mo_w_Model_methodLine {w : Nat} {D : Nat → Nat → Prop} {T : Nat → Prop} {h : Hot} {this : Nat} {Q Q' : Mem → Prop} {X X' : Mem → Prop} {M : Mem} (hD : Dok w D) (n0 : ow w D 11 this) (n1 : h (11, this, 45) = true) (hQ : ∀ z0, Ow w D T h M z0 → Q z0 → Q' z0) (hX : ∀ z0, Ow w D T h M z0 → X z0 → X' z0) : St w D T h M → w_Model_methodLine this Q X M → w_Model_methodLine this Q' X' M := by
  intro hs
  unfold w_Model_methodLine
  exact (Exists.imp fun n107 => (mo_w_Model_methodLine_L4 hD n0 n1 (fun _ e => e) hQ (fun _ e => e) hX _ _ _ _  (Ow.rf hs)))
set_option maxRecDepth 20000 in
theorem mo_w_Model_argumentsOf {w : Nat} {D : Nat → Nat → Prop} {T : Nat → Prop} {h : Hot} {this : Nat} {a1 : Int32} {Q Q' : Int32 → Mem → Prop} {M : Mem} (hD : Dok w D)  (hQ : ∀ z0 z1, Ow w D T h M z1 → Q z0 z1 → Q' z0 z1) : St w D T h M → w_Model_argumentsOf this a1 Q M → w_Model_argumentsOf this a1 Q' M := by
  intro hs
  unfold w_Model_argumentsOf
  exact (Exists.imp fun i1 => (mf_and fun e1 => (Exists.imp fun i2 => (mf_and fun e3 => (mf_and fun _ => (mf_and fun _ => (Exists.imp fun i5 => (mf_and fun e5 => (mf_and fun _ => (mf_ite (hQ _ _  (Ow.rf hs)) (hQ _ _  (Ow.rf hs))))))))))))
set_option maxRecDepth 20000 in
theorem mo_w_Model_roomLine_j82 {w : Nat} {D : Nat → Nat → Prop} {T : Nat → Prop} {h : Hot} {this : Nat} {Q Q' : Mem → Prop} {h_Q : Hot} {X X' : Mem → Prop} {h_X : Hot} {s0 : Int32} {s1 : Int32} {M : Mem} {M0 : Mem} (hD : Dok w D) (n0 : ow w D 11 this) (lQ : ∀ t, h_Q t = true → h t = true) (hQ : ∀ z0, Ow w D T h_Q M0 z0 → Q z0 → Q' z0) (lX : ∀ t, h_X t = true → h t = true) (hX : ∀ z0, Ow w D T h_X M0 z0 → X z0 → X' z0) : Ow w D T h M0 M → w_Model_roomLine_j82 this Q X s0 s1 M → w_Model_roomLine_j82 this Q' X' s0 s1 M := by
  intro hf
  unfold w_Model_roomLine_j82
  exact (mo_w_Model_asks hD n0 (fun M17 f1 => (have g2 : Ow w D T _ M0 M17 := (Ow.trans hf f1); (hQ _  (Ow.dn lQ (Ow.wI n0 g2))))) hf.1)
set_option maxRecDepth 20000 in
theorem mo_w_Model_roomLine {w : Nat} {D : Nat → Nat → Prop} {T : Nat → Prop} {h : Hot} {this : Nat} {Q Q' : Mem → Prop} {X X' : Mem → Prop} {M : Mem} (hD : Dok w D) (n0 : ow w D 11 this) (n1 : h (11, this, 45) = true) (hQ : ∀ z0, Ow w D T h M z0 → Q z0 → Q' z0) (hX : ∀ z0, Ow w D T h M z0 → X z0 → X' z0) : St w D T h M → w_Model_roomLine this Q X M → w_Model_roomLine this Q' X' M := by
  intro hs
  unfold w_Model_roomLine
  exact (mo_w_Model_needWord hD n0 (fun M1 f1 => (have g2 : Ow w D T _ M M1 := (Ow.trans (Ow.rf hs) f1); (Exists.imp fun i2 => (mf_and fun e3 => (have o4 : ow w D 12 i2 := (Ow.rh e3 rfl n1 g2); (mo_w_Model_numberIn hD n0 (fun r4 M3 f5 => (have g6 : Ow w D T _ M M3 := (Ow.trans g2 f5); (mf_and fun _ => (Exists.imp fun i6 => (mf_and fun e7 => (have o8 : ow w D 12 i6 := (Ow.rh e7 rfl n1 (Ow.wI (ow.to o4 rfl rfl) g6)); (have g9 : Ow w D T _ M (sI M3 147 i2 (mI M1 11 this 54).toNatClampNeg r4) := (Ow.wI (ow.to o4 rfl rfl) g6); (mo_w_Model_numberIn hD n0 (fun r8 M7 f10 => (have g11 : Ow w D T _ M M7 := (Ow.trans g9 f10); (mf_and fun _ => (Exists.imp fun M10 => (mf_and fun e12 => (have g13 : Ow w D T _ M M10 := Ow.of e12 (Ow.wI (ow.to o8 rfl rfl) g11); (mo_w_Model_need hD n0 (fun M11 f14 => (have g15 : Ow w D T _ M M11 := (Ow.trans g13 f14); (Exists.imp fun i12 => (mf_and fun e16 => (mf_and fun _ => (mo_w_Model_argumentsOf hD  (fun r15 M14 f18 => (have g19 : Ow w D T _ M M14 := (Ow.trans g15 f18); (mf_ite (mo_w_Model_roomLine_j82 hD n0 (fun _ e => e) hQ (fun _ e => e) hX g19) (mo_w_Model_roomLine_j82 hD n0 (fun _ e => e) hQ (fun _ e => e) hX g19)))) g15.1)))))) (fun z21 f20 => hX z21 (Ow.trans g13 f20)) g13.1))))))) (fun z23 f22 => hX z23 (Ow.trans g9 f22)) g9.1)))))))) (fun z25 f24 => hX z25 (Ow.trans g2 f24)) g2.1)))))) (fun z27 f26 => hX z27 (Ow.trans (Ow.rf hs) f26)) (Ow.rf hs).1)
set_option maxRecDepth 20000 in
theorem mo_w_Model_kindWord {w : Nat} {D : Nat → Nat → Prop} {T : Nat → Prop} {h : Hot} {this : Nat} {Q Q' : Int32 → Mem → Prop} {X X' : Mem → Prop} {M : Mem} (hD : Dok w D) (n0 : ow w D 11 this) (hQ : ∀ z0 z1, Ow w D T h M z1 → Q z0 z1 → Q' z0 z1) (hX : ∀ z0, Ow w D T h M z0 → X z0 → X' z0) : St w D T h M → w_Model_kindWord this Q X M → w_Model_kindWord this Q' X' M := by
  intro hs
  unfold w_Model_kindWord
  exact (mo_w_Model_takes hD n0 (fun r2 M1 f1 => (have g2 : Ow w D T _ M M1 := (Ow.trans (Ow.rf hs) f1); (mf_ite (mo_w_Model_takes hD n0 (fun r5 M4 f3 => (have g4 : Ow w D T _ M M4 := (Ow.trans g2 f3); (mf_ite (mo_w_Model_takes hD n0 (fun r8 M7 f5 => (have g6 : Ow w D T _ M M7 := (Ow.trans g4 f5); (mf_ite (mo_w_Model_takes hD n0 (fun r11 M10 f7 => (have g8 : Ow w D T _ M M10 := (Ow.trans g6 f7); (mf_ite (mo_w_Model_takes hD n0 (fun r14 M13 f9 => (have g10 : Ow w D T _ M M13 := (Ow.trans g8 f9); (mf_ite (mo_w_Model_className hD n0 (fun r17 M16 f11 => (have g12 : Ow w D T _ M M16 := (Ow.trans g10 f11); (hQ _ _  g12))) (fun z14 f13 => hX z14 (Ow.trans g10 f13)) g10.1) (hQ _ _  g10)))) g8.1) (hQ _ _  g8)))) g6.1) (hQ _ _  g6)))) g4.1) (hQ _ _  g4)))) g2.1) (hQ _ _  g2)))) (Ow.rf hs).1)
set_option maxRecDepth 20000 in
theorem mo_w_Model_kindWords_j123 {w : Nat} {D : Nat → Nat → Prop} {T : Nat → Prop} {h : Hot} {this : Nat} {Q Q' : Int32 → Mem → Prop} {h_Q : Hot} {X X' : Mem → Prop} {h_X : Hot} {v1 : Int32} {v2 : Int32} {M : Mem} {M0 : Mem} (hD : Dok w D) (n0 : ow w D 11 this) (lQ : ∀ t, h_Q t = true → h t = true) (hQ : ∀ z0 z1, Ow w D T h_Q M0 z1 → Q z0 z1 → Q' z0 z1) (lX : ∀ t, h_X t = true → h t = true) (hX : ∀ z0, Ow w D T h_X M0 z0 → X z0 → X' z0) : Ow w D T h M0 M → w_Model_kindWords_j123 this Q X v1 v2 M → w_Model_kindWords_j123 this Q' X' v1 v2 M := by
  intro hf
  unfold w_Model_kindWords_j123
  exact (mo_w_Model_need hD n0 (fun M3 f1 => (have g2 : Ow w D T _ M0 M3 := (Ow.trans hf f1); (hQ _ _  (Ow.dn lQ g2)))) (fun z4 f3 => hX z4 (Ow.dn lX (Ow.trans hf f3))) hf.1)
set_option maxRecDepth 20000 in
theorem mo_w_Model_kindWords_j116 {w : Nat} {D : Nat → Nat → Prop} {T : Nat → Prop} {h : Hot} {this : Nat} {Q Q' : Int32 → Mem → Prop} {h_Q : Hot} {X X' : Mem → Prop} {h_X : Hot} {k17 k17' : Int32 → Int32 → Int32 → Mem → Prop} {h_k17 : Hot} {v1 : Int32} {v2 : Int32} {v3 : Int32} {s0 : Int32} {s1 : Int32} {M : Mem} {M0 : Mem} (hD : Dok w D) (n0 : ow w D 11 this) (lQ : ∀ t, h_Q t = true → h t = true) (hQ : ∀ z0 z1, Ow w D T h_Q M0 z1 → Q z0 z1 → Q' z0 z1) (lX : ∀ t, h_X t = true → h t = true) (hX : ∀ z0, Ow w D T h_X M0 z0 → X z0 → X' z0) (lk17 : ∀ t, h_k17 t = true → h t = true) (hk17 : ∀ z0 z1 z2 z3, Ow w D T h_k17 M0 z3 → k17 z0 z1 z2 z3 → k17' z0 z1 z2 z3) : Ow w D T h M0 M → w_Model_kindWords_j116 this Q X k17 v1 v2 v3 s0 s1 M → w_Model_kindWords_j116 this Q' X' k17' v1 v2 v3 s0 s1 M := by
  intro hf
  unfold w_Model_kindWords_j116
  exact (hk17 _ _ _ _  (Ow.dn lk17 (Ow.wI n0 hf)))
set_option maxRecDepth 20000 in
theorem mo_w_Model_kindWords_j101 {w : Nat} {D : Nat → Nat → Prop} {T : Nat → Prop} {h : Hot} {this : Nat} {Q Q' : Int32 → Mem → Prop} {h_Q : Hot} {X X' : Mem → Prop} {h_X : Hot} {k17 k17' : Int32 → Int32 → Int32 → Mem → Prop} {h_k17 : Hot} {v1 : Int32} {v2 : Int32} {s0 : Int32} {M : Mem} {M0 : Mem} (hD : Dok w D) (n0 : ow w D 11 this) (lQ : ∀ t, h_Q t = true → h t = true) (hQ : ∀ z0 z1, Ow w D T h_Q M0 z1 → Q z0 z1 → Q' z0 z1) (lX : ∀ t, h_X t = true → h t = true) (hX : ∀ z0, Ow w D T h_X M0 z0 → X z0 → X' z0) (lk17 : ∀ t, h_k17 t = true → h t = true) (hk17 : ∀ z0 z1 z2 z3, Ow w D T h_k17 M0 z3 → k17 z0 z1 z2 z3 → k17' z0 z1 z2 z3) : Ow w D T h M0 M → w_Model_kindWords_j101 this Q X k17 v1 v2 s0 M → w_Model_kindWords_j101 this Q' X' k17' v1 v2 s0 M := by
  intro hf
  unfold w_Model_kindWords_j101
  exact (mf_ite (mo_w_Model_kindWords_j116 hD n0 lQ hQ lX hX lk17 hk17 hf) (mo_w_Model_kindWords_j116 hD n0 lQ hQ lX hX lk17 hk17 hf))
set_option maxRecDepth 20000 in
theorem mo_w_Model_kindWords_L17 {w : Nat} {D : Nat → Nat → Prop} {T : Nat → Prop} {h : Hot} {this : Nat} {Q Q' : Int32 → Mem → Prop} {h_Q : Hot} {X X' : Mem → Prop} {h_X : Hot} {M0 : Mem} (hD : Dok w D) (n0 : ow w D 11 this) (n1 : h (11, this, 45) = true) (lQ : ∀ t, h_Q t = true → h t = true) (hQ : ∀ z0 z1, Ow w D T h_Q M0 z1 → Q z0 z1 → Q' z0 z1) (lX : ∀ t, h_X t = true → h t = true) (hX : ∀ z0, Ow w D T h_X M0 z0 → X z0 → X' z0) : ∀ (n : Nat) (v1 : Int32) (v2 : Int32) (v3 : Int32) (M : Mem), Ow w D T h M0 M → w_Model_kindWords_L17 this Q X n v1 v2 v3 M → w_Model_kindWords_L17 this Q' X' n v1 v2 v3 M
  | 0, _, _, _, _ => fun  _ h => h
  | n + 1, v1, v2, v3, M => fun  hf => by
    unfold w_Model_kindWords_L17
    exact (mf_ite (mo_w_Model_kindWords_j123 hD n0 lQ hQ lX hX hf) (Exists.imp fun i5 => (mf_and fun e1 => (have o2 : ow w D 12 i5 := (Ow.rh e1 rfl n1 hf); (Exists.imp fun i6 => (mf_and fun e3 => (have o4 : ow w D 12 i6 := (Ow.rh e3 rfl n1 hf); (Exists.imp fun i7 => (mf_and fun e5 => (have o6 : ow w D 300 i7 := (Ow.r1 e5 rfl rfl o4 hf); (Exists.imp fun i8 => (mf_and fun e7 => (mo_w_Model_room hD o6 (fun i10 M9 o11 f9 => (have g10 : Ow w D T _ M0 M9 := (Ow.trans hf f9); (Exists.imp fun i11 => (mf_and fun e12 => (have o13 : ow w D 12 i11 := (Ow.rh e12 rfl n1 (Ow.wR rfl o2 o11 g10)); (Exists.imp fun i12 => (mf_and fun e14 => (have o15 : ow w D 300 i12 := (Ow.r1 e14 rfl rfl o13 (Ow.wR rfl o2 o11 g10)); (Exists.imp fun i13 => (mf_and fun e16 => (have g18 : Ow w D T _ M0 (sR M9 12 i5 42 (some (300, i10))) := (Ow.wR rfl o2 o11 g10); (mo_w_Model_kindWord hD n0 (fun r15 M14 f19 => (have g20 : Ow w D T _ M0 M14 := (Ow.trans g18 f19); (mf_and fun _ => (Exists.imp fun M17 => (mf_and fun e21 => (have g22 : Ow w D T _ M0 M17 := Ow.of e21 (Ow.wI o15 g20); (Exists.imp fun i18 => (mf_and fun e23 => (have o24 : ow w D 12 i18 := (Ow.rh e23 rfl n1 g22); (mf_and fun _ => (mf_ite (have g25 : Ow w D T _ M0 (sI M17 12 i18 43 ((mI M17 12 i18 43) + (1 : Int32))) := (Ow.wI o24 g22); (mo_w_Model_kindWords_j101 hD n0 lQ hQ lX hX (fun _ e => e) (fun y0 y1 y2 y3  hf => mo_w_Model_kindWords_L17 hD n0 n1 lQ hQ lX hX n y0 y1 y2 y3  hf) g25)) (have g26 : Ow w D T _ M0 (sI M17 12 i18 43 ((mI M17 12 i18 43) + (1 : Int32))) := (Ow.wI o24 g22); (mo_w_Model_kindWords_j101 hD n0 lQ hQ lX hX (fun _ e => e) (fun y0 y1 y2 y3  hf => mo_w_Model_kindWords_L17 hD n0 n1 lQ hQ lX hX n y0 y1 y2 y3  hf) g26))))))))))))) (fun z28 f27 => hX z28 (Ow.dn lX (Ow.trans g18 f27))) g18.1)))))))))))) hf.1)))))))))))))
set_option maxRecDepth 20000 in
theorem mo_w_Model_kindWords {w : Nat} {D : Nat → Nat → Prop} {T : Nat → Prop} {h : Hot} {this : Nat} {a1 : Int32} {Q Q' : Int32 → Mem → Prop} {X X' : Mem → Prop} {M : Mem} (hD : Dok w D) (n0 : ow w D 11 this) (n1 : h (11, this, 45) = true) (hQ : ∀ z0 z1, Ow w D T h M z1 → Q z0 z1 → Q' z0 z1) (hX : ∀ z0, Ow w D T h M z0 → X z0 → X' z0) : St w D T h M → w_Model_kindWords this a1 Q X M → w_Model_kindWords this a1 Q' X' M := by
  intro hs
  unfold w_Model_kindWords
  exact (mf_and fun _ => (mf_ite (mo_w_Model_kindWords_j123 hD n0 (fun _ e => e) hQ (fun _ e => e) hX (Ow.rf hs)) (Exists.imp fun n22 => (mo_w_Model_kindWords_L17 hD n0 n1 (fun _ e => e) hQ (fun _ e => e) hX _ _ _ _ _  (Ow.rf hs)))))
set_option maxRecDepth 20000 in
theorem mo_w_Model_addNine_j74 {w : Nat} {D : Nat → Nat → Prop} {T : Nat → Prop} {h : Hot} {this : Nat} {Q Q' : Mem → Prop} {h_Q : Hot} {v1 : Int32} {v2 : Int32} {M : Mem} {M0 : Mem} (hD : Dok w D) (n0 : ow w D 11 this) (lQ : ∀ t, h_Q t = true → h t = true) (hQ : ∀ z0, Ow w D T h_Q M0 z0 → Q z0 → Q' z0) : Ow w D T h M0 M → w_Model_addNine_j74 this Q v1 v2 M → w_Model_addNine_j74 this Q' v1 v2 M := by
  intro hf
  unfold w_Model_addNine_j74
  exact (Exists.imp fun i21 => (mf_and fun e1 => (have o2 : ow w D 300 i21 := (Ow.r0 e1 rfl n0 hf); (mf_and fun _ => (Exists.imp fun i23 => (mf_and fun e3 => (have o4 : ow w D 300 i23 := (Ow.r0 e3 rfl n0 (Ow.wI o2 hf)); (mf_and fun _ => (mf_and fun _ => (Exists.imp fun M26 => (mf_and fun e5 => (have g6 : Ow w D T _ M0 M26 := Ow.of e5 (Ow.wI o4 (Ow.wI o2 hf)); (Exists.imp fun i27 => (mf_and fun e7 => (have o8 : ow w D 501 i27 := (Ow.r0 e7 rfl n0 g6); (mf_and fun _ => (Exists.imp fun M29 => (mf_and fun e9 => (have g10 : Ow w D T _ M0 M29 := Ow.of e9 (Ow.wI n0 (Ow.wI o8 g6)); (hQ _  (Ow.dn lQ g10)))))))))))))))))))))
set_option maxRecDepth 20000 in
theorem mo_w_Model_addNine {w : Nat} {D : Nat → Nat → Prop} {T : Nat → Prop} {h : Hot} {this : Nat} {a1 : Int32} {a2 : Int32} {Q Q' : Mem → Prop} {M : Mem} (hD : Dok w D) (n0 : ow w D 11 this) (hQ : ∀ z0, Ow w D T h M z0 → Q z0 → Q' z0) : St w D T h M → w_Model_addNine this a1 a2 Q M → w_Model_addNine this a1 a2 Q' M := by
  intro hs
  unfold w_Model_addNine
  exact (Exists.imp fun i1 => (mf_and fun e1 => (have o2 : ow w D 300 i1 := (Ow.r0 e1 rfl n0 (Ow.rf hs)); (mo_w_Model_room hD o2 (fun i3 M2 o5 f3 => (have g4 : Ow w D T _ M M2 := (Ow.trans (Ow.rf hs) f3); (Exists.imp fun i4 => (mf_and fun e6 => (have o7 : ow w D 300 i4 := (Ow.r0 e6 rfl n0 (Ow.wR rfl n0 o5 g4)); (have g8 : Ow w D T _ M (sR M2 11 this 61 (some (300, i3))) := (Ow.wR rfl n0 o5 g4); (mo_w_Model_room hD o7 (fun i6 M5 o11 f9 => (have g10 : Ow w D T _ M M5 := (Ow.trans g8 f9); (Exists.imp fun i7 => (mf_and fun e12 => (mf_ite (mf_and fun _ => (mf_and fun _ => (Exists.imp fun i10 => (mf_and fun e14 => (Exists.imp fun M9 => (mf_and fun e15 => (have g16 : Ow w D T _ M M9 := Ow.of e15 (Ow.wmk e14 rfl (Ow.wR rfl n0 o11 g10)); (Exists.imp fun i14 => (mf_and fun e17 => (mf_and fun _ => (mf_and fun _ => (mf_and fun _ => (mf_and fun _ => (mf_and fun _ => (Exists.imp fun M15 => (mf_and fun e19 => (have g20 : Ow w D T _ M M15 := Ow.of e19 (Ow.wcp (ow.fr (Ow.wR rfl n0 o11 g10) rfl e14) g16); (have g21 : Ow w D T _ M (sR M15 11 this 63 (some (501, i10))) := (Ow.wR rfl n0 (ow.fr (Ow.wR rfl n0 o11 g10) rfl e14) g20); (mo_w_Model_addNine_j74 hD n0 (fun _ e => e) hQ g21))))))))))))))))))) (have g22 : Ow w D T _ M (sR M5 11 this 62 (some (300, i6))) := (Ow.wR rfl n0 o11 g10); (mo_w_Model_addNine_j74 hD n0 (fun _ e => e) hQ g22))))))) g8.1))))))) (Ow.rf hs).1))))
set_option maxRecDepth 20000 in
theorem mo_w_Model_frameLine_j16 {w : Nat} {D : Nat → Nat → Prop} {T : Nat → Prop} {h : Hot} {this : Nat} {Q Q' : Mem → Prop} {h_Q : Hot} {X X' : Mem → Prop} {h_X : Hot} {M : Mem} {M0 : Mem} (hD : Dok w D) (n0 : h (11, this, 45) = true) (n1 : ow w D 11 this) (lQ : ∀ t, h_Q t = true → h t = true) (hQ : ∀ z0, Ow w D T h_Q M0 z0 → Q z0 → Q' z0) (lX : ∀ t, h_X t = true → h t = true) (hX : ∀ z0, Ow w D T h_X M0 z0 → X z0 → X' z0) : Ow w D T h M0 M → w_Model_frameLine_j16 this Q X M → w_Model_frameLine_j16 this Q' X' M := by
  intro hf
  unfold w_Model_frameLine_j16
  exact (Exists.imp fun i2 => (mf_and fun e1 => (Exists.imp fun i3 => (mf_and fun e3 => (have o4 : ow w D 12 i3 := (Ow.rh e3 rfl n0 hf); (Exists.imp fun i4 => (mf_and fun e5 => (have o6 : ow w D 12 i4 := (Ow.rh e5 rfl n0 hf); (Exists.imp fun i5 => (mf_and fun e7 => (have o8 : ow w D 300 i5 := (Ow.r1 e7 rfl rfl o6 hf); (mo_w_Model_room hD o8 (fun i7 M6 o11 f9 => (have g10 : Ow w D T _ M0 M6 := (Ow.trans hf f9); (Exists.imp fun i8 => (mf_and fun e12 => (have o13 : ow w D 12 i8 := (Ow.rh e12 rfl n0 (Ow.wR rfl o4 o11 g10)); (Exists.imp fun i9 => (mf_and fun e14 => (have o15 : ow w D 12 i9 := (Ow.rh e14 rfl n0 (Ow.wR rfl o4 o11 g10)); (Exists.imp fun i10 => (mf_and fun e16 => (have o17 : ow w D 300 i10 := (Ow.r1 e16 rfl rfl o15 (Ow.wR rfl o4 o11 g10)); (have g18 : Ow w D T _ M0 (sR M6 12 i3 40 (some (300, i7))) := (Ow.wR rfl o4 o11 g10); (mo_w_Model_room hD o17 (fun i12 M11 o21 f19 => (have g20 : Ow w D T _ M0 M11 := (Ow.trans g18 f19); (Exists.imp fun i13 => (mf_and fun e22 => (have o23 : ow w D 12 i13 := (Ow.rh e22 rfl n0 (Ow.wR rfl o13 o21 g20)); (Exists.imp fun i14 => (mf_and fun e24 => (have o25 : ow w D 12 i14 := (Ow.rh e24 rfl n0 (Ow.wR rfl o13 o21 g20)); (Exists.imp fun i15 => (mf_and fun e26 => (have o27 : ow w D 300 i15 := (Ow.r1 e26 rfl rfl o25 (Ow.wR rfl o13 o21 g20)); (have g28 : Ow w D T _ M0 (sR M11 12 i8 38 (some (300, i12))) := (Ow.wR rfl o13 o21 g20); (mo_w_Model_room hD o27 (fun i17 M16 o31 f29 => (have g30 : Ow w D T _ M0 M16 := (Ow.trans g28 f29); (Exists.imp fun i18 => (mf_and fun e32 => (have o33 : ow w D 12 i18 := (Ow.rh e32 rfl n0 (Ow.wR rfl o23 o31 g30)); (Exists.imp fun i19 => (mf_and fun e34 => (have o35 : ow w D 300 i19 := (Ow.r1 e34 rfl rfl o33 (Ow.wR rfl o23 o31 g30)); (Exists.imp fun i20 => (mf_and fun e36 => (mf_and fun _ => (Exists.imp fun M22 => (mf_and fun e38 => (have g39 : Ow w D T _ M0 M22 := Ow.of e38 (Ow.wI o35 (Ow.wR rfl o23 o31 g30)); (Exists.imp fun i23 => (mf_and fun e40 => (have o41 : ow w D 12 i23 := (Ow.rh e40 rfl n0 g39); (Exists.imp fun i24 => (mf_and fun e42 => (have o43 : ow w D 300 i24 := (Ow.r1 e42 rfl rfl o41 g39); (mo_w_Model_kindWords hD n1 n0 (fun r26 M25 f44 => (have g45 : Ow w D T _ M0 M25 := (Ow.trans g39 f44); (mf_and fun _ => (Exists.imp fun i28 => (mf_and fun e46 => (have o47 : ow w D 12 i28 := (Ow.rh e46 rfl n0 (Ow.wI o43 g45)); (Exists.imp fun i29 => (mf_and fun e48 => (have o49 : ow w D 300 i29 := (Ow.r1 e48 rfl rfl o47 (Ow.wI o43 g45)); (have g50 : Ow w D T _ M0 (sI M25 300 i24 (mI M 12 i2 41).toNatClampNeg r26) := (Ow.wI o43 g45); (mo_w_Model_kindWords hD n1 n0 (fun r31 M30 f51 => (have g52 : Ow w D T _ M0 M30 := (Ow.trans g50 f51); (mf_and fun _ => (Exists.imp fun i33 => (mf_and fun e53 => (mf_and fun _ => (have g55 : Ow w D T _ M0 (sI M30 300 i29 (mI M 12 i2 41).toNatClampNeg r31) := (Ow.wI o49 g52); (mo_w_Model_addNine hD n1 (fun M35 f56 => (have g57 : Ow w D T _ M0 M35 := (Ow.trans g55 f56); (Exists.imp fun i36 => (mf_and fun e58 => (have o59 : ow w D 12 i36 := (Ow.rh e58 rfl n0 g57); (Exists.imp fun i37 => (mf_and fun e60 => (Exists.imp fun M38 => (mf_and fun e62 => (have g63 : Ow w D T _ M0 M38 := Ow.of e62 (Ow.wI n1 (Ow.wI o59 g57)); (hQ _  (Ow.dn lQ g63)))))))))))) g55.1)))))))) (fun z65 f64 => hX z65 (Ow.dn lX (Ow.trans g50 f64))) g50.1))))))))))) (fun z67 f66 => hX z67 (Ow.dn lX (Ow.trans g39 f66))) g39.1))))))))))))))))))))) g28.1))))))))))))) g18.1))))))))))))) hf.1))))))))))))
set_option maxRecDepth 20000 in
theorem mo_w_Model_frameLine {w : Nat} {D : Nat → Nat → Prop} {T : Nat → Prop} {h : Hot} {this : Nat} {Q Q' : Mem → Prop} {X X' : Mem → Prop} {M : Mem} (hD : Dok w D) (n0 : h (11, this, 45) = true) (n1 : ow w D 11 this) (hQ : ∀ z0, Ow w D T h M z0 → Q z0 → Q' z0) (hX : ∀ z0, Ow w D T h M z0 → X z0 → X' z0) : St w D T h M → w_Model_frameLine this Q X M → w_Model_frameLine this Q' X' M := by
  intro hs
  unfold w_Model_frameLine
  exact (mf_ite (mo_w_Model_frameLine_j16 hD n0 n1 (fun _ e => e) hQ (fun _ e => e) hX (Ow.rf hs)) (have g1 : Ow w D T _ M (sI M 11 this 43 (0 : Int32)) := (Ow.wI n1 (Ow.rf hs)); (mo_w_Model_wrong hD n1 (fun M39 f2 => (have g3 : Ow w D T _ M M39 := (Ow.trans g1 f2); (mo_w_Model_frameLine_j16 hD n0 n1 (fun _ e => e) hQ (fun _ e => e) hX g3))) (fun z5 f4 => hX z5 (Ow.trans g1 f4)) g1.1)))
