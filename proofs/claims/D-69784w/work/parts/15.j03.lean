set_option maxRecDepth 20000 in
theorem mo_w_Model_putMethod_L295 {w : Nat} {D : Nat → Nat → Prop} {T : Nat → Prop} {h : Hot} {this : Nat} {Q Q' : Mem → Prop} {h_Q : Hot} {M0 : Mem} (hD : Dok w D) (n0 : ow w D 11 this) (lQ : ∀ t, h_Q t = true → h t = true) (hQ : ∀ z0, Ow w D T h_Q M0 z0 → Q z0 → Q' z0) : ∀ (n : Nat) (v1 : Int32) (v2 : Int32) (v3 : Int32) (v4 : Int32) (v5 : Int32) (M : Mem), Ow w D T h M0 M → w_Model_putMethod_L295 this Q n v1 v2 v3 v4 v5 M → w_Model_putMethod_L295 this Q' n v1 v2 v3 v4 v5 M
  | 0, _, _, _, _, _, _ => fun  _ h => h
  | n + 1, v1, v2, v3, v4, v5, M => fun  hf => by
    unfold w_Model_putMethod_L295
    exact (mf_ite (Exists.imp fun n63 => (mo_w_Model_putMethod_L359 hD n0 lQ hQ _ _ _ _ _ _ _  hf)) (Exists.imp fun i64 => (mf_and fun e1 => (mf_and fun _ => (mf_and fun _ => (Exists.imp fun M67 => (mf_and fun e3 => (have g4 : Ow w D T _ M0 M67 := Ow.of e3 (Ow.wI (ow0 rfl) hf); (Exists.imp fun i68 => (mf_and fun e5 => (mf_and fun _ => (mf_and fun _ => (Exists.imp fun M71 => (mf_and fun e7 => (have g8 : Ow w D T _ M0 M71 := Ow.of e7 (Ow.wI (ow0 rfl) g4); (Exists.imp fun i72 => (mf_and fun e9 => (mf_and fun _ => (mf_and fun _ => (Exists.imp fun M75 => (mf_and fun e11 => (have g12 : Ow w D T _ M0 M75 := Ow.of e11 (Ow.wI (ow0 rfl) g8); (mo_w_Model_putMethod_L295 hD n0 lQ hQ _ _ _ _ _ _ _  g12)))))))))))))))))))))))
set_option maxRecDepth 20000 in
theorem mo_w_Model_putMethod_j283 {w : Nat} {D : Nat → Nat → Prop} {T : Nat → Prop} {h : Hot} {this : Nat} {Q Q' : Mem → Prop} {h_Q : Hot} {k175 k175' : Int32 → Int32 → Int32 → Int32 → Int32 → Mem → Prop} {h_k175 : Hot} {v1 : Int32} {v2 : Int32} {v3 : Int32} {v4 : Int32} {v5 : Int32} {M : Mem} {M0 : Mem} (hD : Dok w D)  (lQ : ∀ t, h_Q t = true → h t = true) (hQ : ∀ z0, Ow w D T h_Q M0 z0 → Q z0 → Q' z0) (lk175 : ∀ t, h_k175 t = true → h t = true) (hk175 : ∀ z0 z1 z2 z3 z4 z5, Ow w D T h_k175 M0 z5 → k175 z0 z1 z2 z3 z4 z5 → k175' z0 z1 z2 z3 z4 z5) : Ow w D T h M0 M → w_Model_putMethod_j283 this Q k175 v1 v2 v3 v4 v5 M → w_Model_putMethod_j283 this Q' k175' v1 v2 v3 v4 v5 M := by
  intro hf
  unfold w_Model_putMethod_j283
  exact (hk175 _ _ _ _ _ _  (Ow.dn lk175 hf))
set_option maxRecDepth 20000 in
theorem mo_w_Model_putMethod_L228 {w : Nat} {D : Nat → Nat → Prop} {T : Nat → Prop} {h : Hot} {this : Nat} {Q Q' : Mem → Prop} {h_Q : Hot} {k175 k175' : Int32 → Int32 → Int32 → Int32 → Int32 → Mem → Prop} {h_k175 : Hot} {M0 : Mem} (hD : Dok w D)  (lQ : ∀ t, h_Q t = true → h t = true) (hQ : ∀ z0, Ow w D T h_Q M0 z0 → Q z0 → Q' z0) (lk175 : ∀ t, h_k175 t = true → h t = true) (hk175 : ∀ z0 z1 z2 z3 z4 z5, Ow w D T h_k175 M0 z5 → k175 z0 z1 z2 z3 z4 z5 → k175' z0 z1 z2 z3 z4 z5) : ∀ (n : Nat) (v1 : Int32) (v2 : Int32) (v3 : Int32) (v4 : Int32) (v5 : Int32) (v6 : Int32) (v7 : Int32) (M : Mem), Ow w D T h M0 M → w_Model_putMethod_L228 this Q k175 n v1 v2 v3 v4 v5 v6 v7 M → w_Model_putMethod_L228 this Q' k175' n v1 v2 v3 v4 v5 v6 v7 M
  | 0, _, _, _, _, _, _, _, _ => fun  _ h => h
  | n + 1, v1, v2, v3, v4, v5, v6, v7, M => fun  hf => by
    unfold w_Model_putMethod_L228
    exact (mf_ite (Exists.imp fun i82 => (mf_and fun e1 => (Exists.imp fun i83 => (mf_and fun e3 => (mf_and fun _ => (mf_ite (mo_w_Model_putMethod_j283 hD  lQ hQ lk175 hk175 hf) (Exists.imp fun i86 => (mf_and fun e5 => (Exists.imp fun i87 => (mf_and fun e7 => (Exists.imp fun i88 => (mf_and fun e9 => (Exists.imp fun i89 => (mf_and fun e11 => (mf_and fun _ => (mf_and fun _ => (mf_and fun _ => (Exists.imp fun M93 => (mf_and fun e13 => (have g14 : Ow w D T _ M0 M93 := Ow.of e13 (Ow.wI (ow0 rfl) hf); (mo_w_Model_putMethod_L228 hD  lQ hQ lk175 hk175 _ _ _ _ _ _ _ _ _  g14))))))))))))))))))))) (mo_w_Model_putMethod_j283 hD  lQ hQ lk175 hk175 hf))
set_option maxRecDepth 20000 in
theorem mo_w_Model_putMethod_j225 {w : Nat} {D : Nat → Nat → Prop} {T : Nat → Prop} {h : Hot} {this : Nat} {Q Q' : Mem → Prop} {h_Q : Hot} {k175 k175' : Int32 → Int32 → Int32 → Int32 → Int32 → Mem → Prop} {h_k175 : Hot} {v1 : Int32} {v2 : Int32} {v3 : Int32} {v4 : Int32} {v5 : Int32} {v6 : Int32} {M : Mem} {M0 : Mem} (hD : Dok w D)  (lQ : ∀ t, h_Q t = true → h t = true) (hQ : ∀ z0, Ow w D T h_Q M0 z0 → Q z0 → Q' z0) (lk175 : ∀ t, h_k175 t = true → h t = true) (hk175 : ∀ z0 z1 z2 z3 z4 z5, Ow w D T h_k175 M0 z5 → k175 z0 z1 z2 z3 z4 z5 → k175' z0 z1 z2 z3 z4 z5) : Ow w D T h M0 M → w_Model_putMethod_j225 this Q k175 v1 v2 v3 v4 v5 v6 M → w_Model_putMethod_j225 this Q' k175' v1 v2 v3 v4 v5 v6 M := by
  intro hf
  unfold w_Model_putMethod_j225
  exact (Exists.imp fun n94 => (mo_w_Model_putMethod_L228 hD  lQ hQ lk175 hk175 _ _ _ _ _ _ _ _ _  hf))
set_option maxRecDepth 20000 in
theorem mo_w_Model_putMethod_L175 {w : Nat} {D : Nat → Nat → Prop} {T : Nat → Prop} {h : Hot} {this : Nat} {Q Q' : Mem → Prop} {h_Q : Hot} {M0 : Mem} (hD : Dok w D) (n0 : ow w D 11 this) (lQ : ∀ t, h_Q t = true → h t = true) (hQ : ∀ z0, Ow w D T h_Q M0 z0 → Q z0 → Q' z0) : ∀ (n : Nat) (v1 : Int32) (v2 : Int32) (v3 : Int32) (v4 : Int32) (v5 : Int32) (M : Mem), Ow w D T h M0 M → w_Model_putMethod_L175 this Q n v1 v2 v3 v4 v5 M → w_Model_putMethod_L175 this Q' n v1 v2 v3 v4 v5 M
  | 0, _, _, _, _, _, _ => fun  _ h => h
  | n + 1, v1, v2, v3, v4, v5, M => fun  hf => by
    unfold w_Model_putMethod_L175
    exact (mf_ite (Exists.imp fun n76 => (mo_w_Model_putMethod_L295 hD n0 lQ hQ _ _ _ _ _ _ _  hf)) (Exists.imp fun i77 => (mf_and fun e1 => (Exists.imp fun i78 => (mf_and fun e3 => (mf_and fun _ => (mf_ite (mo_w_Model_putMethod_j225 hD  lQ hQ (fun _ e => e) (fun y0 y1 y2 y3 y4 y5  hf => mo_w_Model_putMethod_L175 hD n0 lQ hQ n y0 y1 y2 y3 y4 y5  hf) hf) (mf_ite (mo_w_Model_putMethod_j225 hD  lQ hQ (fun _ e => e) (fun y0 y1 y2 y3 y4 y5  hf => mo_w_Model_putMethod_L175 hD n0 lQ hQ n y0 y1 y2 y3 y4 y5  hf) hf) (Exists.imp fun i96 => (mf_and fun e5 => (Exists.imp fun i97 => (mf_and fun e7 => (mf_and fun _ => (mf_and fun _ => (Exists.imp fun M100 => (mf_and fun e9 => (have g10 : Ow w D T _ M0 M100 := Ow.of e9 (Ow.wI (ow0 rfl) hf); (mo_w_Model_putMethod_j225 hD  lQ hQ (fun _ e => e) (fun y0 y1 y2 y3 y4 y5  hf => mo_w_Model_putMethod_L175 hD n0 lQ hQ n y0 y1 y2 y3 y4 y5  hf) g10))))))))))))))))))
set_option maxRecDepth 20000 in
theorem mo_w_Model_putMethod_L152 {w : Nat} {D : Nat → Nat → Prop} {T : Nat → Prop} {h : Hot} {this : Nat} {Q Q' : Mem → Prop} {h_Q : Hot} {M0 : Mem} (hD : Dok w D) (n0 : ow w D 11 this) (lQ : ∀ t, h_Q t = true → h t = true) (hQ : ∀ z0, Ow w D T h_Q M0 z0 → Q z0 → Q' z0) : ∀ (n : Nat) (v1 : Int32) (v2 : Int32) (v3 : Int32) (v4 : Int32) (v5 : Int32) (M : Mem), Ow w D T h M0 M → w_Model_putMethod_L152 this Q n v1 v2 v3 v4 v5 M → w_Model_putMethod_L152 this Q' n v1 v2 v3 v4 v5 M
  | 0, _, _, _, _, _, _ => fun  _ h => h
  | n + 1, v1, v2, v3, v4, v5, M => fun  hf => by
    unfold w_Model_putMethod_L152
    exact (mf_ite (Exists.imp fun n101 => (mo_w_Model_putMethod_L175 hD n0 lQ hQ _ _ _ _ _ _ _  hf)) (mf_and fun _ => (have g1 : Ow w D T _ M0 (sI M 518 this v5.toNatClampNeg ((0 : Int32) &&& 1)) := (Ow.wI (ow0 rfl) hf); (mo_w_Model_putMethod_L152 hD n0 lQ hQ _ _ _ _ _ _ _  g1))))
set_option maxRecDepth 20000 in
theorem mo_w_Model_putMethod {w : Nat} {D : Nat → Nat → Prop} {T : Nat → Prop} {h : Hot} {this : Nat} {a1 : Int32} {Q Q' : Mem → Prop} {M : Mem} (hD : Dok w D) (n0 : ow w D 11 this) (hQ : ∀ z0, Ow w D T h M z0 → Q z0 → Q' z0) : St w D T h M → w_Model_putMethod this a1 Q M → w_Model_putMethod this a1 Q' M := by
  intro hs
  unfold w_Model_putMethod
  exact (mo_w_Model_putWord hD n0 (fun M1 f1 => (have g2 : Ow w D T _ M M1 := (Ow.trans (Ow.rf hs) f1); (Exists.imp fun i2 => (mf_and fun e3 => (mf_and fun _ => (mo_w_Model_putFlags hD n0 (fun M4 f5 => (have g6 : Ow w D T _ M M4 := (Ow.trans g2 f5); (Exists.imp fun i5 => (mf_and fun e7 => (mf_and fun _ => (mo_w_Model_putName hD n0 (fun M7 f9 => (have g10 : Ow w D T _ M M7 := (Ow.trans g6 f9); (Exists.imp fun i8 => (mf_and fun e11 => (mf_and fun _ => (mo_w_Model_putSignature hD n0 (fun M10 f13 => (have g14 : Ow w D T _ M M10 := (Ow.trans g10 f13); (mo_w_Model_put hD n0 (fun M11 f15 => (have g16 : Ow w D T _ M M11 := (Ow.trans g14 f15); (Exists.imp fun i12 => (mf_and fun e17 => (mf_and fun _ => (mf_ite (mo_w_Model_putWord hD n0 (fun M15 f19 => (have g20 : Ow w D T _ M M15 := (Ow.trans g16 f19); (Exists.imp fun i16 => (mf_and fun e21 => (mf_and fun _ => (mo_w_Model_putNumber hD n0 (fun M18 f23 => (have g24 : Ow w D T _ M M18 := (Ow.trans g20 f23); (mo_w_Model_put hD n0 (fun M19 f25 => (have g26 : Ow w D T _ M M19 := (Ow.trans g24 f25); (Exists.imp fun i20 => (mf_and fun e27 => (mf_and fun _ => (mo_w_Model_putNumber hD n0 (fun M22 f29 => (have g30 : Ow w D T _ M M22 := (Ow.trans g26 f29); (mo_w_Model_put hD n0 (fun M23 f31 => (have g32 : Ow w D T _ M M23 := (Ow.trans g30 f31); (Exists.imp fun i24 => (mf_and fun e33 => (mf_and fun _ => (Exists.imp fun i26 => (mf_and fun e35 => (mf_and fun _ => (Exists.imp fun i28 => (mf_and fun e37 => (mf_and fun _ => (Exists.imp fun n103 => (mo_w_Model_putMethod_L152 hD n0 (fun _ e => e) hQ _ _ _ _ _ _ _  g32))))))))))))) g30.1))) g26.1)))))) g24.1))) g20.1)))))) g16.1) (hQ _  g16))))))) g14.1))) g10.1)))))) g6.1)))))) g2.1)))))) (Ow.rf hs).1)
set_option maxRecDepth 20000 in
theorem mo_w_Model_print_L325 {w : Nat} {D : Nat → Nat → Prop} {T : Nat → Prop} {h : Hot} {this : Nat} {Q Q' : Int32 → Mem → Prop} {h_Q : Hot} {M0 : Mem} (hD : Dok w D) (n0 : ow w D 11 this) (lQ : ∀ t, h_Q t = true → h t = true) (hQ : ∀ z0 z1, Ow w D T h_Q M0 z1 → Q z0 z1 → Q' z0 z1) : ∀ (n : Nat) (v2 : Int32) (v3 : Int32) (M : Mem), Ow w D T h M0 M → w_Model_print_L325 this Q n v2 v3 M → w_Model_print_L325 this Q' n v2 v3 M
  | 0, _, _, _ => fun  _ h => h
  | n + 1, v2, v3, M => fun  hf => by
    unfold w_Model_print_L325
    exact (Exists.imp fun i34 => (mf_and fun e1 => (mf_and fun _ => (mf_ite (mo_w_Model_putWord hD n0 (fun M37 f3 => (have g4 : Ow w D T _ M0 M37 := (Ow.trans hf f3); (mo_w_Model_put hD n0 (fun M38 f5 => (have g6 : Ow w D T _ M0 M38 := (Ow.trans g4 f5); (hQ _ _  (Ow.dn lQ g6)))) g4.1))) hf.1) (mo_w_Model_putMethod hD n0 (fun M39 f7 => (have g8 : Ow w D T _ M0 M39 := (Ow.trans hf f7); (mo_w_Model_print_L325 hD n0 lQ hQ _ _ _ _  g8))) hf.1)))))
set_option maxRecDepth 20000 in
theorem mo_w_Model_print_j308 {w : Nat} {D : Nat → Nat → Prop} {T : Nat → Prop} {h : Hot} {this : Nat} {Q Q' : Int32 → Mem → Prop} {h_Q : Hot} {k206 k206' : Int32 → Int32 → Mem → Prop} {h_k206 : Hot} {v2 : Int32} {v3 : Int32} {M : Mem} {M0 : Mem} (hD : Dok w D) (n0 : ow w D 11 this) (lQ : ∀ t, h_Q t = true → h t = true) (hQ : ∀ z0 z1, Ow w D T h_Q M0 z1 → Q z0 z1 → Q' z0 z1) (lk206 : ∀ t, h_k206 t = true → h t = true) (hk206 : ∀ z0 z1 z2, Ow w D T h_k206 M0 z2 → k206 z0 z1 z2 → k206' z0 z1 z2) : Ow w D T h M0 M → w_Model_print_j308 this Q k206 v2 v3 M → w_Model_print_j308 this Q' k206' v2 v3 M := by
  intro hf
  unfold w_Model_print_j308
  exact (mo_w_Model_put hD n0 (fun M55 f1 => (have g2 : Ow w D T _ M0 M55 := (Ow.trans hf f1); (hk206 _ _ _  (Ow.dn lk206 g2)))) hf.1)
set_option maxRecDepth 20000 in
theorem mo_w_Model_print_L206 {w : Nat} {D : Nat → Nat → Prop} {T : Nat → Prop} {h : Hot} {this : Nat} {Q Q' : Int32 → Mem → Prop} {h_Q : Hot} {M0 : Mem} (hD : Dok w D) (n0 : ow w D 11 this) (lQ : ∀ t, h_Q t = true → h t = true) (hQ : ∀ z0 z1, Ow w D T h_Q M0 z1 → Q z0 z1 → Q' z0 z1) : ∀ (n : Nat) (v2 : Int32) (v3 : Int32) (M : Mem), Ow w D T h M0 M → w_Model_print_L206 this Q n v2 v3 M → w_Model_print_L206 this Q' n v2 v3 M
  | 0, _, _, _ => fun  _ h => h
  | n + 1, v2, v3, M => fun  hf => by
    unfold w_Model_print_L206
    exact (Exists.imp fun i31 => (mf_and fun e1 => (mf_and fun _ => (mf_ite (Exists.imp fun n40 => (mo_w_Model_print_L325 hD n0 lQ hQ _ _ _ _  hf)) (mo_w_Model_putWord hD n0 (fun M41 f3 => (have g4 : Ow w D T _ M0 M41 := (Ow.trans hf f3); (Exists.imp fun i42 => (mf_and fun e5 => (mf_and fun _ => (mo_w_Model_putFlags hD n0 (fun M44 f7 => (have g8 : Ow w D T _ M0 M44 := (Ow.trans g4 f7); (Exists.imp fun i45 => (mf_and fun e9 => (mf_and fun _ => (mo_w_Model_putName hD n0 (fun M47 f11 => (have g12 : Ow w D T _ M0 M47 := (Ow.trans g8 f11); (mo_w_Model_put hD n0 (fun M48 f13 => (have g14 : Ow w D T _ M0 M48 := (Ow.trans g12 f13); (Exists.imp fun i49 => (mf_and fun e15 => (mf_and fun _ => (mo_w_Model_putType hD n0 (fun M51 f17 => (have g18 : Ow w D T _ M0 M51 := (Ow.trans g14 f17); (Exists.imp fun i52 => (mf_and fun e19 => (mf_and fun _ => (mf_ite (mo_w_Model_print_j308 hD n0 lQ hQ (fun _ e => e) (fun y0 y1 y2  hf => mo_w_Model_print_L206 hD n0 lQ hQ n y0 y1 y2  hf) g18) (mo_w_Model_putWord hD n0 (fun M56 f21 => (have g22 : Ow w D T _ M0 M56 := (Ow.trans g18 f21); (Exists.imp fun i57 => (mf_and fun e23 => (mf_and fun _ => (mo_w_Model_putNumber hD n0 (fun M59 f25 => (have g26 : Ow w D T _ M0 M59 := (Ow.trans g22 f25); (mo_w_Model_print_j308 hD n0 lQ hQ (fun _ e => e) (fun y0 y1 y2  hf => mo_w_Model_print_L206 hD n0 lQ hQ n y0 y1 y2  hf) g26))) g22.1)))))) g18.1))))))) g14.1)))))) g12.1))) g8.1)))))) g4.1)))))) hf.1)))))
set_option maxRecDepth 20000 in
theorem mo_w_Model_print_L152 {w : Nat} {D : Nat → Nat → Prop} {T : Nat → Prop} {h : Hot} {this : Nat} {Q Q' : Int32 → Mem → Prop} {h_Q : Hot} {M0 : Mem} (hD : Dok w D) (n0 : ow w D 11 this) (lQ : ∀ t, h_Q t = true → h t = true) (hQ : ∀ z0 z1, Ow w D T h_Q M0 z1 → Q z0 z1 → Q' z0 z1) : ∀ (n : Nat) (v2 : Int32) (v3 : Int32) (M : Mem), Ow w D T h M0 M → w_Model_print_L152 this Q n v2 v3 M → w_Model_print_L152 this Q' n v2 v3 M
  | 0, _, _, _ => fun  _ h => h
  | n + 1, v2, v3, M => fun  hf => by
    unfold w_Model_print_L152
    exact (Exists.imp fun i27 => (mf_and fun e1 => (mf_and fun _ => (mf_ite (mo_w_Model_put hD n0 (fun M30 f3 => (have g4 : Ow w D T _ M0 M30 := (Ow.trans hf f3); (Exists.imp fun n60 => (mo_w_Model_print_L206 hD n0 lQ hQ _ _ _ _  g4)))) hf.1) (mo_w_Model_putWord hD n0 (fun M61 f5 => (have g6 : Ow w D T _ M0 M61 := (Ow.trans hf f5); (Exists.imp fun i62 => (mf_and fun e7 => (mf_and fun _ => (mo_w_Model_putName hD n0 (fun M64 f9 => (have g10 : Ow w D T _ M0 M64 := (Ow.trans g6 f9); (mo_w_Model_print_L152 hD n0 lQ hQ _ _ _ _  g10))) g6.1)))))) hf.1)))))
set_option maxRecDepth 20000 in
theorem mo_w_Model_print_j104 {w : Nat} {D : Nat → Nat → Prop} {T : Nat → Prop} {h : Hot} {this : Nat} {Q Q' : Int32 → Mem → Prop} {h_Q : Hot} {v2 : Int32} {s0 : Int32} {M : Mem} {M0 : Mem} (hD : Dok w D) (n0 : ow w D 11 this) (lQ : ∀ t, h_Q t = true → h t = true) (hQ : ∀ z0 z1, Ow w D T h_Q M0 z1 → Q z0 z1 → Q' z0 z1) : Ow w D T h M0 M → w_Model_print_j104 this Q v2 s0 M → w_Model_print_j104 this Q' v2 s0 M := by
  intro hf
  unfold w_Model_print_j104
  exact (mo_w_Model_putFlag hD n0 (fun M18 f1 => (have g2 : Ow w D T _ M0 M18 := (Ow.trans hf f1); (mo_w_Model_putWord hD n0 (fun M19 f3 => (have g4 : Ow w D T _ M0 M19 := (Ow.trans g2 f3); (Exists.imp fun i20 => (mf_and fun e5 => (mf_and fun _ => (mo_w_Model_putName hD n0 (fun M22 f7 => (have g8 : Ow w D T _ M0 M22 := (Ow.trans g4 f7); (mo_w_Model_putWord hD n0 (fun M23 f9 => (have g10 : Ow w D T _ M0 M23 := (Ow.trans g8 f9); (Exists.imp fun i24 => (mf_and fun e11 => (mf_and fun _ => (mo_w_Model_putName hD n0 (fun M26 f13 => (have g14 : Ow w D T _ M0 M26 := (Ow.trans g10 f13); (Exists.imp fun n65 => (mo_w_Model_print_L152 hD n0 lQ hQ _ _ _ _  g14)))) g10.1)))))) g8.1))) g4.1)))))) g2.1))) hf.1)
set_option maxRecDepth 20000 in
theorem mo_w_Model_print_j78 {w : Nat} {D : Nat → Nat → Prop} {T : Nat → Prop} {h : Hot} {this : Nat} {Q Q' : Int32 → Mem → Prop} {h_Q : Hot} {v2 : Int32} {s0 : Int32} {M : Mem} {M0 : Mem} (hD : Dok w D) (n0 : ow w D 11 this) (lQ : ∀ t, h_Q t = true → h t = true) (hQ : ∀ z0 z1, Ow w D T h_Q M0 z1 → Q z0 z1 → Q' z0 z1) : Ow w D T h M0 M → w_Model_print_j78 this Q v2 s0 M → w_Model_print_j78 this Q' v2 s0 M := by
  intro hf
  unfold w_Model_print_j78
  exact (mo_w_Model_putFlag hD n0 (fun M14 f1 => (have g2 : Ow w D T _ M0 M14 := (Ow.trans hf f1); (Exists.imp fun i15 => (mf_and fun e3 => (mf_and fun _ => (mf_ite (mo_w_Model_print_j104 hD n0 lQ hQ g2) (mo_w_Model_print_j104 hD n0 lQ hQ g2))))))) hf.1)
set_option maxRecDepth 20000 in
theorem mo_w_Model_print_j52 {w : Nat} {D : Nat → Nat → Prop} {T : Nat → Prop} {h : Hot} {this : Nat} {Q Q' : Int32 → Mem → Prop} {h_Q : Hot} {v2 : Int32} {s0 : Int32} {M : Mem} {M0 : Mem} (hD : Dok w D) (n0 : ow w D 11 this) (lQ : ∀ t, h_Q t = true → h t = true) (hQ : ∀ z0 z1, Ow w D T h_Q M0 z1 → Q z0 z1 → Q' z0 z1) : Ow w D T h M0 M → w_Model_print_j52 this Q v2 s0 M → w_Model_print_j52 this Q' v2 s0 M := by
  intro hf
  unfold w_Model_print_j52
  exact (mo_w_Model_putFlag hD n0 (fun M10 f1 => (have g2 : Ow w D T _ M0 M10 := (Ow.trans hf f1); (Exists.imp fun i11 => (mf_and fun e3 => (mf_and fun _ => (mf_ite (mo_w_Model_print_j78 hD n0 lQ hQ g2) (mo_w_Model_print_j78 hD n0 lQ hQ g2))))))) hf.1)
set_option maxRecDepth 20000 in
theorem mo_w_Model_print {w : Nat} {D : Nat → Nat → Prop} {T : Nat → Prop} {h : Hot} {this : Nat} {a1 : Int32} {a2 : Int32} {Q Q' : Int32 → Mem → Prop} {M : Mem} (hD : Dok w D) (n0 : ow w D 11 this) (n1 : T (1000 + a1.toNatClampNeg)) (hQ : ∀ z0 z1, Ow w D T h M z1 → Q z0 z1 → Q' z0 z1) : St w D T h M → w_Model_print this a1 a2 Q M → w_Model_print this a1 a2 Q' M := by
  intro hs
  unfold w_Model_print
  exact (mo_w_Model_isClass hD  (fun r2 M1 f1 => (have g2 : Ow w D T _ M M1 := (Ow.trans (Ow.rf hs) f1); (mf_ite (hQ _ _  g2) (mf_ite (mf_and fun _ => (Exists.imp fun i6 => (mf_and fun e3 => (have o4 : ow w D 12 i6 := (Ow.rT e3 rfl n1 g2); (Exists.imp fun i7 => (mf_and fun e5 => (mf_and fun _ => (mf_ite (have g7 : Ow w D T _ M (sI (sR M1 11 this 45 (some (12, i6))) 11 this 95 (0 : Int32)) := (Ow.wI n0 (Ow.wRh rfl n0 o4 g2)); (mo_w_Model_print_j52 hD n0 (leU (fun _ e => e)) hQ g7)) (have g8 : Ow w D T _ M (sI (sR M1 11 this 45 (some (12, i6))) 11 this 95 (0 : Int32)) := (Ow.wI n0 (Ow.wRh rfl n0 o4 g2)); (mo_w_Model_print_j52 hD n0 (leU (fun _ e => e)) hQ g8)))))))))) (hQ _ _  g2))))) (Ow.rf hs).1)
set_option maxRecDepth 20000 in
theorem mo_w_Model_written {w : Nat} {D : Nat → Nat → Prop} {T : Nat → Prop} {h : Hot} {this : Nat} {a1 : Int32} {Q Q' : Int32 → Mem → Prop} {M : Mem} (hD : Dok w D)  (hQ : ∀ z0 z1, Ow w D T h M z1 → Q z0 z1 → Q' z0 z1) : St w D T h M → w_Model_written this a1 Q M → w_Model_written this a1 Q' M := by
  intro hs
  unfold w_Model_written
  exact (mf_ite (hQ _ _  (Ow.rf hs)) (mf_ite (Exists.imp fun i3 => (mf_and fun e1 => (mf_and fun _ => (hQ _ _  (Ow.rf hs))))) (hQ _ _  (Ow.rf hs))))
set_option maxRecDepth 20000 in
theorem mo_w_Model_isUp_L5 {w : Nat} {D : Nat → Nat → Prop} {T : Nat → Prop} {h : Hot} {this : Nat} {Q Q' : Int32 → Mem → Prop} {h_Q : Hot} {M0 : Mem} (hD : Dok w D)  (lQ : ∀ t, h_Q t = true → h t = true) (hQ : ∀ z0 z1, Ow w D T h_Q M0 z1 → Q z0 z1 → Q' z0 z1) : ∀ (n : Nat) (v1 : Int32) (v3 : Int32) (v4 : Int32) (M : Mem), Ow w D T h M0 M → w_Model_isUp_L5 this Q n v1 v3 v4 M → w_Model_isUp_L5 this Q' n v1 v3 v4 M
  | 0, _, _, _, _ => fun  _ h => h
  | n + 1, v1, v3, v4, M => fun  hf => by
    unfold w_Model_isUp_L5
    exact (mf_ite (hQ _ _  (Ow.dn lQ hf)) (mf_ite (hQ _ _  (Ow.dn lQ hf)) (mf_ite (hQ _ _  (Ow.dn lQ hf)) (mo_w_Model_parentOf hD  (fun r5 M4 f1 => (have g2 : Ow w D T _ M0 M4 := (Ow.trans hf f1); (mo_w_Model_isUp_L5 hD  lQ hQ _ _ _ _ _  g2))) hf.1))))
set_option maxRecDepth 20000 in
theorem mo_w_Model_isUp {w : Nat} {D : Nat → Nat → Prop} {T : Nat → Prop} {h : Hot} {this : Nat} {a1 : Int32} {a2 : Int32} {Q Q' : Int32 → Mem → Prop} {M : Mem} (hD : Dok w D)  (hQ : ∀ z0 z1, Ow w D T h M z1 → Q z0 z1 → Q' z0 z1) : St w D T h M → w_Model_isUp this a1 a2 Q M → w_Model_isUp this a1 a2 Q' M := by
  intro hs
  unfold w_Model_isUp
  exact (Exists.imp fun n6 => (mo_w_Model_isUp_L5 hD  (fun _ e => e) hQ _ _ _ _ _  (Ow.rf hs)))
set_option maxRecDepth 20000 in
theorem mo_w_Model_joined_j33 {w : Nat} {D : Nat → Nat → Prop} {T : Nat → Prop} {h : Hot} {this : Nat} {Q Q' : Int32 → Mem → Prop} {h_Q : Hot} {v1 : Int32} {v2 : Int32} {M : Mem} {M0 : Mem} (hD : Dok w D)  (lQ : ∀ t, h_Q t = true → h t = true) (hQ : ∀ z0 z1, Ow w D T h_Q M0 z1 → Q z0 z1 → Q' z0 z1) : Ow w D T h M0 M → w_Model_joined_j33 this Q v1 v2 M → w_Model_joined_j33 this Q' v1 v2 M := by
  intro hf
  unfold w_Model_joined_j33
  exact (mf_ite (hQ _ _  (Ow.dn lQ hf)) (hQ _ _  (Ow.dn lQ hf)))
set_option maxRecDepth 20000 in
theorem mo_w_Model_joined_L84 {w : Nat} {D : Nat → Nat → Prop} {T : Nat → Prop} {h : Hot} {this : Nat} {Q Q' : Int32 → Mem → Prop} {h_Q : Hot} {M0 : Mem} (hD : Dok w D)  (lQ : ∀ t, h_Q t = true → h t = true) (hQ : ∀ z0 z1, Ow w D T h_Q M0 z1 → Q z0 z1 → Q' z0 z1) : ∀ (n : Nat) (v3 : Int32) (v4 : Int32) (v5 : Int32) (M : Mem), Ow w D T h M0 M → w_Model_joined_L84 this Q n v3 v4 v5 M → w_Model_joined_L84 this Q' n v3 v4 v5 M
  | 0, _, _, _, _ => fun  _ h => h
  | n + 1, v3, v4, v5, M => fun  hf => by
    unfold w_Model_joined_L84
    exact (mf_ite (hQ _ _  (Ow.dn lQ hf)) (mf_ite (hQ _ _  (Ow.dn lQ hf)) (mf_ite (hQ _ _  (Ow.dn lQ hf)) (mo_w_Model_isUp hD  (fun r21 M20 f1 => (have g2 : Ow w D T _ M0 M20 := (Ow.trans hf f1); (mf_ite (mo_w_Model_parentOf hD  (fun r24 M23 f3 => (have g4 : Ow w D T _ M0 M23 := (Ow.trans g2 f3); (mo_w_Model_joined_L84 hD  lQ hQ _ _ _ _ _  g4))) g2.1) (Exists.imp fun i25 => (mf_and fun e5 => (mf_and fun _ => (hQ _ _  (Ow.dn lQ g2)))))))) hf.1))))
set_option maxRecDepth 20000 in
theorem mo_w_Model_joined {w : Nat} {D : Nat → Nat → Prop} {T : Nat → Prop} {h : Hot} {this : Nat} {a1 : Int32} {a2 : Int32} {Q Q' : Int32 → Mem → Prop} {M : Mem} (hD : Dok w D)  (hQ : ∀ z0 z1, Ow w D T h M z1 → Q z0 z1 → Q' z0 z1) : St w D T h M → w_Model_joined this a1 a2 Q M → w_Model_joined this a1 a2 Q' M := by
  intro hs
  unfold w_Model_joined
  exact (mf_ite (hQ _ _  (Ow.rf hs)) (mo_w_Model_isRef hD  (fun r3 M2 f1 => (have g2 : Ow w D T _ M M2 := (Ow.trans (Ow.rf hs) f1); (mf_ite (hQ _ _  g2) (mo_w_Model_isRef hD  (fun r6 M5 f3 => (have g4 : Ow w D T _ M M5 := (Ow.trans g2 f3); (mf_ite (hQ _ _  g4) (mf_ite (mo_w_Model_joined_j33 hD  (fun _ e => e) hQ g4) (mf_ite (mo_w_Model_joined_j33 hD  (fun _ e => e) hQ g4) (mf_ite (hQ _ _  g4) (mf_ite (hQ _ _  g4) (mo_w_Model_classOf hD  (fun r14 M13 f5 => (have g6 : Ow w D T _ M M13 := (Ow.trans g4 f5); (mo_w_Model_classOf hD  (fun r16 M15 f7 => (have g8 : Ow w D T _ M M15 := (Ow.trans g6 f7); (Exists.imp fun n27 => (mo_w_Model_joined_L84 hD  (fun _ e => e) hQ _ _ _ _ _  g8)))) g6.1))) g4.1)))))))) g2.1)))) (Ow.rf hs).1))
set_option maxRecDepth 20000 in
theorem mo_w_Model_join_j307 {w : Nat} {D : Nat → Nat → Prop} {T : Nat → Prop} {h : Hot} {this : Nat} {Q Q' : Int32 → Mem → Prop} {h_Q : Hot} {k269 k269' : Int32 → Int32 → Int32 → Mem → Prop} {h_k269 : Hot} {v1 : Int32} {v3 : Int32} {v4 : Int32} {s0 : Int32} {s1 : Int32} {M : Mem} {M0 : Mem} (hD : Dok w D) (n0 : ow w D 11 this) (lQ : ∀ t, h_Q t = true → h t = true) (hQ : ∀ z0 z1, Ow w D T h_Q M0 z1 → Q z0 z1 → Q' z0 z1) (lk269 : ∀ t, h_k269 t = true → h t = true) (hk269 : ∀ z0 z1 z2 z3, Ow w D T h_k269 M0 z3 → k269 z0 z1 z2 z3 → k269' z0 z1 z2 z3) : Ow w D T h M0 M → w_Model_join_j307 this Q k269 v1 v3 v4 s0 s1 M → w_Model_join_j307 this Q' k269' v1 v3 v4 s0 s1 M := by
  intro hf
  unfold w_Model_join_j307
  exact (mf_and fun _ => (mf_and fun _ => (mf_and fun _ => (Exists.imp fun M31 => (mf_and fun e1 => (have g2 : Ow w D T _ M0 M31 := Ow.of e1 (Ow.wI (ow0 rfl) (Ow.wI n0 hf)); (hk269 _ _ _ _  (Ow.dn lk269 g2))))))))
set_option maxRecDepth 20000 in
theorem mo_w_Model_join_L269 {w : Nat} {D : Nat → Nat → Prop} {T : Nat → Prop} {h : Hot} {this : Nat} {Q Q' : Int32 → Mem → Prop} {h_Q : Hot} {M0 : Mem} (hD : Dok w D) (n0 : ow w D 11 this) (lQ : ∀ t, h_Q t = true → h t = true) (hQ : ∀ z0 z1, Ow w D T h_Q M0 z1 → Q z0 z1 → Q' z0 z1) : ∀ (n : Nat) (v1 : Int32) (v3 : Int32) (v4 : Int32) (M : Mem), Ow w D T h M0 M → w_Model_join_L269 this Q n v1 v3 v4 M → w_Model_join_L269 this Q' n v1 v3 v4 M
  | 0, _, _, _, _ => fun  _ h => h
  | n + 1, v1, v3, v4, M => fun  hf => by
    unfold w_Model_join_L269
    exact (mf_ite (hQ _ _  (Ow.dn lQ hf)) (mf_and fun _ => (mf_and fun _ => (mf_ite (mo_w_Model_join_j307 hD n0 lQ hQ (fun _ e => e) (fun y0 y1 y2 y3  hf => mo_w_Model_join_L269 hD n0 lQ hQ n y0 y1 y2 y3  hf) hf) (mo_w_Model_join_j307 hD n0 lQ hQ (fun _ e => e) (fun y0 y1 y2 y3  hf => mo_w_Model_join_L269 hD n0 lQ hQ n y0 y1 y2 y3  hf) hf)))))
set_option maxRecDepth 20000 in
theorem mo_w_Model_join_j237 {w : Nat} {D : Nat → Nat → Prop} {T : Nat → Prop} {h : Hot} {this : Nat} {Q Q' : Int32 → Mem → Prop} {h_Q : Hot} {k196 k196' : Int32 → Int32 → Int32 → Mem → Prop} {h_k196 : Hot} {v1 : Int32} {v3 : Int32} {v4 : Int32} {s0 : Int32} {s1 : Int32} {M : Mem} {M0 : Mem} (hD : Dok w D) (n0 : ow w D 11 this) (lQ : ∀ t, h_Q t = true → h t = true) (hQ : ∀ z0 z1, Ow w D T h_Q M0 z1 → Q z0 z1 → Q' z0 z1) (lk196 : ∀ t, h_k196 t = true → h t = true) (hk196 : ∀ z0 z1 z2 z3, Ow w D T h_k196 M0 z3 → k196 z0 z1 z2 z3 → k196' z0 z1 z2 z3) : Ow w D T h M0 M → w_Model_join_j237 this Q k196 v1 v3 v4 s0 s1 M → w_Model_join_j237 this Q' k196' v1 v3 v4 s0 s1 M := by
  intro hf
  unfold w_Model_join_j237
  exact (mf_and fun _ => (mf_and fun _ => (mf_and fun _ => (Exists.imp fun M39 => (mf_and fun e1 => (have g2 : Ow w D T _ M0 M39 := Ow.of e1 (Ow.wI (ow0 rfl) (Ow.wI n0 hf)); (hk196 _ _ _ _  (Ow.dn lk196 g2))))))))
set_option maxRecDepth 20000 in
theorem mo_w_Model_join_L196 {w : Nat} {D : Nat → Nat → Prop} {T : Nat → Prop} {h : Hot} {this : Nat} {Q Q' : Int32 → Mem → Prop} {h_Q : Hot} {M0 : Mem} (hD : Dok w D) (n0 : ow w D 11 this) (lQ : ∀ t, h_Q t = true → h t = true) (hQ : ∀ z0 z1, Ow w D T h_Q M0 z1 → Q z0 z1 → Q' z0 z1) : ∀ (n : Nat) (v1 : Int32) (v3 : Int32) (v4 : Int32) (M : Mem), Ow w D T h M0 M → w_Model_join_L196 this Q n v1 v3 v4 M → w_Model_join_L196 this Q' n v1 v3 v4 M
  | 0, _, _, _, _ => fun  _ h => h
  | n + 1, v1, v3, v4, M => fun  hf => by
    unfold w_Model_join_L196
    exact (mf_ite (Exists.imp fun n32 => (mo_w_Model_join_L269 hD n0 lQ hQ _ _ _ _ _  hf)) (mf_and fun _ => (mf_and fun _ => (mf_ite (mo_w_Model_join_j237 hD n0 lQ hQ (fun _ e => e) (fun y0 y1 y2 y3  hf => mo_w_Model_join_L196 hD n0 lQ hQ n y0 y1 y2 y3  hf) hf) (mo_w_Model_join_j237 hD n0 lQ hQ (fun _ e => e) (fun y0 y1 y2 y3  hf => mo_w_Model_join_L196 hD n0 lQ hQ n y0 y1 y2 y3  hf) hf)))))
set_option maxRecDepth 20000 in
theorem mo_w_Model_join_L141 {w : Nat} {D : Nat → Nat → Prop} {T : Nat → Prop} {h : Hot} {this : Nat} {Q Q' : Int32 → Mem → Prop} {h_Q : Hot} {M0 : Mem} (hD : Dok w D) (n0 : ow w D 11 this) (lQ : ∀ t, h_Q t = true → h t = true) (hQ : ∀ z0 z1, Ow w D T h_Q M0 z1 → Q z0 z1 → Q' z0 z1) : ∀ (n : Nat) (v1 : Int32) (v2 : Nat) (v3 : Int32) (v4 : Int32) (M : Mem), Ow w D T h M0 M → w_Model_join_L141 this Q n v1 v2 v3 v4 M → w_Model_join_L141 this Q' n v1 v2 v3 v4 M
  | 0, _, _, _, _, _ => fun  _ h => h
  | n + 1, v1, v2, v3, v4, M => fun  hf => by
    unfold w_Model_join_L141
    exact (mf_ite (Exists.imp fun n40 => (mo_w_Model_join_L196 hD n0 lQ hQ _ _ _ _ _  hf)) (mf_and fun _ => (mf_and fun _ => (mo_w_Model_joined hD  (fun r44 M43 f1 => (have g2 : Ow w D T _ M0 M43 := (Ow.trans hf f1); (mf_and fun _ => (mf_and fun _ => (mf_ite (hQ _ _  (Ow.dn lQ (Ow.wI (ow0 rfl) g2))) (have g3 : Ow w D T _ M0 (sI M43 118 this v4.toNatClampNeg r44) := (Ow.wI (ow0 rfl) g2); (mo_w_Model_join_L141 hD n0 lQ hQ _ _ _ _ _ _  g3))))))) hf.1))))
set_option maxRecDepth 20000 in
theorem mo_w_Model_join_j131 {w : Nat} {D : Nat → Nat → Prop} {T : Nat → Prop} {h : Hot} {this : Nat} {Q Q' : Int32 → Mem → Prop} {h_Q : Hot} {k80 k80' : Int32 → Nat → Int32 → Int32 → Mem → Prop} {h_k80 : Hot} {v1 : Int32} {v2 : Nat} {v3 : Int32} {v4 : Int32} {s0 : Int32} {s1 : Int32} {M : Mem} {M0 : Mem} (hD : Dok w D)  (lQ : ∀ t, h_Q t = true → h t = true) (hQ : ∀ z0 z1, Ow w D T h_Q M0 z1 → Q z0 z1 → Q' z0 z1) (lk80 : ∀ t, h_k80 t = true → h t = true) (hk80 : ∀ z0 z1 z2 z3 z4, Ow w D T h_k80 M0 z4 → k80 z0 z1 z2 z3 z4 → k80' z0 z1 z2 z3 z4) : Ow w D T h M0 M → w_Model_join_j131 this Q k80 v1 v2 v3 v4 s0 s1 M → w_Model_join_j131 this Q' k80' v1 v2 v3 v4 s0 s1 M := by
  intro hf
  unfold w_Model_join_j131
  exact (mf_and fun _ => (hk80 _ _ _ _ _  (Ow.dn lk80 (Ow.wI (ow0 rfl) hf))))
set_option maxRecDepth 20000 in
theorem mo_w_Model_join_L80 {w : Nat} {D : Nat → Nat → Prop} {T : Nat → Prop} {h : Hot} {this : Nat} {Q Q' : Int32 → Mem → Prop} {h_Q : Hot} {M0 : Mem} (hD : Dok w D) (n0 : ow w D 11 this) (lQ : ∀ t, h_Q t = true → h t = true) (hQ : ∀ z0 z1, Ow w D T h_Q M0 z1 → Q z0 z1 → Q' z0 z1) : ∀ (n : Nat) (v1 : Int32) (v2 : Nat) (v3 : Int32) (v4 : Int32) (M : Mem), Ow w D T h M0 M → w_Model_join_L80 this Q n v1 v2 v3 v4 M → w_Model_join_L80 this Q' n v1 v2 v3 v4 M
  | 0, _, _, _, _, _ => fun  _ h => h
  | n + 1, v1, v2, v3, v4, M => fun  hf => by
    unfold w_Model_join_L80
    exact (mf_ite (Exists.imp fun n48 => (mo_w_Model_join_L141 hD n0 lQ hQ _ _ _ _ _ _  hf)) (mf_and fun _ => (mf_and fun _ => (mo_w_Model_joined hD  (fun r52 M51 f1 => (have g2 : Ow w D T _ M0 M51 := (Ow.trans hf f1); (mf_ite (mo_w_Model_join_j131 hD  lQ hQ (fun _ e => e) (fun y0 y1 y2 y3 y4  hf => mo_w_Model_join_L80 hD n0 lQ hQ n y0 y1 y2 y3 y4  hf) g2) (mo_w_Model_join_j131 hD  lQ hQ (fun _ e => e) (fun y0 y1 y2 y3 y4  hf => mo_w_Model_join_L80 hD n0 lQ hQ n y0 y1 y2 y3 y4  hf) g2)))) hf.1))))
set_option maxRecDepth 20000 in
theorem mo_w_Model_join {w : Nat} {D : Nat → Nat → Prop} {T : Nat → Prop} {h : Hot} {this : Nat} {a1 : Int32} {a2 : Nat} {a3 : Int32} {Q Q' : Int32 → Mem → Prop} {M : Mem} (hD : Dok w D) (n0 : ow w D 11 this) (hQ : ∀ z0 z1, Ow w D T h M z1 → Q z0 z1 → Q' z0 z1) : St w D T h M → w_Model_join this a1 a2 a3 Q M → w_Model_join this a1 a2 a3 Q' M := by
  intro hs
  unfold w_Model_join
  exact (mf_and fun _ => (mf_ite (mf_and fun _ => (mf_and fun _ => (Exists.imp fun M5 => (mf_and fun e1 => (have g2 : Ow w D T _ M M5 := Ow.of e1 (Ow.wI (ow0 rfl) (Ow.wI (ow0 rfl) (Ow.rf hs))); (mf_and fun _ => (mf_and fun _ => (mf_and fun _ => (mf_and fun _ => (mf_and fun _ => (Exists.imp fun M6 => (mf_and fun e3 => (have g4 : Ow w D T _ M M6 := Ow.of e3 (Ow.wcp (ow0 rfl) g2); (mf_and fun _ => (mf_and fun _ => (mf_and fun _ => (mf_and fun _ => (mf_and fun _ => (Exists.imp fun M12 => (mf_and fun e5 => (have g6 : Ow w D T _ M M12 := Ow.of e5 (Ow.wcp (ow0 rfl) g4); (mf_and fun _ => (hQ _ _  (Ow.wI n0 g6)))))))))))))))))))))))) (mf_and fun _ => (mf_ite (Exists.imp fun n55 => (mo_w_Model_join_L80 hD n0 (fun _ e => e) hQ _ _ _ _ _ _  (Ow.rf hs))) (hQ _ _  (Ow.rf hs))))))
set_option maxRecDepth 20000 in
theorem mo_w_Model_inferHandlers_j142 {w : Nat} {D : Nat → Nat → Prop} {T : Nat → Prop} {h : Hot} {this : Nat} {Q Q' : Int32 → Mem → Prop} {h_Q : Hot} {k10 k10' : Int32 → Int32 → Int32 → Mem → Prop} {h_k10 : Hot} {v1 : Int32} {v2 : Int32} {v3 : Int32} {M : Mem} {M0 : Mem} (hD : Dok w D)  (lQ : ∀ t, h_Q t = true → h t = true) (hQ : ∀ z0 z1, Ow w D T h_Q M0 z1 → Q z0 z1 → Q' z0 z1) (lk10 : ∀ t, h_k10 t = true → h t = true) (hk10 : ∀ z0 z1 z2 z3, Ow w D T h_k10 M0 z3 → k10 z0 z1 z2 z3 → k10' z0 z1 z2 z3) : Ow w D T h M0 M → w_Model_inferHandlers_j142 this Q k10 v1 v2 v3 M → w_Model_inferHandlers_j142 this Q' k10' v1 v2 v3 M := by
  intro hf
  unfold w_Model_inferHandlers_j142
  exact (hk10 _ _ _ _  (Ow.dn lk10 hf))
set_option maxRecDepth 20000 in
theorem mo_w_Model_inferHandlers_j141 {w : Nat} {D : Nat → Nat → Prop} {T : Nat → Prop} {h : Hot} {this : Nat} {Q Q' : Int32 → Mem → Prop} {h_Q : Hot} {k10 k10' : Int32 → Int32 → Int32 → Mem → Prop} {h_k10 : Hot} {v1 : Int32} {v3 : Int32} {s0 : Int32} {M : Mem} {M0 : Mem} (hD : Dok w D)  (lQ : ∀ t, h_Q t = true → h t = true) (hQ : ∀ z0 z1, Ow w D T h_Q M0 z1 → Q z0 z1 → Q' z0 z1) (lk10 : ∀ t, h_k10 t = true → h t = true) (hk10 : ∀ z0 z1 z2 z3, Ow w D T h_k10 M0 z3 → k10 z0 z1 z2 z3 → k10' z0 z1 z2 z3) : Ow w D T h M0 M → w_Model_inferHandlers_j141 this Q k10 v1 v3 s0 M → w_Model_inferHandlers_j141 this Q' k10' v1 v3 s0 M := by
  intro hf
  unfold w_Model_inferHandlers_j141
  exact (mo_w_Model_inferHandlers_j142 hD  lQ hQ lk10 hk10 hf)
set_option maxRecDepth 20000 in
theorem mo_w_Model_inferHandlers_j101 {w : Nat} {D : Nat → Nat → Prop} {T : Nat → Prop} {h : Hot} {this : Nat} {Q Q' : Int32 → Mem → Prop} {h_Q : Hot} {k10 k10' : Int32 → Int32 → Int32 → Mem → Prop} {h_k10 : Hot} {v1 : Int32} {v3 : Int32} {s0 : Int32} {s1 : Int32} {s2 : Int32} {s3 : Nat} {M : Mem} {M0 : Mem} (hD : Dok w D) (n0 : ow w D 11 this) (lQ : ∀ t, h_Q t = true → h t = true) (hQ : ∀ z0 z1, Ow w D T h_Q M0 z1 → Q z0 z1 → Q' z0 z1) (lk10 : ∀ t, h_k10 t = true → h t = true) (hk10 : ∀ z0 z1 z2 z3, Ow w D T h_k10 M0 z3 → k10 z0 z1 z2 z3 → k10' z0 z1 z2 z3) : Ow w D T h M0 M → w_Model_inferHandlers_j101 this Q k10 v1 v3 s0 s1 s2 s3 M → w_Model_inferHandlers_j101 this Q' k10' v1 v3 s0 s1 s2 s3 M := by
  intro hf
  unfold w_Model_inferHandlers_j101
  exact (mf_and fun _ => (Exists.imp fun i17 => (mf_and fun e1 => (mf_and fun _ => (mf_ite (have g3 : Ow w D T _ M0 (sI M 212 s3 s2.toNatClampNeg (s1 + s0)) := (Ow.wI (ow0 rfl) hf); (mo_w_Model_inferHandlers_j141 hD  lQ hQ lk10 hk10 g3)) (Exists.imp fun i20 => (mf_and fun e4 => (mf_and fun _ => (have g6 : Ow w D T _ M0 (sI M 212 s3 s2.toNatClampNeg (s1 + s0)) := (Ow.wI (ow0 rfl) hf); (mo_w_Model_join hD n0 (fun r23 M22 f7 => (have g8 : Ow w D T _ M0 M22 := (Ow.trans g6 f7); (mo_w_Model_inferHandlers_j141 hD  lQ hQ lk10 hk10 g8))) g6.1))))))))))
set_option maxRecDepth 20000 in
theorem mo_w_Model_inferHandlers_L10 {w : Nat} {D : Nat → Nat → Prop} {T : Nat → Prop} {h : Hot} {this : Nat} {Q Q' : Int32 → Mem → Prop} {h_Q : Hot} {M0 : Mem} (hD : Dok w D) (n0 : ow w D 11 this) (lQ : ∀ t, h_Q t = true → h t = true) (hQ : ∀ z0 z1, Ow w D T h_Q M0 z1 → Q z0 z1 → Q' z0 z1) : ∀ (n : Nat) (v1 : Int32) (v2 : Int32) (v3 : Int32) (M : Mem), Ow w D T h M0 M → w_Model_inferHandlers_L10 this Q n v1 v2 v3 M → w_Model_inferHandlers_L10 this Q' n v1 v2 v3 M
  | 0, _, _, _, _ => fun  _ h => h
  | n + 1, v1, v2, v3, M => fun  hf => by
    unfold w_Model_inferHandlers_L10
    exact (Exists.imp fun i1 => (mf_and fun e1 => (mf_and fun _ => (mf_ite (hQ _ _  (Ow.dn lQ hf)) (mf_ite (Exists.imp fun i5 => (mf_and fun e3 => (mf_and fun _ => (mf_ite (mo_w_Model_inferHandlers_j142 hD  lQ hQ (fun _ e => e) (fun y0 y1 y2 y3  hf => mo_w_Model_inferHandlers_L10 hD n0 lQ hQ n y0 y1 y2 y3  hf) hf) (Exists.imp fun i8 => (mf_and fun e5 => (mf_and fun _ => (mf_ite (mo_w_Model_inferHandlers_j142 hD  lQ hQ (fun _ e => e) (fun y0 y1 y2 y3  hf => mo_w_Model_inferHandlers_L10 hD n0 lQ hQ n y0 y1 y2 y3  hf) hf) (Exists.imp fun i11 => (mf_and fun e7 => (mf_and fun _ => (mf_ite (Exists.imp fun i14 => (mf_and fun e9 => (mf_and fun _ => (mo_w_Model_inferHandlers_j101 hD n0 lQ hQ (fun _ e => e) (fun y0 y1 y2 y3  hf => mo_w_Model_inferHandlers_L10 hD n0 lQ hQ n y0 y1 y2 y3  hf) hf)))) (mo_w_Model_inferHandlers_j101 hD n0 lQ hQ (fun _ e => e) (fun y0 y1 y2 y3  hf => mo_w_Model_inferHandlers_L10 hD n0 lQ hQ n y0 y1 y2 y3  hf) hf))))))))))))) (hQ _ _  (Ow.dn lQ hf)))))))
set_option maxRecDepth 20000 in
theorem mo_w_Model_inferHandlers {w : Nat} {D : Nat → Nat → Prop} {T : Nat → Prop} {h : Hot} {this : Nat} {a1 : Int32} {Q Q' : Int32 → Mem → Prop} {M : Mem} (hD : Dok w D) (n0 : ow w D 11 this) (hQ : ∀ z0 z1, Ow w D T h M z1 → Q z0 z1 → Q' z0 z1) : St w D T h M → w_Model_inferHandlers this a1 Q M → w_Model_inferHandlers this a1 Q' M := by
  intro hs
  unfold w_Model_inferHandlers
  exact (Exists.imp fun n24 => (mo_w_Model_inferHandlers_L10 hD n0 (fun _ e => e) hQ _ _ _ _ _  (Ow.rf hs)))
set_option maxRecDepth 20000 in
theorem mo_w_Model_inferOne_j304 {w : Nat} {D : Nat → Nat → Prop} {T : Nat → Prop} {h : Hot} {this : Nat} {Q Q' : Int32 → Mem → Prop} {h_Q : Hot} {v1 : Int32} {v3 : Int32} {v4 : Int32} {M : Mem} {M0 : Mem} (hD : Dok w D) (n0 : ow w D 11 this) (lQ : ∀ t, h_Q t = true → h t = true) (hQ : ∀ z0 z1, Ow w D T h_Q M0 z1 → Q z0 z1 → Q' z0 z1) : Ow w D T h M0 M → w_Model_inferOne_j304 this Q v1 v3 v4 M → w_Model_inferOne_j304 this Q' v1 v3 v4 M := by
  intro hf
  unfold w_Model_inferOne_j304
  exact (mf_ite (hQ _ _  (Ow.dn lQ hf)) (mf_ite (hQ _ _  (Ow.dn lQ hf)) (mf_ite (hQ _ _  (Ow.dn lQ hf)) (mf_ite (hQ _ _  (Ow.dn lQ hf)) (mf_ite (hQ _ _  (Ow.dn lQ hf)) (mf_ite (hQ _ _  (Ow.dn lQ hf)) (mf_ite (hQ _ _  (Ow.dn lQ hf)) (mf_ite (hQ _ _  (Ow.dn lQ hf)) (mo_w_Model_join hD n0 (fun r45 M44 f1 => (have g2 : Ow w D T _ M0 M44 := (Ow.trans hf f1); (hQ _ _  (Ow.dn lQ g2)))) hf.1)))))))))
set_option maxRecDepth 20000 in
theorem mo_w_Model_inferOne_j188 {w : Nat} {D : Nat → Nat → Prop} {T : Nat → Prop} {h : Hot} {this : Nat} {Q Q' : Int32 → Mem → Prop} {h_Q : Hot} {v1 : Int32} {v3 : Int32} {M : Mem} {M0 : Mem} (hD : Dok w D) (n0 : ow w D 11 this) (lQ : ∀ t, h_Q t = true → h t = true) (hQ : ∀ z0 z1, Ow w D T h_Q M0 z1 → Q z0 z1 → Q' z0 z1) : Ow w D T h M0 M → w_Model_inferOne_j188 this Q v1 v3 M → w_Model_inferOne_j188 this Q' v1 v3 M := by
  intro hf
  unfold w_Model_inferOne_j188
  exact (mo_w_Model_inferHandlers hD n0 (fun r35 M34 f1 => (have g2 : Ow w D T _ M0 M34 := (Ow.trans hf f1); (mo_w_Model_inferOne_j304 hD n0 lQ hQ g2))) hf.1)
set_option maxRecDepth 20000 in
theorem mo_w_Model_inferOne_L245 {w : Nat} {D : Nat → Nat → Prop} {T : Nat → Prop} {h : Hot} {this : Nat} {Q Q' : Int32 → Mem → Prop} {h_Q : Hot} {M0 : Mem} (hD : Dok w D) (n0 : ow w D 11 this) (lQ : ∀ t, h_Q t = true → h t = true) (hQ : ∀ z0 z1, Ow w D T h_Q M0 z1 → Q z0 z1 → Q' z0 z1) : ∀ (n : Nat) (v1 : Int32) (v2 : Int32) (v3 : Int32) (v4 : Int32) (v5 : Int32) (M : Mem), Ow w D T h M0 M → w_Model_inferOne_L245 this Q n v1 v2 v3 v4 v5 M → w_Model_inferOne_L245 this Q' n v1 v2 v3 v4 v5 M
  | 0, _, _, _, _, _, _ => fun  _ h => h
  | n + 1, v1, v2, v3, v4, v5, M => fun  hf => by
    unfold w_Model_inferOne_L245
    exact (Exists.imp fun i54 => (mf_and fun e1 => (Exists.imp fun i55 => (mf_and fun e3 => (mf_and fun _ => (mf_ite (mo_w_Model_inferOne_j304 hD n0 lQ hQ hf) (mf_ite (Exists.imp fun i59 => (mf_and fun e5 => (Exists.imp fun i60 => (mf_and fun e7 => (Exists.imp fun i61 => (mf_and fun e9 => (Exists.imp fun i62 => (mf_and fun e11 => (mf_and fun _ => (mf_and fun _ => (mo_w_Model_join hD n0 (fun r66 M65 f13 => (have g14 : Ow w D T _ M0 M65 := (Ow.trans hf f13); (mo_w_Model_inferOne_L245 hD n0 lQ hQ _ _ _ _ _ _ _  g14))) hf.1))))))))))) (mo_w_Model_inferOne_j304 hD n0 lQ hQ hf))))))))
set_option maxRecDepth 20000 in
theorem mo_w_Model_inferOne_j236 {w : Nat} {D : Nat → Nat → Prop} {T : Nat → Prop} {h : Hot} {this : Nat} {Q Q' : Int32 → Mem → Prop} {h_Q : Hot} {v1 : Int32} {v2 : Int32} {v3 : Int32} {v4 : Int32} {M : Mem} {M0 : Mem} (hD : Dok w D) (n0 : ow w D 11 this) (lQ : ∀ t, h_Q t = true → h t = true) (hQ : ∀ z0 z1, Ow w D T h_Q M0 z1 → Q z0 z1 → Q' z0 z1) : Ow w D T h M0 M → w_Model_inferOne_j236 this Q v1 v2 v3 v4 M → w_Model_inferOne_j236 this Q' v1 v2 v3 v4 M := by
  intro hf
  unfold w_Model_inferOne_j236
  exact (mf_ite (Exists.imp fun n67 => (mo_w_Model_inferOne_L245 hD n0 lQ hQ _ _ _ _ _ _ _  hf)) (mo_w_Model_inferOne_j304 hD n0 lQ hQ hf))
set_option maxRecDepth 20000 in
theorem mo_w_Model_inferOne_j198 {w : Nat} {D : Nat → Nat → Prop} {T : Nat → Prop} {h : Hot} {this : Nat} {Q Q' : Int32 → Mem → Prop} {h_Q : Hot} {v1 : Int32} {v2 : Int32} {v3 : Int32} {v4 : Int32} {M : Mem} {M0 : Mem} (hD : Dok w D) (n0 : ow w D 11 this) (lQ : ∀ t, h_Q t = true → h t = true) (hQ : ∀ z0 z1, Ow w D T h_Q M0 z1 → Q z0 z1 → Q' z0 z1) : Ow w D T h M0 M → w_Model_inferOne_j198 this Q v1 v2 v3 v4 M → w_Model_inferOne_j198 this Q' v1 v2 v3 v4 M := by
  intro hf
  unfold w_Model_inferOne_j198
  exact (mf_ite (mo_w_Model_inferOne_j236 hD n0 lQ hQ hf) (mf_ite (mo_w_Model_inferOne_j236 hD n0 lQ hQ hf) (Exists.imp fun i69 => (mf_and fun e1 => (Exists.imp fun i70 => (mf_and fun e3 => (mf_and fun _ => (mo_w_Model_join hD n0 (fun r73 M72 f5 => (have g6 : Ow w D T _ M0 M72 := (Ow.trans hf f5); (mo_w_Model_inferOne_j304 hD n0 lQ hQ g6))) hf.1))))))))
set_option maxRecDepth 20000 in
theorem mo_w_Model_inferOne_j116 {w : Nat} {D : Nat → Nat → Prop} {T : Nat → Prop} {h : Hot} {this : Nat} {Q Q' : Int32 → Mem → Prop} {h_Q : Hot} {v1 : Int32} {v2 : Int32} {v3 : Int32} {s0 : Int32} {M : Mem} {M0 : Mem} (hD : Dok w D) (n0 : ow w D 11 this) (lQ : ∀ t, h_Q t = true → h t = true) (hQ : ∀ z0 z1, Ow w D T h_Q M0 z1 → Q z0 z1 → Q' z0 z1) : Ow w D T h M0 M → w_Model_inferOne_j116 this Q v1 v2 v3 s0 M → w_Model_inferOne_j116 this Q' v1 v2 v3 s0 M := by
  intro hf
  unfold w_Model_inferOne_j116
  exact (mf_ite (mo_w_Model_act hD n0 (fun M29 f1 => (have g2 : Ow w D T _ M0 M29 := (Ow.trans hf f1); (Exists.imp fun i30 => (mf_and fun e3 => (mf_and fun _ => (mf_ite (mf_ite (mo_w_Model_inferOne_j188 hD n0 lQ hQ g2) (mf_ite (mo_w_Model_inferOne_j188 hD n0 lQ hQ g2) (mf_ite (Exists.imp fun i48 => (mf_and fun e5 => (Exists.imp fun i49 => (mf_and fun e7 => (mf_and fun _ => (mf_ite (mo_w_Model_inferOne_j188 hD n0 lQ hQ g2) (mo_w_Model_inferOne_j198 hD n0 lQ hQ g2))))))) (mo_w_Model_inferOne_j198 hD n0 lQ hQ g2)))) (hQ _ _  (Ow.dn lQ g2)))))))) hf.1) (hQ _ _  (Ow.dn lQ hf)))
set_option maxRecDepth 20000 in
theorem mo_w_Model_inferOne_j98 {w : Nat} {D : Nat → Nat → Prop} {T : Nat → Prop} {h : Hot} {this : Nat} {Q Q' : Int32 → Mem → Prop} {h_Q : Hot} {v1 : Int32} {v2 : Int32} {v3 : Int32} {s0 : Int32} {M : Mem} {M0 : Mem} (hD : Dok w D) (n0 : ow w D 11 this) (lQ : ∀ t, h_Q t = true → h t = true) (hQ : ∀ z0 z1, Ow w D T h_Q M0 z1 → Q z0 z1 → Q' z0 z1) : Ow w D T h M0 M → w_Model_inferOne_j98 this Q v1 v2 v3 s0 M → w_Model_inferOne_j98 this Q' v1 v2 v3 s0 M := by
  intro hf
  unfold w_Model_inferOne_j98
  exact (mf_ite (mo_w_Model_checkOwn hD  (fun r27 M26 f1 => (have g2 : Ow w D T _ M0 M26 := (Ow.trans hf f1); (mo_w_Model_inferOne_j116 hD n0 lQ hQ g2))) hf.1) (mo_w_Model_inferOne_j116 hD n0 lQ hQ hf))
set_option maxRecDepth 20000 in
theorem mo_w_Model_inferOne {w : Nat} {D : Nat → Nat → Prop} {T : Nat → Prop} {h : Hot} {this : Nat} {a1 : Int32} {Q Q' : Int32 → Mem → Prop} {M : Mem} (hD : Dok w D) (n0 : ow w D 11 this) (hQ : ∀ z0 z1, Ow w D T h M z1 → Q z0 z1 → Q' z0 z1) : St w D T h M → w_Model_inferOne this a1 Q M → w_Model_inferOne this a1 Q' M := by
  intro hs
  unfold w_Model_inferOne
  exact (Exists.imp fun i1 => (mf_and fun e1 => (mf_and fun _ => (mf_and fun _ => (mf_and fun _ => (mf_and fun _ => (mf_and fun _ => (mf_and fun _ => (mf_and fun _ => (Exists.imp fun M4 => (mf_and fun e3 => (have g4 : Ow w D T _ M M4 := Ow.of e3 (Ow.wcp (ow0 rfl) (Ow.wI n0 (Ow.rf hs))); (mf_and fun _ => (mf_and fun _ => (mf_and fun _ => (mf_and fun _ => (mf_and fun _ => (Exists.imp fun M10 => (mf_and fun e5 => (have g6 : Ow w D T _ M M10 := Ow.of e5 (Ow.wcp (ow0 rfl) g4); (Exists.imp fun i16 => (mf_and fun e7 => (Exists.imp fun i17 => (mf_and fun e9 => (mf_and fun _ => (Exists.imp fun x19 => (mf_and fun _ => (mo_w_Model_inferHandlers hD n0 (fun r21 M20 f11 => (have g12 : Ow w D T _ M M20 := (Ow.trans g6 f11); (mf_ite (mo_w_Model_checkTaken hD n0 (fun r24 M23 f13 => (have g14 : Ow w D T _ M M23 := (Ow.trans g12 f13); (mo_w_Model_inferOne_j98 hD n0 (fun _ e => e) hQ g14))) g12.1) (mo_w_Model_inferOne_j98 hD n0 (fun _ e => e) hQ g12)))) g6.1))))))))))))))))))))))))))))
set_option maxRecDepth 20000 in
theorem mo_w_Model_infer_j97 {w : Nat} {D : Nat → Nat → Prop} {T : Nat → Prop} {h : Hot} {this : Nat} {Q Q' : Int32 → Mem → Prop} {h_Q : Hot} {k18 k18' : Int32 → Mem → Prop} {h_k18 : Hot} {s0 : Int32} {s1 : Int32} {M : Mem} {M0 : Mem} (hD : Dok w D) (n0 : ow w D 11 this) (lQ : ∀ t, h_Q t = true → h t = true) (hQ : ∀ z0 z1, Ow w D T h_Q M0 z1 → Q z0 z1 → Q' z0 z1) (lk18 : ∀ t, h_k18 t = true → h t = true) (hk18 : ∀ z0 z1, Ow w D T h_k18 M0 z1 → k18 z0 z1 → k18' z0 z1) : Ow w D T h M0 M → w_Model_infer_j97 this Q k18 s0 s1 M → w_Model_infer_j97 this Q' k18' s0 s1 M := by
  intro hf
  unfold w_Model_infer_j97
  exact (mf_ite (hQ _ _  (Ow.dn lQ (Ow.wI n0 hf))) (hk18 _ _  (Ow.dn lk18 hf)))
set_option maxRecDepth 20000 in
theorem mo_w_Model_infer_j62 {w : Nat} {D : Nat → Nat → Prop} {T : Nat → Prop} {h : Hot} {this : Nat} {Q Q' : Int32 → Mem → Prop} {h_Q : Hot} {k18 k18' : Int32 → Mem → Prop} {h_k18 : Hot} {k33 k33' : Int32 → Int32 → Mem → Prop} {h_k33 : Hot} {v3 : Int32} {v4 : Int32} {s0 : Int32} {M : Mem} {M0 : Mem} (hD : Dok w D) (n0 : ow w D 11 this) (lQ : ∀ t, h_Q t = true → h t = true) (hQ : ∀ z0 z1, Ow w D T h_Q M0 z1 → Q z0 z1 → Q' z0 z1) (lk18 : ∀ t, h_k18 t = true → h t = true) (hk18 : ∀ z0 z1, Ow w D T h_k18 M0 z1 → k18 z0 z1 → k18' z0 z1) (lk33 : ∀ t, h_k33 t = true → h t = true) (hk33 : ∀ z0 z1 z2, Ow w D T h_k33 M0 z2 → k33 z0 z1 z2 → k33' z0 z1 z2) : Ow w D T h M0 M → w_Model_infer_j62 this Q k18 k33 v3 v4 s0 M → w_Model_infer_j62 this Q' k18' k33' v3 v4 s0 M := by
  intro hf
  unfold w_Model_infer_j62
  exact (mf_ite (hk33 _ _ _  (Ow.dn lk33 hf)) (hQ _ _  (Ow.dn lQ (Ow.wI n0 hf))))
set_option maxRecDepth 20000 in
theorem mo_w_Model_infer_L33 {w : Nat} {D : Nat → Nat → Prop} {T : Nat → Prop} {h : Hot} {this : Nat} {Q Q' : Int32 → Mem → Prop} {h_Q : Hot} {k18 k18' : Int32 → Mem → Prop} {h_k18 : Hot} {M0 : Mem} (hD : Dok w D) (n0 : ow w D 11 this) (lQ : ∀ t, h_Q t = true → h t = true) (hQ : ∀ z0 z1, Ow w D T h_Q M0 z1 → Q z0 z1 → Q' z0 z1) (lk18 : ∀ t, h_k18 t = true → h t = true) (hk18 : ∀ z0 z1, Ow w D T h_k18 M0 z1 → k18 z0 z1 → k18' z0 z1) : ∀ (n : Nat) (v3 : Int32) (v4 : Int32) (M : Mem), Ow w D T h M0 M → w_Model_infer_L33 this Q k18 n v3 v4 M → w_Model_infer_L33 this Q' k18' n v3 v4 M
  | 0, _, _, _ => fun  _ h => h
  | n + 1, v3, v4, M => fun  hf => by
    unfold w_Model_infer_L33
    exact (mf_ite (mf_ite (mo_w_Model_infer_j97 hD n0 lQ hQ lk18 hk18 hf) (mo_w_Model_infer_j97 hD n0 lQ hQ lk18 hk18 hf)) (mf_and fun _ => (mf_ite (mo_w_Model_infer_j62 hD n0 lQ hQ lk18 hk18 (fun _ e => e) (fun y0 y1 y2  hf => mo_w_Model_infer_L33 hD n0 lQ hQ lk18 hk18 n y0 y1 y2  hf) hf) (mo_w_Model_inferOne hD n0 (fun r13 M12 f1 => (have g2 : Ow w D T _ M0 M12 := (Ow.trans hf f1); (mo_w_Model_infer_j62 hD n0 lQ hQ lk18 hk18 (fun _ e => e) (fun y0 y1 y2  hf => mo_w_Model_infer_L33 hD n0 lQ hQ lk18 hk18 n y0 y1 y2  hf) g2))) hf.1))))
set_option maxRecDepth 20000 in
theorem mo_w_Model_infer_L18 {w : Nat} {D : Nat → Nat → Prop} {T : Nat → Prop} {h : Hot} {this : Nat} {Q Q' : Int32 → Mem → Prop} {h_Q : Hot} {M0 : Mem} (hD : Dok w D) (n0 : ow w D 11 this) (lQ : ∀ t, h_Q t = true → h t = true) (hQ : ∀ z0 z1, Ow w D T h_Q M0 z1 → Q z0 z1 → Q' z0 z1) : ∀ (n : Nat) (v3 : Int32) (M : Mem), Ow w D T h M0 M → w_Model_infer_L18 this Q n v3 M → w_Model_infer_L18 this Q' n v3 M
  | 0, _, _ => fun  _ h => h
  | n + 1, v3, M => fun  hf => by
    unfold w_Model_infer_L18
    exact (mf_ite (hQ _ _  (Ow.dn lQ hf)) (mf_and fun _ => (Exists.imp fun n14 => (have g1 : Ow w D T _ M0 (sI M 11 this 103 (0 : Int32)) := (Ow.wI n0 hf); (mo_w_Model_infer_L33 hD n0 lQ hQ (fun _ e => e) (fun y0 y1  hf => mo_w_Model_infer_L18 hD n0 lQ hQ n y0 y1  hf) _ _ _ _  g1)))))
set_option maxRecDepth 20000 in
theorem mo_w_Model_infer {w : Nat} {D : Nat → Nat → Prop} {T : Nat → Prop} {h : Hot} {this : Nat} {a1 : Int32} {a2 : Int32} {Q Q' : Int32 → Mem → Prop} {M : Mem} (hD : Dok w D) (n0 : ow w D 11 this) (hQ : ∀ z0 z1, Ow w D T h M z1 → Q z0 z1 → Q' z0 z1) : St w D T h M → w_Model_infer this a1 a2 Q M → w_Model_infer this a1 a2 Q' M := by
  intro hs
  unfold w_Model_infer
  exact (mo_w_Model_begin hD n0 (fun M1 f1 => (have g2 : Ow w D T _ M M1 := (Ow.trans (Ow.rf hs) f1); (mo_w_Model_record hD  (fun M2 f3 => (have g4 : Ow w D T _ M M2 := (Ow.trans g2 f3); (mf_and fun _ => (Exists.imp fun n15 => (have g5 : Ow w D T _ M (sI M2 11 this 103 (1 : Int32)) := (Ow.wI n0 g4); (mo_w_Model_infer_L18 hD n0 (fun _ e => e) hQ _ _ _  g5)))))) g2.1))) (Ow.rf hs).1)
set_option maxRecDepth 20000 in
theorem mo_w_Model_toldKind {w : Nat} {D : Nat → Nat → Prop} {T : Nat → Prop} {h : Hot} {this : Nat} {a1 : Int32} {Q Q' : Int32 → Mem → Prop} {M : Mem} (hD : Dok w D)  (hQ : ∀ z0 z1, Ow w D T h M z1 → Q z0 z1 → Q' z0 z1) : St w D T h M → w_Model_toldKind this a1 Q M → w_Model_toldKind this a1 Q' M := by
  intro hs
  unfold w_Model_toldKind
  exact (mf_ite (mf_ite (hQ _ _  (Ow.rf hs)) (hQ _ _  (Ow.rf hs))) (mo_w_Model_classOf hD  (fun r4 M3 f1 => (have g2 : Ow w D T _ M M3 := (Ow.trans (Ow.rf hs) f1); (mf_ite (hQ _ _  g2) (hQ _ _  g2)))) (Ow.rf hs).1))
set_option maxRecDepth 20000 in
theorem mo_w_Model_kinds_j288 {w : Nat} {D : Nat → Nat → Prop} {T : Nat → Prop} {h : Hot} {this : Nat} {Q Q' : Int32 → Mem → Prop} {h_Q : Hot} {k160 k160' : Int32 → Int32 → Mem → Prop} {h_k160 : Hot} {v6 : Int32} {v7 : Int32} {M : Mem} {M0 : Mem} (hD : Dok w D)  (lQ : ∀ t, h_Q t = true → h t = true) (hQ : ∀ z0 z1, Ow w D T h_Q M0 z1 → Q z0 z1 → Q' z0 z1) (lk160 : ∀ t, h_k160 t = true → h t = true) (hk160 : ∀ z0 z1 z2, Ow w D T h_k160 M0 z2 → k160 z0 z1 z2 → k160' z0 z1 z2) : Ow w D T h M0 M → w_Model_kinds_j288 this Q k160 v6 v7 M → w_Model_kinds_j288 this Q' k160' v6 v7 M := by
  intro hf
  unfold w_Model_kinds_j288
  exact (hk160 _ _ _  (Ow.dn lk160 hf))
set_option maxRecDepth 20000 in
theorem mo_w_Model_kinds_L230 {w : Nat} {D : Nat → Nat → Prop} {T : Nat → Prop} {h : Hot} {this : Nat} {Q Q' : Int32 → Mem → Prop} {h_Q : Hot} {k160 k160' : Int32 → Int32 → Mem → Prop} {h_k160 : Hot} {M0 : Mem} (hD : Dok w D)  (lQ : ∀ t, h_Q t = true → h t = true) (hQ : ∀ z0 z1, Ow w D T h_Q M0 z1 → Q z0 z1 → Q' z0 z1) (lk160 : ∀ t, h_k160 t = true → h t = true) (hk160 : ∀ z0 z1 z2, Ow w D T h_k160 M0 z2 → k160 z0 z1 z2 → k160' z0 z1 z2) : ∀ (n : Nat) (v6 : Int32) (v7 : Int32) (v8 : Int32) (M : Mem), Ow w D T h M0 M → w_Model_kinds_L230 this Q k160 n v6 v7 v8 M → w_Model_kinds_L230 this Q' k160' n v6 v7 v8 M
  | 0, _, _, _, _ => fun  _ h => h
  | n + 1, v6, v7, v8, M => fun  hf => by
    unfold w_Model_kinds_L230
    exact (mf_and fun _ => (mf_ite (mo_w_Model_kinds_j288 hD  lQ hQ lk160 hk160 hf) (mf_and fun _ => (mf_ite (mo_w_Model_kinds_j288 hD  lQ hQ lk160 hk160 hf) (mf_and fun _ => (mo_w_Model_toldKind hD  (fun r36 M35 f1 => (have g2 : Ow w D T _ M0 M35 := (Ow.trans hf f1); (mf_and fun _ => (have g3 : Ow w D T _ M0 (sI M35 116 this (((28 : Int32) * v7) + v8).toNatClampNeg r36) := (Ow.wI (ow0 rfl) g2); (mo_w_Model_kinds_L230 hD  lQ hQ lk160 hk160 _ _ _ _ _  g3))))) hf.1))))))
set_option maxRecDepth 20000 in
theorem mo_w_Model_kinds_j227 {w : Nat} {D : Nat → Nat → Prop} {T : Nat → Prop} {h : Hot} {this : Nat} {Q Q' : Int32 → Mem → Prop} {h_Q : Hot} {k160 k160' : Int32 → Int32 → Mem → Prop} {h_k160 : Hot} {v6 : Int32} {v7 : Int32} {M : Mem} {M0 : Mem} (hD : Dok w D)  (lQ : ∀ t, h_Q t = true → h t = true) (hQ : ∀ z0 z1, Ow w D T h_Q M0 z1 → Q z0 z1 → Q' z0 z1) (lk160 : ∀ t, h_k160 t = true → h t = true) (hk160 : ∀ z0 z1 z2, Ow w D T h_k160 M0 z2 → k160 z0 z1 z2 → k160' z0 z1 z2) : Ow w D T h M0 M → w_Model_kinds_j227 this Q k160 v6 v7 M → w_Model_kinds_j227 this Q' k160' v6 v7 M := by
  intro hf
  unfold w_Model_kinds_j227
  exact (Exists.imp fun n38 => (mo_w_Model_kinds_L230 hD  lQ hQ lk160 hk160 _ _ _ _ _  hf))
set_option maxRecDepth 20000 in
theorem mo_w_Model_kinds_L172 {w : Nat} {D : Nat → Nat → Prop} {T : Nat → Prop} {h : Hot} {this : Nat} {Q Q' : Int32 → Mem → Prop} {h_Q : Hot} {k160 k160' : Int32 → Int32 → Mem → Prop} {h_k160 : Hot} {M0 : Mem} (hD : Dok w D)  (lQ : ∀ t, h_Q t = true → h t = true) (hQ : ∀ z0 z1, Ow w D T h_Q M0 z1 → Q z0 z1 → Q' z0 z1) (lk160 : ∀ t, h_k160 t = true → h t = true) (hk160 : ∀ z0 z1 z2, Ow w D T h_k160 M0 z2 → k160 z0 z1 z2 → k160' z0 z1 z2) : ∀ (n : Nat) (v6 : Int32) (v7 : Int32) (v8 : Int32) (M : Mem), Ow w D T h M0 M → w_Model_kinds_L172 this Q k160 n v6 v7 v8 M → w_Model_kinds_L172 this Q' k160' n v6 v7 v8 M
  | 0, _, _, _, _ => fun  _ h => h
  | n + 1, v6, v7, v8, M => fun  hf => by
    unfold w_Model_kinds_L172
    exact (mf_ite (mo_w_Model_kinds_j227 hD  lQ hQ lk160 hk160 hf) (mf_and fun _ => (mf_ite (mo_w_Model_kinds_j227 hD  lQ hQ lk160 hk160 hf) (mf_and fun _ => (mo_w_Model_toldKind hD  (fun r43 M42 f1 => (have g2 : Ow w D T _ M0 M42 := (Ow.trans hf f1); (mf_and fun _ => (have g3 : Ow w D T _ M0 (sI M42 115 this (((20 : Int32) * v7) + v8).toNatClampNeg r43) := (Ow.wI (ow0 rfl) g2); (mo_w_Model_kinds_L172 hD  lQ hQ lk160 hk160 _ _ _ _ _  g3))))) hf.1)))))
set_option maxRecDepth 20000 in
theorem mo_w_Model_kinds_L160 {w : Nat} {D : Nat → Nat → Prop} {T : Nat → Prop} {h : Hot} {this : Nat} {Q Q' : Int32 → Mem → Prop} {h_Q : Hot} {M0 : Mem} (hD : Dok w D)  (lQ : ∀ t, h_Q t = true → h t = true) (hQ : ∀ z0 z1, Ow w D T h_Q M0 z1 → Q z0 z1 → Q' z0 z1) : ∀ (n : Nat) (v6 : Int32) (v7 : Int32) (M : Mem), Ow w D T h M0 M → w_Model_kinds_L160 this Q n v6 v7 M → w_Model_kinds_L160 this Q' n v6 v7 M
  | 0, _, _, _ => fun  _ h => h
  | n + 1, v6, v7, M => fun  hf => by
    unfold w_Model_kinds_L160
    exact (mf_ite (mf_ite (hQ _ _  (Ow.dn lQ hf)) (hQ _ _  (Ow.dn lQ hf))) (Exists.imp fun n45 => (mo_w_Model_kinds_L172 hD  lQ hQ (fun _ e => e) (fun y0 y1 y2  hf => mo_w_Model_kinds_L160 hD  lQ hQ n y0 y1 y2  hf) _ _ _ _ _  hf)))
set_option maxRecDepth 20000 in
theorem mo_w_Model_kinds_j157 {w : Nat} {D : Nat → Nat → Prop} {T : Nat → Prop} {h : Hot} {this : Nat} {Q Q' : Int32 → Mem → Prop} {h_Q : Hot} {v6 : Int32} {M : Mem} {M0 : Mem} (hD : Dok w D)  (lQ : ∀ t, h_Q t = true → h t = true) (hQ : ∀ z0 z1, Ow w D T h_Q M0 z1 → Q z0 z1 → Q' z0 z1) : Ow w D T h M0 M → w_Model_kinds_j157 this Q v6 M → w_Model_kinds_j157 this Q' v6 M := by
  intro hf
  unfold w_Model_kinds_j157
  exact (Exists.imp fun n46 => (mo_w_Model_kinds_L160 hD  lQ hQ _ _ _ _  hf))
set_option maxRecDepth 20000 in
theorem mo_w_Model_kinds_L98 {w : Nat} {D : Nat → Nat → Prop} {T : Nat → Prop} {h : Hot} {this : Nat} {Q Q' : Int32 → Mem → Prop} {h_Q : Hot} {M0 : Mem} (hD : Dok w D) (n0 : ow w D 11 this) (lQ : ∀ t, h_Q t = true → h t = true) (hQ : ∀ z0 z1, Ow w D T h_Q M0 z1 → Q z0 z1 → Q' z0 z1) : ∀ (n : Nat) (v2 : Int32) (v4 : Int32) (v5 : Int32) (v6 : Int32) (M : Mem), Ow w D T h M0 M → w_Model_kinds_L98 this Q n v2 v4 v5 v6 M → w_Model_kinds_L98 this Q' n v2 v4 v5 v6 M
  | 0, _, _, _, _, _ => fun  _ h => h
  | n + 1, v2, v4, v5, v6, M => fun  hf => by
    unfold w_Model_kinds_L98
    exact (mf_ite (mf_ite (mf_and fun _ => (have g1 : Ow w D T _ M0 (sI M 11 this 77 (1 : Int32)) := (Ow.wI n0 hf); (mo_w_Model_check hD n0 (fun r25 M24 f2 => (have g3 : Ow w D T _ M0 M24 := (Ow.trans g1 f2); (mf_and fun _ => (have g4 : Ow w D T _ M0 (sI M24 11 this 77 (0 : Int32)) := (Ow.wI n0 g3); (mo_w_Model_kinds_j157 hD  lQ hQ g4))))) g1.1))) (mo_w_Model_infer hD n0 (fun r48 M47 f5 => (have g6 : Ow w D T _ M0 M47 := (Ow.trans hf f5); (mo_w_Model_kinds_j157 hD  lQ hQ g6))) hf.1)) (mf_and fun _ => (have g7 : Ow w D T _ M0 (sI M 519 this v6.toNatClampNeg ((0 : Int32) &&& 1)) := (Ow.wI (ow0 rfl) hf); (mo_w_Model_kinds_L98 hD n0 lQ hQ _ _ _ _ _ _  g7))))
set_option maxRecDepth 20000 in
theorem mo_w_Model_kinds {w : Nat} {D : Nat → Nat → Prop} {T : Nat → Prop} {h : Hot} {this : Nat} {a1 : Int32} {a2 : Int32} {a3 : Int32} {a4 : Int32} {Q Q' : Int32 → Mem → Prop} {M : Mem} (hD : Dok w D) (n0 : ow w D 11 this) (n1 : T (1000 + a1.toNatClampNeg)) (hQ : ∀ z0 z1, Ow w D T h M z1 → Q z0 z1 → Q' z0 z1) : St w D T h M → w_Model_kinds this a1 a2 a3 a4 Q M → w_Model_kinds this a1 a2 a3 a4 Q' M := by
  intro hs
  unfold w_Model_kinds
  exact (mo_w_Model_isClass hD  (fun r2 M1 f1 => (have g2 : Ow w D T _ M M1 := (Ow.trans (Ow.rf hs) f1); (mf_ite (hQ _ _  g2) (mf_ite (hQ _ _  g2) (mf_and fun _ => (Exists.imp fun i6 => (mf_and fun e3 => (mf_and fun _ => (mf_ite (hQ _ _  g2) (mf_and fun _ => (Exists.imp fun i10 => (mf_and fun e5 => (mf_and fun _ => (mf_ite (hQ _ _  g2) (mf_and fun _ => (Exists.imp fun i14 => (mf_and fun e7 => (have o8 : ow w D 12 i14 := (Ow.rT e7 rfl n1 g2); (Exists.imp fun i15 => (mf_and fun e9 => (mf_and fun _ => (Exists.imp fun M17 => (mf_and fun e11 => (have g12 : Ow w D T _ M M17 := Ow.of e11 (Ow.wI n0 (Ow.wRh rfl n0 o8 g2)); (Exists.imp fun i18 => (mf_and fun e13 => (mf_and fun _ => (Exists.imp fun M20 => (mf_and fun e15 => (have g16 : Ow w D T _ M M20 := Ow.of e15 (Ow.wI n0 g12); (Exists.imp fun n50 => (mo_w_Model_kinds_L98 hD n0 (leU (fun _ e => e)) hQ _ _ _ _ _ _  g16)))))))))))))))))))))))))))))))) (Ow.rf hs).1)
set_option maxRecDepth 20000 in
theorem mo_w_Model_kind {w : Nat} {D : Nat → Nat → Prop} {T : Nat → Prop} {h : Hot} {this : Nat} {a1 : Int32} {a2 : Int32} {Q Q' : Int32 → Mem → Prop} {M : Mem} (hD : Dok w D)  (hQ : ∀ z0 z1, Ow w D T h M z1 → Q z0 z1 → Q' z0 z1) : St w D T h M → w_Model_kind this a1 a2 Q M → w_Model_kind this a1 a2 Q' M := by
  intro hs
  unfold w_Model_kind
  exact (mf_ite (hQ _ _  (Ow.rf hs)) (mf_ite (hQ _ _  (Ow.rf hs)) (mf_and fun _ => (mf_ite (hQ _ _  (Ow.rf hs)) (mf_ite (hQ _ _  (Ow.rf hs)) (mf_ite (mf_ite (mf_ite (mf_and fun _ => (mf_ite (hQ _ _  (Ow.rf hs)) (mf_and fun _ => (hQ _ _  (Ow.rf hs))))) (mf_ite (hQ _ _  (Ow.rf hs)) (mf_and fun _ => (hQ _ _  (Ow.rf hs))))) (mf_and fun _ => (hQ _ _  (Ow.rf hs)))) (hQ _ _  (Ow.rf hs))))))))
set_option maxRecDepth 20000 in
theorem mo_w_Model_foretold_j113 {w : Nat} {D : Nat → Nat → Prop} {T : Nat → Prop} {h : Hot} {this : Nat} {Q Q' : Int32 → Mem → Prop} {h_Q : Hot} {v2 : Int32} {M : Mem} {M0 : Mem} (hD : Dok w D)  (lQ : ∀ t, h_Q t = true → h t = true) (hQ : ∀ z0 z1, Ow w D T h_Q M0 z1 → Q z0 z1 → Q' z0 z1) : Ow w D T h M0 M → w_Model_foretold_j113 this Q v2 M → w_Model_foretold_j113 this Q' v2 M := by
  intro hf
  unfold w_Model_foretold_j113
  exact (Exists.imp fun i7 => (mf_and fun e1 => (Exists.imp fun i8 => (mf_and fun e3 => (mf_and fun _ => (mo_w_Model_classOf hD  (fun r11 M10 f5 => (have g6 : Ow w D T _ M0 M10 := (Ow.trans hf f5); (mf_ite (hQ _ _  (Ow.dn lQ g6)) (hQ _ _  (Ow.dn lQ g6))))) hf.1))))))
set_option maxRecDepth 20000 in
theorem mo_w_Model_foretold_j101 {w : Nat} {D : Nat → Nat → Prop} {T : Nat → Prop} {h : Hot} {this : Nat} {Q Q' : Int32 → Mem → Prop} {h_Q : Hot} {v2 : Int32} {v3 : Int32} {M : Mem} {M0 : Mem} (hD : Dok w D) (n0 : ow w D 11 this) (n1 : h (11, this, 45) = true) (lQ : ∀ t, h_Q t = true → h t = true) (hQ : ∀ z0 z1, Ow w D T h_Q M0 z1 → Q z0 z1 → Q' z0 z1) : Ow w D T h M0 M → w_Model_foretold_j101 this Q v2 v3 M → w_Model_foretold_j101 this Q' v2 v3 M := by
  intro hf
  unfold w_Model_foretold_j101
  exact (mf_ite (mo_w_Model_foretold_j113 hD  lQ hQ hf) (mf_ite (mo_w_Model_foretold_j113 hD  lQ hQ hf) (mf_ite (Exists.imp fun i15 => (mf_and fun e1 => (Exists.imp fun i16 => (mf_and fun e3 => (mf_and fun _ => (mo_w_Model_findLinked hD n0 n1 (fun r19 M18 f5 => (have g6 : Ow w D T _ M0 M18 := (Ow.trans hf f5); (mf_ite (mo_w_Model_isOff hD  (fun r22 M21 f7 => (have g8 : Ow w D T _ M0 M21 := (Ow.trans g6 f7); (mf_ite (Exists.imp fun i24 => (mf_and fun e9 => (mf_and fun _ => (mf_ite (hQ _ _  (Ow.dn lQ g8)) (hQ _ _  (Ow.dn lQ g8)))))) (hQ _ _  (Ow.dn lQ g8))))) g6.1) (hQ _ _  (Ow.dn lQ g6))))) hf.1)))))) (hQ _ _  (Ow.dn lQ hf)))))
set_option maxRecDepth 20000 in
theorem mo_w_Model_foretold_j41 {w : Nat} {D : Nat → Nat → Prop} {T : Nat → Prop} {h : Hot} {this : Nat} {Q Q' : Int32 → Mem → Prop} {h_Q : Hot} {v1 : Int32} {v2 : Int32} {v3 : Int32} {M : Mem} {M0 : Mem} (hD : Dok w D) (n0 : ow w D 11 this) (n1 : h (11, this, 45) = true) (lQ : ∀ t, h_Q t = true → h t = true) (hQ : ∀ z0 z1, Ow w D T h_Q M0 z1 → Q z0 z1 → Q' z0 z1) : Ow w D T h M0 M → w_Model_foretold_j41 this Q v1 v2 v3 M → w_Model_foretold_j41 this Q' v1 v2 v3 M := by
  intro hf
  unfold w_Model_foretold_j41
  exact (mf_ite (mo_w_Model_foretold_j101 hD n0 n1 lQ hQ hf) (mf_ite (mo_w_Model_foretold_j101 hD n0 n1 lQ hQ hf) (Exists.imp fun i28 => (mf_and fun e1 => (Exists.imp fun i29 => (mf_and fun e3 => (mf_and fun _ => (Exists.imp fun i31 => (mf_and fun e5 => (Exists.imp fun i32 => (mf_and fun e7 => (mf_and fun _ => (Exists.imp fun i34 => (mf_and fun e9 => (Exists.imp fun i35 => (mf_and fun e11 => (mf_and fun _ => (mf_and fun _ => (mo_w_Model_findMethod hD n0 n1 (fun r39 M38 f13 => (have g14 : Ow w D T _ M0 M38 := (Ow.trans hf f13); (mf_ite (hQ _ _  (Ow.dn lQ g14)) (hQ _ _  (Ow.dn lQ g14))))) hf.1)))))))))))))))))))
set_option maxRecDepth 20000 in
theorem mo_w_Model_foretold {w : Nat} {D : Nat → Nat → Prop} {T : Nat → Prop} {h : Hot} {this : Nat} {a1 : Int32} {a2 : Int32} {Q Q' : Int32 → Mem → Prop} {M : Mem} (hD : Dok w D) (n0 : ow w D 11 this) (n1 : h (11, this, 45) = true) (hQ : ∀ z0 z1, Ow w D T h M z1 → Q z0 z1 → Q' z0 z1) : St w D T h M → w_Model_foretold this a1 a2 Q M → w_Model_foretold this a1 a2 Q' M := by
  intro hs
  unfold w_Model_foretold
  exact (Exists.imp fun i1 => (mf_and fun e1 => (Exists.imp fun i2 => (mf_and fun e3 => (mf_and fun _ => (mf_ite (mo_w_Model_foretold_j41 hD n0 n1 (fun _ e => e) hQ (Ow.rf hs)) (mf_ite (mo_w_Model_foretold_j41 hD n0 n1 (fun _ e => e) hQ (Ow.rf hs)) (mo_w_Model_findField hD n0 n1 (fun r43 M42 f5 => (have g6 : Ow w D T _ M M42 := (Ow.trans (Ow.rf hs) f5); (mf_ite (hQ _ _  g6) (hQ _ _  g6)))) (Ow.rf hs).1))))))))
set_option maxRecDepth 20000 in
theorem mo_w_Model_foretell_j150 {w : Nat} {D : Nat → Nat → Prop} {T : Nat → Prop} {h : Hot} {this : Nat} {Q Q' : Int32 → Mem → Prop} {h_Q : Hot} {k42 k42' : Int32 → Int32 → Int32 → Int32 → Mem → Prop} {h_k42 : Hot} {k68 k68' : Int32 → Int32 → Int32 → Int32 → Int32 → Int32 → Mem → Prop} {h_k68 : Hot} {v2 : Int32} {v4 : Int32} {v6 : Int32} {v7 : Int32} {v8 : Int32} {s0 : Int32} {s1 : Int32} {M : Mem} {M0 : Mem} (hD : Dok w D)  (lQ : ∀ t, h_Q t = true → h t = true) (hQ : ∀ z0 z1, Ow w D T h_Q M0 z1 → Q z0 z1 → Q' z0 z1) (lk42 : ∀ t, h_k42 t = true → h t = true) (hk42 : ∀ z0 z1 z2 z3 z4, Ow w D T h_k42 M0 z4 → k42 z0 z1 z2 z3 z4 → k42' z0 z1 z2 z3 z4) (lk68 : ∀ t, h_k68 t = true → h t = true) (hk68 : ∀ z0 z1 z2 z3 z4 z5 z6, Ow w D T h_k68 M0 z6 → k68 z0 z1 z2 z3 z4 z5 z6 → k68' z0 z1 z2 z3 z4 z5 z6) : Ow w D T h M0 M → w_Model_foretell_j150 this Q k42 k68 v2 v4 v6 v7 v8 s0 s1 M → w_Model_foretell_j150 this Q' k42' k68' v2 v4 v6 v7 v8 s0 s1 M := by
  intro hf
  unfold w_Model_foretell_j150
  exact (hk68 _ _ _ _ _ _ _  (Ow.dn lk68 hf))
set_option maxRecDepth 20000 in
theorem mo_w_Model_foretell_j138 {w : Nat} {D : Nat → Nat → Prop} {T : Nat → Prop} {h : Hot} {this : Nat} {Q Q' : Int32 → Mem → Prop} {h_Q : Hot} {k42 k42' : Int32 → Int32 → Int32 → Int32 → Mem → Prop} {h_k42 : Hot} {k68 k68' : Int32 → Int32 → Int32 → Int32 → Int32 → Int32 → Mem → Prop} {h_k68 : Hot} {v2 : Int32} {v4 : Int32} {v5 : Int32} {v6 : Int32} {v7 : Int32} {v8 : Int32} {v9 : Int32} {M : Mem} {M0 : Mem} (hD : Dok w D)  (lQ : ∀ t, h_Q t = true → h t = true) (hQ : ∀ z0 z1, Ow w D T h_Q M0 z1 → Q z0 z1 → Q' z0 z1) (lk42 : ∀ t, h_k42 t = true → h t = true) (hk42 : ∀ z0 z1 z2 z3 z4, Ow w D T h_k42 M0 z4 → k42 z0 z1 z2 z3 z4 → k42' z0 z1 z2 z3 z4) (lk68 : ∀ t, h_k68 t = true → h t = true) (hk68 : ∀ z0 z1 z2 z3 z4 z5 z6, Ow w D T h_k68 M0 z6 → k68 z0 z1 z2 z3 z4 z5 z6 → k68' z0 z1 z2 z3 z4 z5 z6) : Ow w D T h M0 M → w_Model_foretell_j138 this Q k42 k68 v2 v4 v5 v6 v7 v8 v9 M → w_Model_foretell_j138 this Q' k42' k68' v2 v4 v5 v6 v7 v8 v9 M := by
  intro hf
  unfold w_Model_foretell_j138
  exact (mf_ite (mo_w_Model_foretell_j150 hD  lQ hQ lk42 hk42 lk68 hk68 hf) (mo_w_Model_foretell_j150 hD  lQ hQ lk42 hk42 lk68 hk68 hf))
set_option maxRecDepth 20000 in
theorem mo_w_Model_foretell_L68 {w : Nat} {D : Nat → Nat → Prop} {T : Nat → Prop} {h : Hot} {this : Nat} {Q Q' : Int32 → Mem → Prop} {h_Q : Hot} {k42 k42' : Int32 → Int32 → Int32 → Int32 → Mem → Prop} {h_k42 : Hot} {M0 : Mem} (hD : Dok w D) (n0 : ow w D 11 this) (n1 : h (11, this, 45) = true) (lQ : ∀ t, h_Q t = true → h t = true) (hQ : ∀ z0 z1, Ow w D T h_Q M0 z1 → Q z0 z1 → Q' z0 z1) (lk42 : ∀ t, h_k42 t = true → h t = true) (hk42 : ∀ z0 z1 z2 z3 z4, Ow w D T h_k42 M0 z4 → k42 z0 z1 z2 z3 z4 → k42' z0 z1 z2 z3 z4) : ∀ (n : Nat) (v2 : Int32) (v4 : Int32) (v5 : Int32) (v6 : Int32) (v7 : Int32) (v8 : Int32) (M : Mem), Ow w D T h M0 M → w_Model_foretell_L68 this Q k42 n v2 v4 v5 v6 v7 v8 M → w_Model_foretell_L68 this Q' k42' n v2 v4 v5 v6 v7 v8 M
  | 0, _, _, _, _, _, _, _ => fun  _ h => h
  | n + 1, v2, v4, v5, v6, v7, v8, M => fun  hf => by
    unfold w_Model_foretell_L68
    exact (Exists.imp fun i12 => (mf_and fun e1 => (mf_and fun _ => (mf_ite (hk42 _ _ _ _ _  (Ow.dn lk42 hf)) (Exists.imp fun i15 => (mf_and fun e3 => (mf_and fun _ => (mo_w_Model_foretold hD n0 n1 (fun r18 M17 f5 => (have g6 : Ow w D T _ M0 M17 := (Ow.trans hf f5); (mf_ite (mo_w_Model_foretell_j138 hD  lQ hQ lk42 hk42 (fun _ e => e) (fun y0 y1 y2 y3 y4 y5 y6  hf => mo_w_Model_foretell_L68 hD n0 n1 lQ hQ lk42 hk42 n y0 y1 y2 y3 y4 y5 y6  hf) g6) (mf_ite (mf_ite (hQ _ _  (Ow.dn lQ g6)) (mf_ite (hQ _ _  (Ow.dn lQ g6)) (hQ _ _  (Ow.dn lQ g6)))) (mo_w_Model_foretell_j138 hD  lQ hQ lk42 hk42 (fun _ e => e) (fun y0 y1 y2 y3 y4 y5 y6  hf => mo_w_Model_foretell_L68 hD n0 n1 lQ hQ lk42 hk42 n y0 y1 y2 y3 y4 y5 y6  hf) g6))))) hf.1))))))))
set_option maxRecDepth 20000 in
theorem mo_w_Model_foretell_L42 {w : Nat} {D : Nat → Nat → Prop} {T : Nat → Prop} {h : Hot} {this : Nat} {Q Q' : Int32 → Mem → Prop} {h_Q : Hot} {M0 : Mem} (hD : Dok w D) (n0 : ow w D 11 this) (n1 : h (11, this, 45) = true) (lQ : ∀ t, h_Q t = true → h t = true) (hQ : ∀ z0 z1, Ow w D T h_Q M0 z1 → Q z0 z1 → Q' z0 z1) : ∀ (n : Nat) (v2 : Int32) (v4 : Int32) (v5 : Int32) (v6 : Int32) (M : Mem), Ow w D T h M0 M → w_Model_foretell_L42 this Q n v2 v4 v5 v6 M → w_Model_foretell_L42 this Q' n v2 v4 v5 v6 M
  | 0, _, _, _, _, _ => fun  _ h => h
  | n + 1, v2, v4, v5, v6, M => fun  hf => by
    unfold w_Model_foretell_L42
    exact (Exists.imp fun i9 => (mf_and fun e1 => (mf_and fun _ => (mf_ite (hQ _ _  (Ow.dn lQ hf)) (Exists.imp fun n24 => (mo_w_Model_foretell_L68 hD n0 n1 lQ hQ (fun _ e => e) (fun y0 y1 y2 y3 y4  hf => mo_w_Model_foretell_L42 hD n0 n1 lQ hQ n y0 y1 y2 y3 y4  hf) _ _ _ _ _ _ _ _  hf))))))
set_option maxRecDepth 20000 in
theorem mo_w_Model_foretell {w : Nat} {D : Nat → Nat → Prop} {T : Nat → Prop} {h : Hot} {this : Nat} {a1 : Int32} {a2 : Int32} {a3 : Int32} {a4 : Int32} {Q Q' : Int32 → Mem → Prop} {M : Mem} (hD : Dok w D) (n0 : ow w D 11 this) (n1 : T (1000 + a1.toNatClampNeg)) (hQ : ∀ z0 z1, Ow w D T h M z1 → Q z0 z1 → Q' z0 z1) : St w D T h M → w_Model_foretell this a1 a2 a3 a4 Q M → w_Model_foretell this a1 a2 a3 a4 Q' M := by
  intro hs
  unfold w_Model_foretell
  exact (mo_w_Model_isClass hD  (fun r2 M1 f1 => (have g2 : Ow w D T _ M M1 := (Ow.trans (Ow.rf hs) f1); (mf_ite (hQ _ _  g2) (mf_ite (hQ _ _  g2) (mf_ite (hQ _ _  g2) (mf_ite (mf_and fun _ => (Exists.imp fun i8 => (mf_and fun e3 => (have o4 : ow w D 12 i8 := (Ow.rT e3 rfl n1 g2); (Exists.imp fun n25 => (have g5 : Ow w D T _ M (sR M1 11 this 45 (some (12, i8))) := (Ow.wRh rfl n0 o4 g2); (mo_w_Model_foretell_L42 hD n0 up_s (leU (fun _ e => e)) hQ _ _ _ _ _ _  g5))))))) (hQ _ _  g2))))))) (Ow.rf hs).1)
set_option maxRecDepth 20000 in
theorem mo_w_Model_asked_j126 {w : Nat} {D : Nat → Nat → Prop} {T : Nat → Prop} {h : Hot} {this : Nat} {Q Q' : Int32 → Mem → Prop} {h_Q : Hot} {v3 : Int32} {M : Mem} {M0 : Mem} (hD : Dok w D)  (lQ : ∀ t, h_Q t = true → h t = true) (hQ : ∀ z0 z1, Ow w D T h_Q M0 z1 → Q z0 z1 → Q' z0 z1) : Ow w D T h M0 M → w_Model_asked_j126 this Q v3 M → w_Model_asked_j126 this Q' v3 M := by
  intro hf
  unfold w_Model_asked_j126
  exact (mf_ite (mf_and fun _ => (mf_and fun _ => (hQ _ _  (Ow.dn lQ hf)))) (hQ _ _  (Ow.dn lQ hf)))
set_option maxRecDepth 20000 in
theorem mo_w_Model_asked_j94 {w : Nat} {D : Nat → Nat → Prop} {T : Nat → Prop} {h : Hot} {this : Nat} {Q Q' : Int32 → Mem → Prop} {h_Q : Hot} {v2 : Int32} {v3 : Int32} {M : Mem} {M0 : Mem} (hD : Dok w D) (n0 : ow w D 11 this) (lQ : ∀ t, h_Q t = true → h t = true) (hQ : ∀ z0 z1, Ow w D T h_Q M0 z1 → Q z0 z1 → Q' z0 z1) : Ow w D T h M0 M → w_Model_asked_j94 this Q v2 v3 M → w_Model_asked_j94 this Q' v2 v3 M := by
  intro hf
  unfold w_Model_asked_j94
  exact (mf_ite (mo_w_Model_asked_j126 hD  lQ hQ hf) (Exists.imp fun i16 => (mf_and fun e1 => (mf_and fun _ => (mf_ite (mo_w_Model_dispatch hD n0 (fun r20 M19 f3 => (have g4 : Ow w D T _ M0 M19 := (Ow.trans hf f3); (mo_w_Model_asked_j126 hD  lQ hQ g4))) hf.1) (mo_w_Model_asked_j126 hD  lQ hQ hf))))))
set_option maxRecDepth 20000 in
theorem mo_w_Model_asked {w : Nat} {D : Nat → Nat → Prop} {T : Nat → Prop} {h : Hot} {this : Nat} {a1 : Int32} {a2 : Int32} {Q Q' : Int32 → Mem → Prop} {M : Mem} (hD : Dok w D) (n0 : ow w D 11 this) (n1 : T (1000 + a1.toNatClampNeg)) (hQ : ∀ z0 z1, Ow w D T h M z1 → Q z0 z1 → Q' z0 z1) : St w D T h M → w_Model_asked this a1 a2 Q M → w_Model_asked this a1 a2 Q' M := by
  intro hs
  unfold w_Model_asked
  exact (mo_w_Model_isClass hD  (fun r2 M1 f1 => (have g2 : Ow w D T _ M M1 := (Ow.trans (Ow.rf hs) f1); (mf_ite (hQ _ _  g2) (mo_w_Model_takesLine hD n0 (fun r5 M4 f3 => (have g4 : Ow w D T _ M M4 := (Ow.trans g2 f3); (mf_ite (hQ _ _  g4) (mf_and fun _ => (Exists.imp fun i8 => (mf_and fun e5 => (have o6 : ow w D 12 i8 := (Ow.rT e5 rfl n1 g4); (have g7 : Ow w D T _ M (sR M4 11 this 45 (some (12, i8))) := (Ow.wRh rfl n0 o6 g4); (mo_w_Model_findMethod hD n0 up_s (fun r10 M9 f8 => (have g9 : Ow w D T _ M M9 := (Ow.trans g7 f8); (mf_ite (mo_w_Model_asked_j94 hD n0 (leU (fun _ e => e)) hQ g9) (mo_w_Model_isLinked hD n0 up_s (fun r22 M21 f10 => (have g11 : Ow w D T _ M M21 := (Ow.trans g9 f10); (mf_ite (Exists.imp fun i24 => (mf_and fun e12 => (mf_and fun _ => (mf_and fun _ => (Exists.imp fun i27 => (mf_and fun e14 => (mf_and fun _ => (mf_and fun _ => (mo_w_Model_fails hD n0 (fun r31 M30 f16 => (have g17 : Ow w D T _ M M30 := (Ow.trans g11 f16); (mo_w_Model_asked_j94 hD n0 (leU (fun _ e => e)) hQ g17))) g11.1))))))))) (mo_w_Model_asked_j94 hD n0 (leU (fun _ e => e)) hQ g11)))) g9.1)))) g7.1))))))))) g2.1)))) (Ow.rf hs).1)
set_option maxRecDepth 20000 in
theorem mo_w_Model_addReached {w : Nat} {D : Nat → Nat → Prop} {T : Nat → Prop} {h : Hot} {this : Nat} {a1 : Int32} {Q Q' : Mem → Prop} {M : Mem} (hD : Dok w D) (n0 : ow w D 11 this) (hQ : ∀ z0, Ow w D T h M z0 → Q z0 → Q' z0) : St w D T h M → w_Model_addReached this a1 Q M → w_Model_addReached this a1 Q' M := by
  intro hs
  unfold w_Model_addReached
  exact (mf_and fun _ => (mf_ite (hQ _  (Ow.rf hs)) (mf_and fun _ => (mf_ite (mf_and fun _ => (mf_and fun _ => (Exists.imp fun M7 => (mf_and fun e1 => (have g2 : Ow w D T _ M M7 := Ow.of e1 (Ow.wI (ow0 rfl) (Ow.wI (ow0 rfl) (Ow.rf hs))); (hQ _  (Ow.wI n0 g2))))))) (hQ _  (Ow.rf hs))))))
set_option maxRecDepth 20000 in
theorem mo_w_Model_addStarts_j66 {w : Nat} {D : Nat → Nat → Prop} {T : Nat → Prop} {h : Hot} {this : Nat} {Q Q' : Mem → Prop} {h_Q : Hot} {k2 k2' : Int32 → Mem → Prop} {h_k2 : Hot} {s0 : Int32} {M : Mem} {M0 : Mem} (hD : Dok w D)  (lQ : ∀ t, h_Q t = true → h t = true) (hQ : ∀ z0, Ow w D T h_Q M0 z0 → Q z0 → Q' z0) (lk2 : ∀ t, h_k2 t = true → h t = true) (hk2 : ∀ z0 z1, Ow w D T h_k2 M0 z1 → k2 z0 z1 → k2' z0 z1) : Ow w D T h M0 M → w_Model_addStarts_j66 this Q k2 s0 M → w_Model_addStarts_j66 this Q' k2' s0 M := by
  intro hf
  unfold w_Model_addStarts_j66
  exact (hk2 _ _  (Ow.dn lk2 hf))
set_option maxRecDepth 20000 in
theorem mo_w_Model_addStarts_j42 {w : Nat} {D : Nat → Nat → Prop} {T : Nat → Prop} {h : Hot} {this : Nat} {Q Q' : Mem → Prop} {h_Q : Hot} {k2 k2' : Int32 → Mem → Prop} {h_k2 : Hot} {v2 : Int32} {M : Mem} {M0 : Mem} (hD : Dok w D)  (lQ : ∀ t, h_Q t = true → h t = true) (hQ : ∀ z0, Ow w D T h_Q M0 z0 → Q z0 → Q' z0) (lk2 : ∀ t, h_k2 t = true → h t = true) (hk2 : ∀ z0 z1, Ow w D T h_k2 M0 z1 → k2 z0 z1 → k2' z0 z1) : Ow w D T h M0 M → w_Model_addStarts_j42 this Q k2 v2 M → w_Model_addStarts_j42 this Q' k2' v2 M := by
  intro hf
  unfold w_Model_addStarts_j42
  exact (Exists.imp fun i8 => (mf_and fun e1 => (mf_and fun _ => (mf_ite (mo_w_Model_parentOf hD  (fun r12 M11 f3 => (have g4 : Ow w D T _ M0 M11 := (Ow.trans hf f3); (mo_w_Model_addStarts_j66 hD  lQ hQ lk2 hk2 g4))) hf.1) (mo_w_Model_addStarts_j66 hD  lQ hQ lk2 hk2 hf)))))
set_option maxRecDepth 20000 in
theorem mo_w_Model_addStarts_L2 {w : Nat} {D : Nat → Nat → Prop} {T : Nat → Prop} {h : Hot} {this : Nat} {Q Q' : Mem → Prop} {h_Q : Hot} {M0 : Mem} (hD : Dok w D) (n0 : ow w D 11 this) (lQ : ∀ t, h_Q t = true → h t = true) (hQ : ∀ z0, Ow w D T h_Q M0 z0 → Q z0 → Q' z0) : ∀ (n : Nat) (v2 : Int32) (M : Mem), Ow w D T h M0 M → w_Model_addStarts_L2 this Q n v2 M → w_Model_addStarts_L2 this Q' n v2 M
  | 0, _, _ => fun  _ h => h
  | n + 1, v2, M => fun  hf => by
    unfold w_Model_addStarts_L2
    exact (mf_ite (hQ _  (Ow.dn lQ hf)) (Exists.imp fun i2 => (mf_and fun e1 => (mf_and fun _ => (mf_ite (hQ _  (Ow.dn lQ hf)) (mo_w_Model_methodIn hD  (fun r6 M5 f3 => (have g4 : Ow w D T _ M0 M5 := (Ow.trans hf f3); (mf_ite (mo_w_Model_addStarts_j42 hD  lQ hQ (fun _ e => e) (fun y0 y1  hf => mo_w_Model_addStarts_L2 hD n0 lQ hQ n y0 y1  hf) g4) (mo_w_Model_addReached hD n0 (fun M13 f5 => (have g6 : Ow w D T _ M0 M13 := (Ow.trans g4 f5); (mo_w_Model_addStarts_j42 hD  lQ hQ (fun _ e => e) (fun y0 y1  hf => mo_w_Model_addStarts_L2 hD n0 lQ hQ n y0 y1  hf) g6))) g4.1)))) hf.1))))))
set_option maxRecDepth 20000 in
theorem mo_w_Model_addStarts {w : Nat} {D : Nat → Nat → Prop} {T : Nat → Prop} {h : Hot} {this : Nat} {a1 : Int32} {Q Q' : Mem → Prop} {M : Mem} (hD : Dok w D) (n0 : ow w D 11 this) (hQ : ∀ z0, Ow w D T h M z0 → Q z0 → Q' z0) : St w D T h M → w_Model_addStarts this a1 Q M → w_Model_addStarts this a1 Q' M := by
  intro hs
  unfold w_Model_addStarts
  exact (Exists.imp fun n14 => (mo_w_Model_addStarts_L2 hD n0 (fun _ e => e) hQ _ _ _  (Ow.rf hs)))
set_option maxRecDepth 20000 in
theorem mo_w_Model_reachFrom_j55 {w : Nat} {D : Nat → Nat → Prop} {T : Nat → Prop} {h : Hot} {this : Nat} {Q Q' : Mem → Prop} {h_Q : Hot} {v1 : Int32} {v2 : Int32} {v3 : Int32} {M : Mem} {M0 : Mem} (hD : Dok w D) (n0 : ow w D 11 this) (n1 : h (11, this, 45) = true) (lQ : ∀ t, h_Q t = true → h t = true) (hQ : ∀ z0, Ow w D T h_Q M0 z0 → Q z0 → Q' z0) : Ow w D T h M0 M → w_Model_reachFrom_j55 this Q v1 v2 v3 M → w_Model_reachFrom_j55 this Q' v1 v2 v3 M := by
  intro hf
  unfold w_Model_reachFrom_j55
  exact (mo_w_Model_findField hD n0 n1 (fun r16 M15 f1 => (have g2 : Ow w D T _ M0 M15 := (Ow.trans hf f1); (mf_ite (hQ _  (Ow.dn lQ g2)) (mf_and fun _ => (mo_w_Model_addStarts hD n0 (fun M19 f3 => (have g4 : Ow w D T _ M0 M19 := (Ow.trans g2 f3); (hQ _  (Ow.dn lQ g4)))) g2.1))))) hf.1)
set_option maxRecDepth 20000 in
theorem mo_w_Model_reachFrom_j163 {w : Nat} {D : Nat → Nat → Prop} {T : Nat → Prop} {h : Hot} {this : Nat} {Q Q' : Mem → Prop} {h_Q : Hot} {v3 : Int32} {v4 : Int32} {M : Mem} {M0 : Mem} (hD : Dok w D) (n0 : ow w D 11 this) (lQ : ∀ t, h_Q t = true → h t = true) (hQ : ∀ z0, Ow w D T h_Q M0 z0 → Q z0 → Q' z0) : Ow w D T h M0 M → w_Model_reachFrom_j163 this Q v3 v4 M → w_Model_reachFrom_j163 this Q' v3 v4 M := by
  intro hf
  unfold w_Model_reachFrom_j163
  exact (mo_w_Model_addReached hD n0 (fun M37 f1 => (have g2 : Ow w D T _ M0 M37 := (Ow.trans hf f1); (mf_ite (mf_and fun _ => (mo_w_Model_addStarts hD n0 (fun M40 f3 => (have g4 : Ow w D T _ M0 M40 := (Ow.trans g2 f3); (hQ _  (Ow.dn lQ g4)))) g2.1)) (hQ _  (Ow.dn lQ g2))))) hf.1)
set_option maxRecDepth 20000 in
theorem mo_w_Model_reachFrom_j288 {w : Nat} {D : Nat → Nat → Prop} {T : Nat → Prop} {h : Hot} {this : Nat} {Q Q' : Mem → Prop} {h_Q : Hot} {k203 k203' : Int32 → Int32 → Int32 → Mem → Prop} {h_k203 : Hot} {v2 : Int32} {v5 : Int32} {v6 : Int32} {M : Mem} {M0 : Mem} (hD : Dok w D)  (lQ : ∀ t, h_Q t = true → h t = true) (hQ : ∀ z0, Ow w D T h_Q M0 z0 → Q z0 → Q' z0) (lk203 : ∀ t, h_k203 t = true → h t = true) (hk203 : ∀ z0 z1 z2 z3, Ow w D T h_k203 M0 z3 → k203 z0 z1 z2 z3 → k203' z0 z1 z2 z3) : Ow w D T h M0 M → w_Model_reachFrom_j288 this Q k203 v2 v5 v6 M → w_Model_reachFrom_j288 this Q' k203' v2 v5 v6 M := by
  intro hf
  unfold w_Model_reachFrom_j288
  exact (hk203 _ _ _ _  (Ow.dn lk203 hf))
set_option maxRecDepth 20000 in
theorem mo_w_Model_reachFrom_L203 {w : Nat} {D : Nat → Nat → Prop} {T : Nat → Prop} {h : Hot} {this : Nat} {Q Q' : Mem → Prop} {h_Q : Hot} {M0 : Mem} (hD : Dok w D) (n0 : ow w D 11 this) (n1 : h (11, this, 45) = true) (lQ : ∀ t, h_Q t = true → h t = true) (hQ : ∀ z0, Ow w D T h_Q M0 z0 → Q z0 → Q' z0) : ∀ (n : Nat) (v2 : Int32) (v5 : Int32) (v6 : Int32) (M : Mem), Ow w D T h M0 M → w_Model_reachFrom_L203 this Q n v2 v5 v6 M → w_Model_reachFrom_L203 this Q' n v2 v5 v6 M
  | 0, _, _, _, _ => fun  _ h => h
  | n + 1, v2, v5, v6, M => fun  hf => by
    unfold w_Model_reachFrom_L203
    exact (Exists.imp fun i50 => (mf_and fun e1 => (mf_ite (hQ _  (Ow.dn lQ hf)) (Exists.imp fun i52 => (mf_and fun e3 => (mf_and fun _ => (mf_ite (mo_w_Model_isBelow hD  (fun r56 M55 f5 => (have g6 : Ow w D T _ M0 M55 := (Ow.trans hf f5); (mf_ite (mo_w_Model_reachFrom_j288 hD  lQ hQ (fun _ e => e) (fun y0 y1 y2 y3  hf => mo_w_Model_reachFrom_L203 hD n0 n1 lQ hQ n y0 y1 y2 y3  hf) g6) (mo_w_Model_isLinked hD n0 n1 (fun r59 M58 f7 => (have g8 : Ow w D T _ M0 M58 := (Ow.trans g6 f7); (mf_ite (mo_w_Model_reachFrom_j288 hD  lQ hQ (fun _ e => e) (fun y0 y1 y2 y3  hf => mo_w_Model_reachFrom_L203 hD n0 n1 lQ hQ n y0 y1 y2 y3  hf) g8) (Exists.imp fun i61 => (mf_and fun e9 => (Exists.imp fun i62 => (mf_and fun e11 => (mf_and fun _ => (Exists.imp fun i64 => (mf_and fun e13 => (Exists.imp fun i65 => (mf_and fun e15 => (mf_and fun _ => (mo_w_Model_dispatch hD n0 (fun r68 M67 f17 => (have g18 : Ow w D T _ M0 M67 := (Ow.trans g8 f17); (mf_ite (mo_w_Model_reachFrom_j288 hD  lQ hQ (fun _ e => e) (fun y0 y1 y2 y3  hf => mo_w_Model_reachFrom_L203 hD n0 n1 lQ hQ n y0 y1 y2 y3  hf) g18) (mo_w_Model_addReached hD n0 (fun M70 f19 => (have g20 : Ow w D T _ M0 M70 := (Ow.trans g18 f19); (mo_w_Model_reachFrom_j288 hD  lQ hQ (fun _ e => e) (fun y0 y1 y2 y3  hf => mo_w_Model_reachFrom_L203 hD n0 n1 lQ hQ n y0 y1 y2 y3  hf) g20))) g18.1)))) g8.1)))))))))))))) g6.1)))) hf.1) (mo_w_Model_reachFrom_j288 hD  lQ hQ (fun _ e => e) (fun y0 y1 y2 y3  hf => mo_w_Model_reachFrom_L203 hD n0 n1 lQ hQ n y0 y1 y2 y3  hf) hf))))))))
set_option maxRecDepth 20000 in
theorem mo_w_Model_reachFrom {w : Nat} {D : Nat → Nat → Prop} {T : Nat → Prop} {h : Hot} {this : Nat} {a1 : Int32} {a2 : Int32} {Q Q' : Mem → Prop} {M : Mem} (hD : Dok w D) (n0 : ow w D 11 this) (n1 : h (11, this, 45) = true) (hQ : ∀ z0, Ow w D T h M z0 → Q z0 → Q' z0) : St w D T h M → w_Model_reachFrom this a1 a2 Q M → w_Model_reachFrom this a1 a2 Q' M := by
  intro hs
  unfold w_Model_reachFrom
  exact (Exists.imp fun i1 => (mf_and fun e1 => (Exists.imp fun i2 => (mf_and fun e3 => (mf_and fun _ => (mf_ite (mo_w_Model_foretold hD n0 n1 (fun r6 M5 f5 => (have g6 : Ow w D T _ M M5 := (Ow.trans (Ow.rf hs) f5); (mf_ite (Exists.imp fun i8 => (mf_and fun e7 => (Exists.imp fun i9 => (mf_and fun e9 => (mf_and fun _ => (mo_w_Model_classOf hD  (fun r12 M11 f11 => (have g12 : Ow w D T _ M M11 := (Ow.trans g6 f11); (mo_w_Model_addStarts hD n0 (fun M13 f13 => (have g14 : Ow w D T _ M M13 := (Ow.trans g12 f13); (hQ _  g14))) g12.1))) g6.1)))))) (hQ _  g6)))) (Ow.rf hs).1) (mf_ite (mo_w_Model_reachFrom_j55 hD n0 n1 (fun _ e => e) hQ (Ow.rf hs)) (mf_ite (mo_w_Model_reachFrom_j55 hD n0 n1 (fun _ e => e) hQ (Ow.rf hs)) (mf_ite (hQ _  (Ow.rf hs)) (mf_ite (Exists.imp fun i23 => (mf_and fun e15 => (Exists.imp fun i24 => (mf_and fun e17 => (mf_and fun _ => (Exists.imp fun i26 => (mf_and fun e19 => (Exists.imp fun i27 => (mf_and fun e21 => (mf_and fun _ => (Exists.imp fun i29 => (mf_and fun e23 => (Exists.imp fun i30 => (mf_and fun e25 => (mf_and fun _ => (mf_and fun _ => (mo_w_Model_findMethod hD n0 n1 (fun r34 M33 f27 => (have g28 : Ow w D T _ M M33 := (Ow.trans (Ow.rf hs) f27); (mf_ite (mf_ite (mo_w_Model_reachFrom_j163 hD n0 (fun _ e => e) hQ g28) (mf_ite (mo_w_Model_reachFrom_j163 hD n0 (fun _ e => e) hQ g28) (Exists.imp fun i42 => (mf_and fun e29 => (mf_and fun _ => (mf_ite (Exists.imp fun i45 => (mf_and fun e31 => (Exists.imp fun i46 => (mf_and fun e33 => (mf_and fun _ => (mo_w_Model_classOf hD  (fun r49 M48 f35 => (have g36 : Ow w D T _ M M48 := (Ow.trans g28 f35); (Exists.imp fun n71 => (mo_w_Model_reachFrom_L203 hD n0 n1 (fun _ e => e) hQ _ _ _ _ _  g36)))) g28.1)))))) (mo_w_Model_reachFrom_j163 hD n0 (fun _ e => e) hQ g28))))))) (hQ _  g28)))) (Ow.rf hs).1))))))))))))))))) (hQ _  (Ow.rf hs))))))))))))
set_option maxRecDepth 20000 in
theorem mo_w_Model_reach_L118 {w : Nat} {D : Nat → Nat → Prop} {T : Nat → Prop} {h : Hot} {this : Nat} {Q Q' : Int32 → Mem → Prop} {h_Q : Hot} {k97 k97' : Int32 → Mem → Prop} {h_k97 : Hot} {M0 : Mem} (hD : Dok w D) (n0 : ow w D 11 this) (n1 : h (11, this, 45) = true) (lQ : ∀ t, h_Q t = true → h t = true) (hQ : ∀ z0 z1, Ow w D T h_Q M0 z1 → Q z0 z1 → Q' z0 z1) (lk97 : ∀ t, h_k97 t = true → h t = true) (hk97 : ∀ z0 z1, Ow w D T h_k97 M0 z1 → k97 z0 z1 → k97' z0 z1) : ∀ (n : Nat) (v4 : Int32) (v5 : Int32) (v6 : Int32) (M : Mem), Ow w D T h M0 M → w_Model_reach_L118 this Q k97 n v4 v5 v6 M → w_Model_reach_L118 this Q' k97' n v4 v5 v6 M
  | 0, _, _, _, _ => fun  _ h => h
  | n + 1, v4, v5, v6, M => fun  hf => by
    unfold w_Model_reach_L118
    exact (Exists.imp fun i17 => (mf_and fun e1 => (mf_and fun _ => (mf_ite (hk97 _ _  (Ow.dn lk97 hf)) (Exists.imp fun i20 => (mf_and fun e3 => (mf_and fun _ => (mo_w_Model_reachFrom hD n0 n1 (fun M22 f5 => (have g6 : Ow w D T _ M0 M22 := (Ow.trans hf f5); (mo_w_Model_reach_L118 hD n0 n1 lQ hQ lk97 hk97 _ _ _ _ _  g6))) hf.1))))))))
set_option maxRecDepth 20000 in
theorem mo_w_Model_reach_L97 {w : Nat} {D : Nat → Nat → Prop} {T : Nat → Prop} {h : Hot} {this : Nat} {Q Q' : Int32 → Mem → Prop} {h_Q : Hot} {M0 : Mem} (hD : Dok w D) (n0 : ow w D 11 this) (n1 : h (11, this, 45) = true) (lQ : ∀ t, h_Q t = true → h t = true) (hQ : ∀ z0 z1, Ow w D T h_Q M0 z1 → Q z0 z1 → Q' z0 z1) : ∀ (n : Nat) (v4 : Int32) (M : Mem), Ow w D T h M0 M → w_Model_reach_L97 this Q n v4 M → w_Model_reach_L97 this Q' n v4 M
  | 0, _, _ => fun  _ h => h
  | n + 1, v4, M => fun  hf => by
    unfold w_Model_reach_L97
    exact (mf_ite (hQ _ _  (Ow.dn lQ hf)) (mf_and fun _ => (Exists.imp fun n23 => (mo_w_Model_reach_L118 hD n0 n1 lQ hQ (fun _ e => e) (fun y0 y1  hf => mo_w_Model_reach_L97 hD n0 n1 lQ hQ n y0 y1  hf) _ _ _ _ _  hf))))
set_option maxRecDepth 20000 in
theorem mo_w_Model_reach_L43 {w : Nat} {D : Nat → Nat → Prop} {T : Nat → Prop} {h : Hot} {this : Nat} {Q Q' : Int32 → Mem → Prop} {h_Q : Hot} {M0 : Mem} (hD : Dok w D) (n0 : ow w D 11 this) (n1 : h (11, this, 45) = true) (lQ : ∀ t, h_Q t = true → h t = true) (hQ : ∀ z0 z1, Ow w D T h_Q M0 z1 → Q z0 z1 → Q' z0 z1) : ∀ (n : Nat) (v2 : Int32) (v3 : Int32) (v4 : Int32) (M : Mem), Ow w D T h M0 M → w_Model_reach_L43 this Q n v2 v3 v4 M → w_Model_reach_L43 this Q' n v2 v3 v4 M
  | 0, _, _, _, _ => fun  _ h => h
  | n + 1, v2, v3, v4, M => fun  hf => by
    unfold w_Model_reach_L43
    exact (mf_ite (mf_and fun _ => (mf_and fun _ => (Exists.imp fun M14 => (mf_and fun e1 => (have g2 : Ow w D T _ M0 M14 := Ow.of e1 (Ow.wI (ow0 rfl) (Ow.wI (ow0 rfl) hf)); (Exists.imp fun n24 => (have g3 : Ow w D T _ M0 (sI M14 11 this 109 (1 : Int32)) := (Ow.wI n0 g2); (mo_w_Model_reach_L97 hD n0 n1 lQ hQ _ _ _  g3)))))))) (mf_and fun _ => (have g4 : Ow w D T _ M0 (sI M 520 this v4.toNatClampNeg ((0 : Int32) &&& 1)) := (Ow.wI (ow0 rfl) hf); (mo_w_Model_reach_L43 hD n0 n1 lQ hQ _ _ _ _ _  g4))))
set_option maxRecDepth 20000 in
theorem mo_w_Model_reach {w : Nat} {D : Nat → Nat → Prop} {T : Nat → Prop} {h : Hot} {this : Nat} {a1 : Int32} {a2 : Int32} {a3 : Int32} {Q Q' : Int32 → Mem → Prop} {M : Mem} (hD : Dok w D) (n0 : ow w D 11 this) (n1 : T (1000 + a1.toNatClampNeg)) (hQ : ∀ z0 z1, Ow w D T h M z1 → Q z0 z1 → Q' z0 z1) : St w D T h M → w_Model_reach this a1 a2 a3 Q M → w_Model_reach this a1 a2 a3 Q' M := by
  intro hs
  unfold w_Model_reach
  exact (mo_w_Model_isClass hD  (fun r2 M1 f1 => (have g2 : Ow w D T _ M M1 := (Ow.trans (Ow.rf hs) f1); (mf_ite (hQ _ _  g2) (mf_ite (hQ _ _  g2) (mf_and fun _ => (Exists.imp fun i6 => (mf_and fun e3 => (mf_and fun _ => (mf_ite (mf_and fun _ => (Exists.imp fun i10 => (mf_and fun e5 => (have o6 : ow w D 12 i10 := (Ow.rT e5 rfl n1 g2); (Exists.imp fun n26 => (have g7 : Ow w D T _ M (sR M1 11 this 45 (some (12, i10))) := (Ow.wRh rfl n0 o6 g2); (mo_w_Model_reach_L43 hD n0 up_s (leU (fun _ e => e)) hQ _ _ _ _ _  g7))))))) (hQ _ _  g2)))))))))) (Ow.rf hs).1)
set_option maxRecDepth 20000 in
theorem mo_w_Model_reached {w : Nat} {D : Nat → Nat → Prop} {T : Nat → Prop} {h : Hot} {this : Nat} {a1 : Int32} {Q Q' : Int32 → Mem → Prop} {M : Mem} (hD : Dok w D)  (hQ : ∀ z0 z1, Ow w D T h M z1 → Q z0 z1 → Q' z0 z1) : St w D T h M → w_Model_reached this a1 Q M → w_Model_reached this a1 Q' M := by
  intro hs
  unfold w_Model_reached
  exact (mf_ite (hQ _ _  (Ow.rf hs)) (mf_ite (mf_and fun _ => (mf_and fun _ => (mf_and fun _ => (mf_and fun _ => (hQ _ _  (Ow.rf hs)))))) (hQ _ _  (Ow.rf hs))))
set_option maxRecDepth 20000 in
theorem mo_w_Model_mark {w : Nat} {D : Nat → Nat → Prop} {T : Nat → Prop} {h : Hot} {this : Nat} {a1 : Int32} {Q Q' : Mem → Prop} {M : Mem} (hD : Dok w D) (n0 : ow w D 11 this) (hQ : ∀ z0, Ow w D T h M z0 → Q z0 → Q' z0) : St w D T h M → w_Model_mark this a1 Q M → w_Model_mark this a1 Q' M := by
  intro hs
  unfold w_Model_mark
  exact (mf_ite (hQ _  (Ow.rf hs)) (mf_ite (hQ _  (Ow.rf hs)) (mf_and fun _ => (mf_ite (mf_and fun _ => (mf_and fun _ => (Exists.imp fun M7 => (mf_and fun e1 => (have g2 : Ow w D T _ M M7 := Ow.of e1 (Ow.wI (ow0 rfl) (Ow.wI (ow0 rfl) (Ow.rf hs))); (hQ _  (Ow.wI n0 g2))))))) (hQ _  (Ow.rf hs))))))
set_option maxRecDepth 20000 in
theorem mo_w_Model_collect_j494 {w : Nat} {D : Nat → Nat → Prop} {T : Nat → Prop} {h : Hot} {this : Nat} {Q Q' : Int32 → Mem → Prop} {h_Q : Hot} {k350 k350' : Int32 → Int32 → Int32 → Mem → Prop} {h_k350 : Hot} {v2 : Int32} {v3 : Int32} {v4 : Int32} {M : Mem} {M0 : Mem} (hD : Dok w D)  (lQ : ∀ t, h_Q t = true → h t = true) (hQ : ∀ z0 z1, Ow w D T h_Q M0 z1 → Q z0 z1 → Q' z0 z1) (lk350 : ∀ t, h_k350 t = true → h t = true) (hk350 : ∀ z0 z1 z2 z3, Ow w D T h_k350 M0 z3 → k350 z0 z1 z2 z3 → k350' z0 z1 z2 z3) : Ow w D T h M0 M → w_Model_collect_j494 this Q k350 v2 v3 v4 M → w_Model_collect_j494 this Q' k350' v2 v3 v4 M := by
  intro hf
  unfold w_Model_collect_j494
  exact (hk350 _ _ _ _  (Ow.dn lk350 hf))
set_option maxRecDepth 20000 in
theorem mo_w_Model_collect_j422 {w : Nat} {D : Nat → Nat → Prop} {T : Nat → Prop} {h : Hot} {this : Nat} {Q Q' : Int32 → Mem → Prop} {h_Q : Hot} {k350 k350' : Int32 → Int32 → Int32 → Mem → Prop} {h_k350 : Hot} {v2 : Int32} {v3 : Int32} {v4 : Int32} {M : Mem} {M0 : Mem} (hD : Dok w D) (n0 : h (11, this, 45) = true) (lQ : ∀ t, h_Q t = true → h t = true) (hQ : ∀ z0 z1, Ow w D T h_Q M0 z1 → Q z0 z1 → Q' z0 z1) (lk350 : ∀ t, h_k350 t = true → h t = true) (hk350 : ∀ z0 z1 z2 z3, Ow w D T h_k350 M0 z3 → k350 z0 z1 z2 z3 → k350' z0 z1 z2 z3) : Ow w D T h M0 M → w_Model_collect_j422 this Q k350 v2 v3 v4 M → w_Model_collect_j422 this Q' k350' v2 v3 v4 M := by
  intro hf
  unfold w_Model_collect_j422
  exact (Exists.imp fun i23 => (mf_and fun e1 => (mf_and fun _ => (mf_ite (mo_w_Model_collect_j494 hD  lQ hQ lk350 hk350 hf) (Exists.imp fun i26 => (mf_and fun e3 => (Exists.imp fun i27 => (mf_and fun e5 => (mf_and fun _ => (Exists.imp fun i29 => (mf_and fun e7 => (mf_and fun _ => (mf_and fun _ => (mf_and fun _ => (mf_and fun _ => (mf_and fun _ => (mf_and fun _ => (Exists.imp fun M31 => (mf_and fun e9 => (have g10 : Ow w D T _ M0 M31 := Ow.of e9 (Ow.wcp (ow0 rfl) hf); (Exists.imp fun i37 => (mf_and fun e11 => (have o12 : ow w D 12 i37 := (Ow.rh e11 rfl n0 g10); (mf_and fun _ => (Exists.imp fun i39 => (mf_and fun e13 => (mf_and fun _ => (Exists.imp fun x41 => (mf_and fun _ => (have g15 : Ow w D T _ M0 (sI M31 158 i37 v4.toNatClampNeg v3) := (Ow.wI (ow.to o12 rfl rfl) g10); (mo_w_Model_collect_j494 hD  lQ hQ lk350 hk350 g15)))))))))))))))))))))))))))))))
set_option maxRecDepth 20000 in
theorem mo_w_Model_collect_L350 {w : Nat} {D : Nat → Nat → Prop} {T : Nat → Prop} {h : Hot} {this : Nat} {Q Q' : Int32 → Mem → Prop} {h_Q : Hot} {M0 : Mem} (hD : Dok w D) (n0 : h (11, this, 45) = true) (lQ : ∀ t, h_Q t = true → h t = true) (hQ : ∀ z0 z1, Ow w D T h_Q M0 z1 → Q z0 z1 → Q' z0 z1) : ∀ (n : Nat) (v2 : Int32) (v3 : Int32) (v4 : Int32) (M : Mem), Ow w D T h M0 M → w_Model_collect_L350 this Q n v2 v3 v4 M → w_Model_collect_L350 this Q' n v2 v3 v4 M
  | 0, _, _, _, _ => fun  _ h => h
  | n + 1, v2, v3, v4, M => fun  hf => by
    unfold w_Model_collect_L350
    exact (mf_ite (Exists.imp fun i12 => (mf_and fun e1 => (have o2 : ow w D 12 i12 := (Ow.rh e1 rfl n0 hf); (mf_and fun _ => (mf_and fun _ => (mf_and fun _ => (mf_and fun _ => (mf_and fun _ => (Exists.imp fun M13 => (mf_and fun e3 => (have g4 : Ow w D T _ M0 M13 := Ow.of e3 (Ow.wcp (ow.to o2 rfl rfl) hf); (Exists.imp fun i19 => (mf_and fun e5 => (have o6 : ow w D 12 i19 := (Ow.rh e5 rfl n0 g4); (hQ _ _  (Ow.dn lQ (Ow.wI o6 g4))))))))))))))))) (Exists.imp fun i20 => (mf_and fun e7 => (mf_and fun _ => (mf_ite (mo_w_Model_collect_j422 hD n0 lQ hQ (fun _ e => e) (fun y0 y1 y2 y3  hf => mo_w_Model_collect_L350 hD n0 lQ hQ n y0 y1 y2 y3  hf) hf) (mf_and fun _ => (mf_ite (Exists.imp fun i44 => (mf_and fun e9 => (have o10 : ow w D 12 i44 := (Ow.rh e9 rfl n0 hf); (mf_and fun _ => (Exists.imp fun i46 => (mf_and fun e11 => (have o12 : ow w D 12 i46 := (Ow.rh e11 rfl n0 (Ow.wI (ow.to o10 rfl rfl) hf)); (mf_and fun _ => (Exists.imp fun M48 => (mf_and fun e13 => (have g14 : Ow w D T _ M0 M48 := Ow.of e13 (Ow.wI (ow.to o12 rfl rfl) (Ow.wI (ow.to o10 rfl rfl) hf)); (Exists.imp fun i49 => (mf_and fun e15 => (have o16 : ow w D 12 i49 := (Ow.rh e15 rfl n0 g14); (have g17 : Ow w D T _ M0 (sI M48 12 i49 50 ((mI M48 12 i49 50) - (1 : Int32))) := (Ow.wI o16 g14); (mo_w_Model_collect_j494 hD  lQ hQ (fun _ e => e) (fun y0 y1 y2 y3  hf => mo_w_Model_collect_L350 hD n0 lQ hQ n y0 y1 y2 y3  hf) g17)))))))))))))))) (mo_w_Model_collect_j422 hD n0 lQ hQ (fun _ e => e) (fun y0 y1 y2 y3  hf => mo_w_Model_collect_L350 hD n0 lQ hQ n y0 y1 y2 y3  hf) hf))))))))
set_option maxRecDepth 20000 in
theorem mo_w_Model_collect_j337 {w : Nat} {D : Nat → Nat → Prop} {T : Nat → Prop} {h : Hot} {this : Nat} {Q Q' : Int32 → Mem → Prop} {h_Q : Hot} {k247 k247' : Int32 → Mem → Prop} {h_k247 : Hot} {v2 : Int32} {M : Mem} {M0 : Mem} (hD : Dok w D)  (lQ : ∀ t, h_Q t = true → h t = true) (hQ : ∀ z0 z1, Ow w D T h_Q M0 z1 → Q z0 z1 → Q' z0 z1) (lk247 : ∀ t, h_k247 t = true → h t = true) (hk247 : ∀ z0 z1, Ow w D T h_k247 M0 z1 → k247 z0 z1 → k247' z0 z1) : Ow w D T h M0 M → w_Model_collect_j337 this Q k247 v2 M → w_Model_collect_j337 this Q' k247' v2 M := by
  intro hf
  unfold w_Model_collect_j337
  exact (hk247 _ _  (Ow.dn lk247 hf))
set_option maxRecDepth 20000 in
theorem mo_w_Model_collect_j331 {w : Nat} {D : Nat → Nat → Prop} {T : Nat → Prop} {h : Hot} {this : Nat} {Q Q' : Int32 → Mem → Prop} {h_Q : Hot} {k247 k247' : Int32 → Mem → Prop} {h_k247 : Hot} {k276 k276' : Int32 → Int32 → Int32 → Int32 → Mem → Prop} {h_k276 : Hot} {v2 : Int32} {v3 : Int32} {v4 : Int32} {v5 : Int32} {M : Mem} {M0 : Mem} (hD : Dok w D)  (lQ : ∀ t, h_Q t = true → h t = true) (hQ : ∀ z0 z1, Ow w D T h_Q M0 z1 → Q z0 z1 → Q' z0 z1) (lk247 : ∀ t, h_k247 t = true → h t = true) (hk247 : ∀ z0 z1, Ow w D T h_k247 M0 z1 → k247 z0 z1 → k247' z0 z1) (lk276 : ∀ t, h_k276 t = true → h t = true) (hk276 : ∀ z0 z1 z2 z3 z4, Ow w D T h_k276 M0 z4 → k276 z0 z1 z2 z3 z4 → k276' z0 z1 z2 z3 z4) : Ow w D T h M0 M → w_Model_collect_j331 this Q k247 k276 v2 v3 v4 v5 M → w_Model_collect_j331 this Q' k247' k276' v2 v3 v4 v5 M := by
  intro hf
  unfold w_Model_collect_j331
  exact (hk276 _ _ _ _ _  (Ow.dn lk276 hf))
set_option maxRecDepth 20000 in
theorem mo_w_Model_collect_L276 {w : Nat} {D : Nat → Nat → Prop} {T : Nat → Prop} {h : Hot} {this : Nat} {Q Q' : Int32 → Mem → Prop} {h_Q : Hot} {k247 k247' : Int32 → Mem → Prop} {h_k247 : Hot} {M0 : Mem} (hD : Dok w D) (n0 : ow w D 11 this) (lQ : ∀ t, h_Q t = true → h t = true) (hQ : ∀ z0 z1, Ow w D T h_Q M0 z1 → Q z0 z1 → Q' z0 z1) (lk247 : ∀ t, h_k247 t = true → h t = true) (hk247 : ∀ z0 z1, Ow w D T h_k247 M0 z1 → k247 z0 z1 → k247' z0 z1) : ∀ (n : Nat) (v2 : Int32) (v3 : Int32) (v4 : Int32) (v5 : Int32) (M : Mem), Ow w D T h M0 M → w_Model_collect_L276 this Q k247 n v2 v3 v4 v5 M → w_Model_collect_L276 this Q' k247' n v2 v3 v4 v5 M
  | 0, _, _, _, _, _ => fun  _ h => h
  | n + 1, v2, v3, v4, v5, M => fun  hf => by
    unfold w_Model_collect_L276
    exact (mf_ite (mo_w_Model_collect_j337 hD  lQ hQ lk247 hk247 hf) (Exists.imp fun i56 => (mf_and fun e1 => (mf_and fun _ => (mf_ite (mo_w_Model_collect_j337 hD  lQ hQ lk247 hk247 hf) (mo_w_Model_isRefField hD  (fun r60 M59 f3 => (have g4 : Ow w D T _ M0 M59 := (Ow.trans hf f3); (mf_ite (mo_w_Model_collect_j331 hD  lQ hQ lk247 hk247 (fun _ e => e) (fun y0 y1 y2 y3 y4  hf => mo_w_Model_collect_L276 hD n0 lQ hQ lk247 hk247 n y0 y1 y2 y3 y4  hf) g4) (Exists.imp fun i62 => (mf_and fun e5 => (Exists.imp fun i63 => (mf_and fun e7 => (mf_and fun _ => (mf_and fun _ => (mo_w_Model_mark hD n0 (fun M66 f9 => (have g10 : Ow w D T _ M0 M66 := (Ow.trans g4 f9); (mo_w_Model_collect_j331 hD  lQ hQ lk247 hk247 (fun _ e => e) (fun y0 y1 y2 y3 y4  hf => mo_w_Model_collect_L276 hD n0 lQ hQ lk247 hk247 n y0 y1 y2 y3 y4  hf) g10))) g4.1)))))))))) hf.1))))))
set_option maxRecDepth 20000 in
theorem mo_w_Model_collect_L247 {w : Nat} {D : Nat → Nat → Prop} {T : Nat → Prop} {h : Hot} {this : Nat} {Q Q' : Int32 → Mem → Prop} {h_Q : Hot} {M0 : Mem} (hD : Dok w D) (n0 : h (11, this, 45) = true) (n1 : ow w D 11 this) (lQ : ∀ t, h_Q t = true → h t = true) (hQ : ∀ z0 z1, Ow w D T h_Q M0 z1 → Q z0 z1 → Q' z0 z1) : ∀ (n : Nat) (v2 : Int32) (M : Mem), Ow w D T h M0 M → w_Model_collect_L247 this Q n v2 M → w_Model_collect_L247 this Q' n v2 M
  | 0, _, _ => fun  _ h => h
  | n + 1, v2, M => fun  hf => by
    unfold w_Model_collect_L247
    exact (mf_ite (Exists.imp fun n50 => (mo_w_Model_collect_L350 hD n0 lQ hQ _ _ _ _ _  hf)) (mf_and fun _ => (Exists.imp fun i52 => (mf_and fun e1 => (mf_and fun _ => (Exists.imp fun x54 => (mf_and fun _ => (Exists.imp fun n67 => (mo_w_Model_collect_L276 hD n1 lQ hQ (fun _ e => e) (fun y0 y1  hf => mo_w_Model_collect_L247 hD n0 n1 lQ hQ n y0 y1  hf) _ _ _ _ _ _  hf)))))))))
set_option maxRecDepth 20000 in
theorem mo_w_Model_collect_j239 {w : Nat} {D : Nat → Nat → Prop} {T : Nat → Prop} {h : Hot} {this : Nat} {Q Q' : Int32 → Mem → Prop} {h_Q : Hot} {k138 k138' : Int32 → Mem → Prop} {h_k138 : Hot} {v2 : Int32} {M : Mem} {M0 : Mem} (hD : Dok w D)  (lQ : ∀ t, h_Q t = true → h t = true) (hQ : ∀ z0 z1, Ow w D T h_Q M0 z1 → Q z0 z1 → Q' z0 z1) (lk138 : ∀ t, h_k138 t = true → h t = true) (hk138 : ∀ z0 z1, Ow w D T h_k138 M0 z1 → k138 z0 z1 → k138' z0 z1) : Ow w D T h M0 M → w_Model_collect_j239 this Q k138 v2 M → w_Model_collect_j239 this Q' k138' v2 M := by
  intro hf
  unfold w_Model_collect_j239
  exact (hk138 _ _  (Ow.dn lk138 hf))
set_option maxRecDepth 20000 in
theorem mo_w_Model_collect_j227 {w : Nat} {D : Nat → Nat → Prop} {T : Nat → Prop} {h : Hot} {this : Nat} {Q Q' : Int32 → Mem → Prop} {h_Q : Hot} {k138 k138' : Int32 → Mem → Prop} {h_k138 : Hot} {k156 k156' : Int32 → Nat → Int32 → Mem → Prop} {h_k156 : Hot} {k199 k199' : Int32 → Nat → Int32 → Int32 → Int32 → Mem → Prop} {h_k199 : Hot} {v2 : Int32} {v3 : Nat} {v4 : Int32} {v5 : Int32} {v6 : Int32} {M : Mem} {M0 : Mem} (hD : Dok w D)  (lQ : ∀ t, h_Q t = true → h t = true) (hQ : ∀ z0 z1, Ow w D T h_Q M0 z1 → Q z0 z1 → Q' z0 z1) (lk138 : ∀ t, h_k138 t = true → h t = true) (hk138 : ∀ z0 z1, Ow w D T h_k138 M0 z1 → k138 z0 z1 → k138' z0 z1) (lk156 : ∀ t, h_k156 t = true → h t = true) (hk156 : ∀ z0 z1 z2 z3, Ow w D T h_k156 M0 z3 → k156 z0 z1 z2 z3 → k156' z0 z1 z2 z3) (lk199 : ∀ t, h_k199 t = true → h t = true) (hk199 : ∀ z0 z1 z2 z3 z4 z5, Ow w D T h_k199 M0 z5 → k199 z0 z1 z2 z3 z4 z5 → k199' z0 z1 z2 z3 z4 z5) : Ow w D T h M0 M → w_Model_collect_j227 this Q k138 k156 k199 v2 v3 v4 v5 v6 M → w_Model_collect_j227 this Q' k138' k156' k199' v2 v3 v4 v5 v6 M := by
  intro hf
  unfold w_Model_collect_j227
  exact (hk199 _ _ _ _ _ _  (Ow.dn lk199 hf))
set_option maxRecDepth 20000 in
theorem mo_w_Model_collect_L199 {w : Nat} {D : Nat → Nat → Prop} {T : Nat → Prop} {h : Hot} {this : Nat} {Q Q' : Int32 → Mem → Prop} {h_Q : Hot} {k138 k138' : Int32 → Mem → Prop} {h_k138 : Hot} {k156 k156' : Int32 → Nat → Int32 → Mem → Prop} {h_k156 : Hot} {M0 : Mem} (hD : Dok w D) (n0 : ow w D 11 this) (lQ : ∀ t, h_Q t = true → h t = true) (hQ : ∀ z0 z1, Ow w D T h_Q M0 z1 → Q z0 z1 → Q' z0 z1) (lk138 : ∀ t, h_k138 t = true → h t = true) (hk138 : ∀ z0 z1, Ow w D T h_k138 M0 z1 → k138 z0 z1 → k138' z0 z1) (lk156 : ∀ t, h_k156 t = true → h t = true) (hk156 : ∀ z0 z1 z2 z3, Ow w D T h_k156 M0 z3 → k156 z0 z1 z2 z3 → k156' z0 z1 z2 z3) : ∀ (n : Nat) (v2 : Int32) (v3 : Nat) (v4 : Int32) (v5 : Int32) (v6 : Int32) (M : Mem), Ow w D T h M0 M → w_Model_collect_L199 this Q k138 k156 n v2 v3 v4 v5 v6 M → w_Model_collect_L199 this Q' k138' k156' n v2 v3 v4 v5 v6 M
  | 0, _, _, _, _, _, _ => fun  _ h => h
  | n + 1, v2, v3, v4, v5, v6, M => fun  hf => by
    unfold w_Model_collect_L199
    exact (mf_ite (hk156 _ _ _ _  (Ow.dn lk156 hf)) (mf_and fun _ => (mf_ite (mo_w_Model_collect_j227 hD  lQ hQ lk138 hk138 lk156 hk156 (fun _ e => e) (fun y0 y1 y2 y3 y4 y5  hf => mo_w_Model_collect_L199 hD n0 lQ hQ lk138 hk138 lk156 hk156 n y0 y1 y2 y3 y4 y5  hf) hf) (mf_and fun _ => (mo_w_Model_mark hD n0 (fun M80 f1 => (have g2 : Ow w D T _ M0 M80 := (Ow.trans hf f1); (mo_w_Model_collect_j227 hD  lQ hQ lk138 hk138 lk156 hk156 (fun _ e => e) (fun y0 y1 y2 y3 y4 y5  hf => mo_w_Model_collect_L199 hD n0 lQ hQ lk138 hk138 lk156 hk156 n y0 y1 y2 y3 y4 y5  hf) g2))) hf.1)))))
set_option maxRecDepth 20000 in
theorem mo_w_Model_collect_L156 {w : Nat} {D : Nat → Nat → Prop} {T : Nat → Prop} {h : Hot} {this : Nat} {Q Q' : Int32 → Mem → Prop} {h_Q : Hot} {k138 k138' : Int32 → Mem → Prop} {h_k138 : Hot} {M0 : Mem} (hD : Dok w D) (n0 : ow w D 11 this) (lQ : ∀ t, h_Q t = true → h t = true) (hQ : ∀ z0 z1, Ow w D T h_Q M0 z1 → Q z0 z1 → Q' z0 z1) (lk138 : ∀ t, h_k138 t = true → h t = true) (hk138 : ∀ z0 z1, Ow w D T h_k138 M0 z1 → k138 z0 z1 → k138' z0 z1) : ∀ (n : Nat) (v2 : Int32) (v3 : Nat) (v4 : Int32) (M : Mem), Ow w D T h M0 M → w_Model_collect_L156 this Q k138 n v2 v3 v4 M → w_Model_collect_L156 this Q' k138' n v2 v3 v4 M
  | 0, _, _, _, _ => fun  _ h => h
  | n + 1, v2, v3, v4, M => fun  hf => by
    unfold w_Model_collect_L156
    exact (mf_ite (mo_w_Model_collect_j239 hD  lQ hQ lk138 hk138 hf) (mf_ite (mo_w_Model_collect_j239 hD  lQ hQ lk138 hk138 hf) (mf_and fun _ => (Exists.imp fun x75 => (mf_and fun _ => (Exists.imp fun n81 => (mo_w_Model_collect_L199 hD n0 lQ hQ lk138 hk138 (fun _ e => e) (fun y0 y1 y2 y3  hf => mo_w_Model_collect_L156 hD n0 lQ hQ lk138 hk138 n y0 y1 y2 y3  hf) _ _ _ _ _ _ _  hf)))))))
set_option maxRecDepth 20000 in
theorem mo_w_Model_collect_L138 {w : Nat} {D : Nat → Nat → Prop} {T : Nat → Prop} {h : Hot} {this : Nat} {Q Q' : Int32 → Mem → Prop} {h_Q : Hot} {M0 : Mem} (hD : Dok w D) (n0 : h (11, this, 45) = true) (n1 : ow w D 11 this) (lQ : ∀ t, h_Q t = true → h t = true) (hQ : ∀ z0 z1, Ow w D T h_Q M0 z1 → Q z0 z1 → Q' z0 z1) : ∀ (n : Nat) (v2 : Int32) (M : Mem), Ow w D T h M0 M → w_Model_collect_L138 this Q n v2 M → w_Model_collect_L138 this Q' n v2 M
  | 0, _, _ => fun  _ h => h
  | n + 1, v2, M => fun  hf => by
    unfold w_Model_collect_L138
    exact (mf_ite (Exists.imp fun n68 => (mo_w_Model_collect_L247 hD n0 n1 lQ hQ _ _ _  hf)) (Exists.imp fun i69 => (mf_and fun e1 => (mf_and fun _ => (Exists.imp fun i71 => (mf_and fun e3 => (Exists.imp fun n82 => (mo_w_Model_collect_L156 hD n1 lQ hQ (fun _ e => e) (fun y0 y1  hf => mo_w_Model_collect_L138 hD n0 n1 lQ hQ n y0 y1  hf) _ _ _ _ _  hf))))))))
set_option maxRecDepth 20000 in
theorem mo_w_Model_collect_j124 {w : Nat} {D : Nat → Nat → Prop} {T : Nat → Prop} {h : Hot} {this : Nat} {Q Q' : Int32 → Mem → Prop} {h_Q : Hot} {k50 k50' : Int32 → Mem → Prop} {h_k50 : Hot} {k66 k66' : Int32 → Int32 → Mem → Prop} {h_k66 : Hot} {v2 : Int32} {v3 : Int32} {M : Mem} {M0 : Mem} (hD : Dok w D)  (lQ : ∀ t, h_Q t = true → h t = true) (hQ : ∀ z0 z1, Ow w D T h_Q M0 z1 → Q z0 z1 → Q' z0 z1) (lk50 : ∀ t, h_k50 t = true → h t = true) (hk50 : ∀ z0 z1, Ow w D T h_k50 M0 z1 → k50 z0 z1 → k50' z0 z1) (lk66 : ∀ t, h_k66 t = true → h t = true) (hk66 : ∀ z0 z1 z2, Ow w D T h_k66 M0 z2 → k66 z0 z1 z2 → k66' z0 z1 z2) : Ow w D T h M0 M → w_Model_collect_j124 this Q k50 k66 v2 v3 M → w_Model_collect_j124 this Q' k50' k66' v2 v3 M := by
  intro hf
  unfold w_Model_collect_j124
  exact (hk66 _ _ _  (Ow.dn lk66 hf))
set_option maxRecDepth 20000 in
theorem mo_w_Model_collect_L66 {w : Nat} {D : Nat → Nat → Prop} {T : Nat → Prop} {h : Hot} {this : Nat} {Q Q' : Int32 → Mem → Prop} {h_Q : Hot} {k50 k50' : Int32 → Mem → Prop} {h_k50 : Hot} {M0 : Mem} (hD : Dok w D) (n0 : ow w D 11 this) (lQ : ∀ t, h_Q t = true → h t = true) (hQ : ∀ z0 z1, Ow w D T h_Q M0 z1 → Q z0 z1 → Q' z0 z1) (lk50 : ∀ t, h_k50 t = true → h t = true) (hk50 : ∀ z0 z1, Ow w D T h_k50 M0 z1 → k50 z0 z1 → k50' z0 z1) : ∀ (n : Nat) (v2 : Int32) (v3 : Int32) (M : Mem), Ow w D T h M0 M → w_Model_collect_L66 this Q k50 n v2 v3 M → w_Model_collect_L66 this Q' k50' n v2 v3 M
  | 0, _, _, _ => fun  _ h => h
  | n + 1, v2, v3, M => fun  hf => by
    unfold w_Model_collect_L66
    exact (Exists.imp fun i84 => (mf_and fun e1 => (mf_and fun _ => (mf_ite (hk50 _ _  (Ow.dn lk50 hf)) (Exists.imp fun i87 => (mf_and fun e3 => (mf_and fun _ => (mf_ite (mo_w_Model_collect_j124 hD  lQ hQ lk50 hk50 (fun _ e => e) (fun y0 y1 y2  hf => mo_w_Model_collect_L66 hD n0 lQ hQ lk50 hk50 n y0 y1 y2  hf) hf) (Exists.imp fun i90 => (mf_and fun e5 => (mf_and fun _ => (mf_ite (mo_w_Model_collect_j124 hD  lQ hQ lk50 hk50 (fun _ e => e) (fun y0 y1 y2  hf => mo_w_Model_collect_L66 hD n0 lQ hQ lk50 hk50 n y0 y1 y2  hf) hf) (Exists.imp fun i93 => (mf_and fun e7 => (mf_and fun _ => (mo_w_Model_mark hD n0 (fun M95 f9 => (have g10 : Ow w D T _ M0 M95 := (Ow.trans hf f9); (mo_w_Model_collect_j124 hD  lQ hQ lk50 hk50 (fun _ e => e) (fun y0 y1 y2  hf => mo_w_Model_collect_L66 hD n0 lQ hQ lk50 hk50 n y0 y1 y2  hf) g10))) hf.1))))))))))))))))
set_option maxRecDepth 20000 in
theorem mo_w_Model_collect_L50 {w : Nat} {D : Nat → Nat → Prop} {T : Nat → Prop} {h : Hot} {this : Nat} {Q Q' : Int32 → Mem → Prop} {h_Q : Hot} {M0 : Mem} (hD : Dok w D) (n0 : h (11, this, 45) = true) (n1 : ow w D 11 this) (lQ : ∀ t, h_Q t = true → h t = true) (hQ : ∀ z0 z1, Ow w D T h_Q M0 z1 → Q z0 z1 → Q' z0 z1) : ∀ (n : Nat) (v2 : Int32) (M : Mem), Ow w D T h M0 M → w_Model_collect_L50 this Q n v2 M → w_Model_collect_L50 this Q' n v2 M
  | 0, _, _ => fun  _ h => h
  | n + 1, v2, M => fun  hf => by
    unfold w_Model_collect_L50
    exact (Exists.imp fun i7 => (mf_and fun e1 => (mf_ite (Exists.imp fun n83 => (mo_w_Model_collect_L138 hD n0 n1 lQ hQ _ _ _  hf)) (Exists.imp fun n96 => (mo_w_Model_collect_L66 hD n1 lQ hQ (fun _ e => e) (fun y0 y1  hf => mo_w_Model_collect_L50 hD n0 n1 lQ hQ n y0 y1  hf) _ _ _ _  hf)))))
set_option maxRecDepth 20000 in
theorem mo_w_Model_collect_L27 {w : Nat} {D : Nat → Nat → Prop} {T : Nat → Prop} {h : Hot} {this : Nat} {Q Q' : Int32 → Mem → Prop} {h_Q : Hot} {M0 : Mem} (hD : Dok w D) (n0 : h (11, this, 45) = true) (n1 : ow w D 11 this) (lQ : ∀ t, h_Q t = true → h t = true) (hQ : ∀ z0 z1, Ow w D T h_Q M0 z1 → Q z0 z1 → Q' z0 z1) : ∀ (n : Nat) (v2 : Int32) (M : Mem), Ow w D T h M0 M → w_Model_collect_L27 this Q n v2 M → w_Model_collect_L27 this Q' n v2 M
  | 0, _, _ => fun  _ h => h
  | n + 1, v2, M => fun  hf => by
    unfold w_Model_collect_L27
    exact (mf_ite (Exists.imp fun n97 => (mo_w_Model_collect_L50 hD n0 n1 lQ hQ _ _ _  hf)) (mf_and fun _ => (have g1 : Ow w D T _ M0 (sI M 521 this v2.toNatClampNeg ((0 : Int32) &&& 1)) := (Ow.wI (ow0 rfl) hf); (mo_w_Model_collect_L27 hD n0 n1 lQ hQ _ _ _  g1))))
set_option maxRecDepth 20000 in
theorem mo_w_Model_collect {w : Nat} {D : Nat → Nat → Prop} {T : Nat → Prop} {h : Hot} {this : Nat} {a1 : Int32} {Q Q' : Int32 → Mem → Prop} {M : Mem} (hD : Dok w D) (n0 : ow w D 11 this) (n1 : T (1000 + a1.toNatClampNeg)) (hQ : ∀ z0 z1, Ow w D T h M z1 → Q z0 z1 → Q' z0 z1) : St w D T h M → w_Model_collect this a1 Q M → w_Model_collect this a1 Q' M := by
  intro hs
  unfold w_Model_collect
  exact (mo_w_Model_isWorld hD  (fun r2 M1 f1 => (have g2 : Ow w D T _ M M1 := (Ow.trans (Ow.rf hs) f1); (mf_ite (hQ _ _  g2) (mf_and fun _ => (Exists.imp fun i5 => (mf_and fun e3 => (have o4 : ow w D 12 i5 := (Ow.rT e3 rfl n1 g2); (Exists.imp fun n99 => (have g5 : Ow w D T _ M (sI (sR M1 11 this 45 (some (12, i5))) 11 this 112 (0 : Int32)) := (Ow.wI n0 (Ow.wRh rfl n0 o4 g2)); (mo_w_Model_collect_L27 hD up_s n0 (leU (fun _ e => e)) hQ _ _ _  g5)))))))))) (Ow.rf hs).1)
set_option maxRecDepth 20000 in
theorem mo_w_Model_isWrittenSo_j142 {w : Nat} {D : Nat → Nat → Prop} {T : Nat → Prop} {h : Hot} {this : Nat} {Q Q' : Int32 → Mem → Prop} {h_Q : Hot} {v5 : Nat} {v6 : Int32} {v8 : Int32} {M : Mem} {M0 : Mem} (hD : Dok w D) (n0 : ow w D 11 this) (n1 : ow w D 401 v5) (lQ : ∀ t, h_Q t = true → h t = true) (hQ : ∀ z0 z1, Ow w D T h_Q M0 z1 → Q z0 z1 → Q' z0 z1) : Ow w D T h M0 M → w_Model_isWrittenSo_j142 this Q v5 v6 v8 M → w_Model_isWrittenSo_j142 this Q' v5 v6 v8 M := by
  intro hf
  unfold w_Model_isWrittenSo_j142
  exact (mf_and fun _ => (hQ _ _  (Ow.dn lQ (Ow.wI n0 (Ow.wR rfl n0 n1 hf)))))
set_option maxRecDepth 20000 in
theorem mo_w_Model_isWrittenSo_j134 {w : Nat} {D : Nat → Nat → Prop} {T : Nat → Prop} {h : Hot} {this : Nat} {Q Q' : Int32 → Mem → Prop} {h_Q : Hot} {k100 k100' : Nat → Int32 → Int32 → Int32 → Int32 → Mem → Prop} {h_k100 : Hot} {v5 : Nat} {v6 : Int32} {v7 : Int32} {v9 : Int32} {s0 : Int32} {M : Mem} {M0 : Mem} (hD : Dok w D) (n0 : ow w D 401 v5) (lQ : ∀ t, h_Q t = true → h t = true) (hQ : ∀ z0 z1, Ow w D T h_Q M0 z1 → Q z0 z1 → Q' z0 z1) (lk100 : ∀ t, h_k100 t = true → h t = true) (hk100 : ∀ z0 z1 z2 z3 z4 z5, ow w D 401 z0 → Ow w D T h_k100 M0 z5 → k100 z0 z1 z2 z3 z4 z5 → k100' z0 z1 z2 z3 z4 z5) : Ow w D T h M0 M → w_Model_isWrittenSo_j134 this Q k100 v5 v6 v7 v9 s0 M → w_Model_isWrittenSo_j134 this Q' k100' v5 v6 v7 v9 s0 M := by
  intro hf
  unfold w_Model_isWrittenSo_j134
  exact (hk100 _ _ _ _ _ _ n0 (Ow.dn lk100 hf))
set_option maxRecDepth 20000 in
theorem mo_w_Model_isWrittenSo_L100 {w : Nat} {D : Nat → Nat → Prop} {T : Nat → Prop} {h : Hot} {this : Nat} {Q Q' : Int32 → Mem → Prop} {h_Q : Hot} {M0 : Mem} (hD : Dok w D) (n0 : ow w D 11 this) (lQ : ∀ t, h_Q t = true → h t = true) (hQ : ∀ z0 z1, Ow w D T h_Q M0 z1 → Q z0 z1 → Q' z0 z1) : ∀ (n : Nat) (v5 : Nat) (v6 : Int32) (v7 : Int32) (v8 : Int32) (v9 : Int32) (M : Mem), ow w D 401 v5 → Ow w D T h M0 M → w_Model_isWrittenSo_L100 this Q n v5 v6 v7 v8 v9 M → w_Model_isWrittenSo_L100 this Q' n v5 v6 v7 v8 v9 M
  | 0, _, _, _, _, _, _ => fun _ _ h => h
  | n + 1, v5, v6, v7, v8, v9, M => fun m0 hf => by
    unfold w_Model_isWrittenSo_L100
    exact (mf_ite (mo_w_Model_isWrittenSo_j142 hD n0 m0 lQ hQ hf) (mf_ite (mo_w_Model_isWrittenSo_j142 hD n0 m0 lQ hQ hf) (Exists.imp fun i13 => (mf_and fun e1 => (mf_and fun _ => (Exists.imp fun i15 => (mf_and fun e3 => (mf_and fun _ => (mf_ite (mo_w_Model_isWrittenSo_j134 hD m0 lQ hQ (fun _ e => e) (fun y0 y1 y2 y3 y4 y5 u0 hf => mo_w_Model_isWrittenSo_L100 hD n0 lQ hQ n y0 y1 y2 y3 y4 y5 u0 hf) hf) (mo_w_Model_isWrittenSo_j134 hD m0 lQ hQ (fun _ e => e) (fun y0 y1 y2 y3 y4 y5 u0 hf => mo_w_Model_isWrittenSo_L100 hD n0 lQ hQ n y0 y1 y2 y3 y4 y5 u0 hf) hf))))))))))
set_option maxRecDepth 20000 in
theorem mo_w_Model_isWrittenSo_j95 {w : Nat} {D : Nat → Nat → Prop} {T : Nat → Prop} {h : Hot} {this : Nat} {Q Q' : Int32 → Mem → Prop} {h_Q : Hot} {v5 : Nat} {v6 : Int32} {v7 : Int32} {s0 : Int32} {M : Mem} {M0 : Mem} (hD : Dok w D) (n0 : ow w D 11 this) (n1 : ow w D 401 v5) (lQ : ∀ t, h_Q t = true → h t = true) (hQ : ∀ z0 z1, Ow w D T h_Q M0 z1 → Q z0 z1 → Q' z0 z1) : Ow w D T h M0 M → w_Model_isWrittenSo_j95 this Q v5 v6 v7 s0 M → w_Model_isWrittenSo_j95 this Q' v5 v6 v7 s0 M := by
  intro hf
  unfold w_Model_isWrittenSo_j95
  exact (Exists.imp fun n18 => (mo_w_Model_isWrittenSo_L100 hD n0 lQ hQ _ _ _ _ _ _ _ n1 hf))
set_option maxRecDepth 20000 in
theorem mo_w_Model_isWrittenSo {w : Nat} {D : Nat → Nat → Prop} {T : Nat → Prop} {h : Hot} {this : Nat} {a1 : Nat} {a2 : Int32} {a3 : Nat} {a4 : Int32} {Q Q' : Int32 → Mem → Prop} {M : Mem} (hD : Dok w D) (n0 : ow w D 11 this) (n1 : ow w D 12 a1) (n2 : ow w D 12 a3) (hQ : ∀ z0 z1, Ow w D T h M z1 → Q z0 z1 → Q' z0 z1) : St w D T h M → w_Model_isWrittenSo this a1 a2 a3 a4 Q M → w_Model_isWrittenSo this a1 a2 a3 a4 Q' M := by
  intro hs
  unfold w_Model_isWrittenSo
  exact (Exists.imp fun i1 => (mf_and fun e1 => (have o2 : ow w D 401 i1 := (Ow.r0 e1 rfl n0 (Ow.rf hs)); (Exists.imp fun i2 => (mf_and fun e3 => (have o4 : ow w D 401 i2 := (Ow.r0 e3 rfl n0 (Ow.rf hs)); (Exists.imp fun M3 => (mf_and fun e5 => (have g6 : Ow w D T _ M M3 := Ow.of e5 (Ow.wRh rfl n0 n1 (Ow.wI n0 (Ow.wR rfl n0 o4 (Ow.rf hs)))); (mo_w_Model_putMethod hD n0 (fun M4 f7 => (have g8 : Ow w D T _ M M4 := (Ow.trans g6 f7); (Exists.imp fun i5 => (mf_and fun e9 => (have o10 : ow w D 401 i5 := (Ow.r0 e9 rfl n0 g8); (Exists.imp fun i6 => (mf_and fun e11 => (have o12 : ow w D 401 i6 := (Ow.r0 e11 rfl n0 (Ow.wR rfl n0 o10 g8)); (Exists.imp fun M7 => (mf_and fun e13 => (have g14 : Ow w D T _ M M7 := Ow.of e13 (Ow.wI n0 (Ow.wR rfl n0 o12 (Ow.wR rfl n0 o10 g8))); (have g15 : Ow w D T _ M (sR M7 11 this 45 (some (12, a3))) := (Ow.wRh rfl n0 n2 g14); (mo_w_Model_putMethod hD n0 (fun M8 f16 => (have g17 : Ow w D T _ M M8 := (Ow.trans g15 f16); (Exists.imp fun i9 => (mf_and fun e18 => (have o19 : ow w D 401 i9 := (Ow.r0 e18 rfl n0 g17); (mf_ite (have g20 : Ow w D T _ M (sR M8 11 this 115 (some (401, i9))) := (Ow.wR rfl n0 o19 g17); (mo_w_Model_isWrittenSo_j95 hD n0 o2 (leU (leU (fun _ e => e))) hQ g20)) (have g21 : Ow w D T _ M (sR M8 11 this 115 (some (401, i9))) := (Ow.wR rfl n0 o19 g17); (mo_w_Model_isWrittenSo_j95 hD n0 o2 (leU (leU (fun _ e => e))) hQ g21)))))))) g15.1))))))))))))) g6.1))))))))))
set_option maxRecDepth 20000 in
theorem mo_w_Model_fieldLike_j105 {w : Nat} {D : Nat → Nat → Prop} {T : Nat → Prop} {h : Hot} {Q Q' : Int32 → Mem → Prop} {h_Q : Hot} {k6 k6' : Nat → Int32 → Nat → Int32 → Int32 → Mem → Prop} {h_k6 : Hot} {v0 : Nat} {v1 : Int32} {v2 : Nat} {v3 : Int32} {v4 : Int32} {M : Mem} {M0 : Mem} (hD : Dok w D)  (lQ : ∀ t, h_Q t = true → h t = true) (hQ : ∀ z0 z1, Ow w D T h_Q M0 z1 → Q z0 z1 → Q' z0 z1) (lk6 : ∀ t, h_k6 t = true → h t = true) (hk6 : ∀ z0 z1 z2 z3 z4 z5, Ow w D T h_k6 M0 z5 → k6 z0 z1 z2 z3 z4 z5 → k6' z0 z1 z2 z3 z4 z5) : Ow w D T h M0 M → w_Model_fieldLike_j105 Q k6 v0 v1 v2 v3 v4 M → w_Model_fieldLike_j105 Q' k6' v0 v1 v2 v3 v4 M := by
  intro hf
  unfold w_Model_fieldLike_j105
  exact (hk6 _ _ _ _ _ _  (Ow.dn lk6 hf))
set_option maxRecDepth 20000 in
theorem mo_w_Model_fieldLike_L6 {w : Nat} {D : Nat → Nat → Prop} {T : Nat → Prop} {h : Hot} {Q Q' : Int32 → Mem → Prop} {h_Q : Hot} {M0 : Mem} (hD : Dok w D)  (lQ : ∀ t, h_Q t = true → h t = true) (hQ : ∀ z0 z1, Ow w D T h_Q M0 z1 → Q z0 z1 → Q' z0 z1) : ∀ (n : Nat) (v0 : Nat) (v1 : Int32) (v2 : Nat) (v3 : Int32) (v4 : Int32) (M : Mem), Ow w D T h M0 M → w_Model_fieldLike_L6 Q n v0 v1 v2 v3 v4 M → w_Model_fieldLike_L6 Q' n v0 v1 v2 v3 v4 M
  | 0, _, _, _, _, _, _ => fun  _ h => h
  | n + 1, v0, v1, v2, v3, v4, M => fun  hf => by
    unfold w_Model_fieldLike_L6
    exact (mf_and fun _ => (mf_ite (hQ _ _  (Ow.dn lQ hf)) (mf_and fun _ => (mf_and fun _ => (mf_ite (mf_and fun _ => (mf_and fun _ => (mf_ite (mf_and fun _ => (mf_and fun _ => (mf_ite (mf_and fun _ => (mf_and fun _ => (mf_ite (mf_and fun _ => (mf_and fun _ => (mf_ite (hQ _ _  (Ow.dn lQ hf)) (mo_w_Model_fieldLike_j105 hD  lQ hQ (fun _ e => e) (fun y0 y1 y2 y3 y4 y5  hf => mo_w_Model_fieldLike_L6 hD  lQ hQ n y0 y1 y2 y3 y4 y5  hf) hf)))) (mo_w_Model_fieldLike_j105 hD  lQ hQ (fun _ e => e) (fun y0 y1 y2 y3 y4 y5  hf => mo_w_Model_fieldLike_L6 hD  lQ hQ n y0 y1 y2 y3 y4 y5  hf) hf)))) (mo_w_Model_fieldLike_j105 hD  lQ hQ (fun _ e => e) (fun y0 y1 y2 y3 y4 y5  hf => mo_w_Model_fieldLike_L6 hD  lQ hQ n y0 y1 y2 y3 y4 y5  hf) hf)))) (mo_w_Model_fieldLike_j105 hD  lQ hQ (fun _ e => e) (fun y0 y1 y2 y3 y4 y5  hf => mo_w_Model_fieldLike_L6 hD  lQ hQ n y0 y1 y2 y3 y4 y5  hf) hf)))) (mo_w_Model_fieldLike_j105 hD  lQ hQ (fun _ e => e) (fun y0 y1 y2 y3 y4 y5  hf => mo_w_Model_fieldLike_L6 hD  lQ hQ n y0 y1 y2 y3 y4 y5  hf) hf))))))
set_option maxRecDepth 20000 in
theorem mo_w_Model_fieldLike {w : Nat} {D : Nat → Nat → Prop} {T : Nat → Prop} {h : Hot} {a1 : Nat} {a2 : Int32} {a3 : Nat} {a4 : Int32} {Q Q' : Int32 → Mem → Prop} {M : Mem} (hD : Dok w D)  (hQ : ∀ z0 z1, Ow w D T h M z1 → Q z0 z1 → Q' z0 z1) : St w D T h M → w_Model_fieldLike a1 a2 a3 a4 Q M → w_Model_fieldLike a1 a2 a3 a4 Q' M := by
  intro hs
  unfold w_Model_fieldLike
  exact (Exists.imp fun n18 => (mo_w_Model_fieldLike_L6 hD  (fun _ e => e) hQ _ _ _ _ _ _ _  (Ow.rf hs)))
set_option maxRecDepth 20000 in
theorem mo_w_Model_differ_j175 {w : Nat} {D : Nat → Nat → Prop} {T : Nat → Prop} {h : Hot} {this : Nat} {Q Q' : Int32 → Mem → Prop} {h_Q : Hot} {v8 : Int32} {M : Mem} {M0 : Mem} (hD : Dok w D)  (lQ : ∀ t, h_Q t = true → h t = true) (hQ : ∀ z0 z1, Ow w D T h_Q M0 z1 → Q z0 z1 → Q' z0 z1) : Ow w D T h M0 M → w_Model_differ_j175 this Q v8 M → w_Model_differ_j175 this Q' v8 M := by
  intro hf
  unfold w_Model_differ_j175
  exact (mf_ite (hQ _ _  (Ow.dn lQ hf)) (hQ _ _  (Ow.dn lQ hf)))
set_option maxRecDepth 20000 in
theorem mo_w_Model_differ_j167 {w : Nat} {D : Nat → Nat → Prop} {T : Nat → Prop} {h : Hot} {this : Nat} {Q Q' : Int32 → Mem → Prop} {h_Q : Hot} {k117 k117' : Int32 → Int32 → Nat → Nat → Int32 → Int32 → Mem → Prop} {h_k117 : Hot} {v2 : Int32} {v4 : Int32} {v6 : Nat} {v7 : Nat} {v9 : Int32} {s0 : Int32} {M : Mem} {M0 : Mem} (hD : Dok w D)  (lQ : ∀ t, h_Q t = true → h t = true) (hQ : ∀ z0 z1, Ow w D T h_Q M0 z1 → Q z0 z1 → Q' z0 z1) (lk117 : ∀ t, h_k117 t = true → h t = true) (hk117 : ∀ z0 z1 z2 z3 z4 z5 z6, Ow w D T h_k117 M0 z6 → k117 z0 z1 z2 z3 z4 z5 z6 → k117' z0 z1 z2 z3 z4 z5 z6) : Ow w D T h M0 M → w_Model_differ_j167 this Q k117 v2 v4 v6 v7 v9 s0 M → w_Model_differ_j167 this Q' k117' v2 v4 v6 v7 v9 s0 M := by
  intro hf
  unfold w_Model_differ_j167
  exact (hk117 _ _ _ _ _ _ _  (Ow.dn lk117 hf))
set_option maxRecDepth 20000 in
theorem mo_w_Model_differ_L117 {w : Nat} {D : Nat → Nat → Prop} {T : Nat → Prop} {h : Hot} {this : Nat} {Q Q' : Int32 → Mem → Prop} {h_Q : Hot} {M0 : Mem} (hD : Dok w D)  (lQ : ∀ t, h_Q t = true → h t = true) (hQ : ∀ z0 z1, Ow w D T h_Q M0 z1 → Q z0 z1 → Q' z0 z1) : ∀ (n : Nat) (v2 : Int32) (v4 : Int32) (v6 : Nat) (v7 : Nat) (v8 : Int32) (v9 : Int32) (M : Mem), Ow w D T h M0 M → w_Model_differ_L117 this Q n v2 v4 v6 v7 v8 v9 M → w_Model_differ_L117 this Q' n v2 v4 v6 v7 v8 v9 M
  | 0, _, _, _, _, _, _, _ => fun  _ h => h
  | n + 1, v2, v4, v6, v7, v8, v9, M => fun  hf => by
    unfold w_Model_differ_L117
    exact (mf_and fun _ => (mf_ite (mo_w_Model_differ_j175 hD  lQ hQ hf) (mf_ite (mo_w_Model_differ_j175 hD  lQ hQ hf) (mf_and fun _ => (mf_and fun _ => (mf_ite (mo_w_Model_differ_j167 hD  lQ hQ (fun _ e => e) (fun y0 y1 y2 y3 y4 y5 y6  hf => mo_w_Model_differ_L117 hD  lQ hQ n y0 y1 y2 y3 y4 y5 y6  hf) hf) (mo_w_Model_differ_j167 hD  lQ hQ (fun _ e => e) (fun y0 y1 y2 y3 y4 y5 y6  hf => mo_w_Model_differ_L117 hD  lQ hQ n y0 y1 y2 y3 y4 y5 y6  hf) hf)))))))
set_option maxRecDepth 20000 in
theorem mo_w_Model_differ_j112 {w : Nat} {D : Nat → Nat → Prop} {T : Nat → Prop} {h : Hot} {this : Nat} {Q Q' : Int32 → Mem → Prop} {h_Q : Hot} {v2 : Int32} {v4 : Int32} {v6 : Nat} {v7 : Nat} {s0 : Int32} {M : Mem} {M0 : Mem} (hD : Dok w D)  (lQ : ∀ t, h_Q t = true → h t = true) (hQ : ∀ z0 z1, Ow w D T h_Q M0 z1 → Q z0 z1 → Q' z0 z1) : Ow w D T h M0 M → w_Model_differ_j112 this Q v2 v4 v6 v7 s0 M → w_Model_differ_j112 this Q' v2 v4 v6 v7 s0 M := by
  intro hf
  unfold w_Model_differ_j112
  exact (Exists.imp fun n30 => (mo_w_Model_differ_L117 hD  lQ hQ _ _ _ _ _ _ _ _  hf))
set_option maxRecDepth 20000 in
theorem mo_w_Model_differ_j111 {w : Nat} {D : Nat → Nat → Prop} {T : Nat → Prop} {h : Hot} {this : Nat} {Q Q' : Int32 → Mem → Prop} {h_Q : Hot} {v2 : Int32} {v4 : Int32} {v6 : Nat} {v7 : Nat} {M : Mem} {M0 : Mem} (hD : Dok w D)  (lQ : ∀ t, h_Q t = true → h t = true) (hQ : ∀ z0 z1, Ow w D T h_Q M0 z1 → Q z0 z1 → Q' z0 z1) : Ow w D T h M0 M → w_Model_differ_j111 this Q v2 v4 v6 v7 M → w_Model_differ_j111 this Q' v2 v4 v6 v7 M := by
  intro hf
  unfold w_Model_differ_j111
  exact (mo_w_Model_differ_j112 hD  lQ hQ hf)
set_option maxRecDepth 20000 in
theorem mo_w_Model_differ_j239 {w : Nat} {D : Nat → Nat → Prop} {T : Nat → Prop} {h : Hot} {this : Nat} {Q Q' : Int32 → Mem → Prop} {h_Q : Hot} {k201 k201' : Int32 → Int32 → Nat → Nat → Int32 → Int32 → Mem → Prop} {h_k201 : Hot} {v2 : Int32} {v4 : Int32} {v6 : Nat} {v7 : Nat} {v9 : Int32} {s0 : Int32} {s1 : Int32} {M : Mem} {M0 : Mem} (hD : Dok w D)  (lQ : ∀ t, h_Q t = true → h t = true) (hQ : ∀ z0 z1, Ow w D T h_Q M0 z1 → Q z0 z1 → Q' z0 z1) (lk201 : ∀ t, h_k201 t = true → h t = true) (hk201 : ∀ z0 z1 z2 z3 z4 z5 z6, Ow w D T h_k201 M0 z6 → k201 z0 z1 z2 z3 z4 z5 z6 → k201' z0 z1 z2 z3 z4 z5 z6) : Ow w D T h M0 M → w_Model_differ_j239 this Q k201 v2 v4 v6 v7 v9 s0 s1 M → w_Model_differ_j239 this Q' k201' v2 v4 v6 v7 v9 s0 s1 M := by
  intro hf
  unfold w_Model_differ_j239
  exact (hk201 _ _ _ _ _ _ _  (Ow.dn lk201 hf))
set_option maxRecDepth 20000 in
theorem mo_w_Model_differ_L201 {w : Nat} {D : Nat → Nat → Prop} {T : Nat → Prop} {h : Hot} {this : Nat} {Q Q' : Int32 → Mem → Prop} {h_Q : Hot} {M0 : Mem} (hD : Dok w D)  (lQ : ∀ t, h_Q t = true → h t = true) (hQ : ∀ z0 z1, Ow w D T h_Q M0 z1 → Q z0 z1 → Q' z0 z1) : ∀ (n : Nat) (v2 : Int32) (v4 : Int32) (v6 : Nat) (v7 : Nat) (v8 : Int32) (v9 : Int32) (M : Mem), Ow w D T h M0 M → w_Model_differ_L201 this Q n v2 v4 v6 v7 v8 v9 M → w_Model_differ_L201 this Q' n v2 v4 v6 v7 v8 v9 M
  | 0, _, _, _, _, _, _, _ => fun  _ h => h
  | n + 1, v2, v4, v6, v7, v8, v9, M => fun  hf => by
    unfold w_Model_differ_L201
    exact (mf_and fun _ => (mf_ite (hQ _ _  (Ow.dn lQ hf)) (mo_w_Model_fieldLike hD  (fun r35 M34 f1 => (have g2 : Ow w D T _ M0 M34 := (Ow.trans hf f1); (mf_ite (mo_w_Model_differ_j239 hD  lQ hQ (fun _ e => e) (fun y0 y1 y2 y3 y4 y5 y6  hf => mo_w_Model_differ_L201 hD  lQ hQ n y0 y1 y2 y3 y4 y5 y6  hf) g2) (mo_w_Model_differ_j239 hD  lQ hQ (fun _ e => e) (fun y0 y1 y2 y3 y4 y5 y6  hf => mo_w_Model_differ_L201 hD  lQ hQ n y0 y1 y2 y3 y4 y5 y6  hf) g2)))) hf.1)))
set_option maxRecDepth 20000 in
theorem mo_w_Model_differ_j351 {w : Nat} {D : Nat → Nat → Prop} {T : Nat → Prop} {h : Hot} {this : Nat} {Q Q' : Int32 → Mem → Prop} {h_Q : Hot} {k257 k257' : Int32 → Int32 → Int32 → Nat → Nat → Int32 → Int32 → Mem → Prop} {h_k257 : Hot} {v2 : Int32} {v4 : Int32} {v5 : Int32} {v6 : Nat} {v7 : Nat} {v9 : Int32} {s0 : Int32} {s1 : Int32} {M : Mem} {M0 : Mem} (hD : Dok w D) (n0 : ow w D 12 v7) (n1 : ow w D 12 v6) (lQ : ∀ t, h_Q t = true → h t = true) (hQ : ∀ z0 z1, Ow w D T h_Q M0 z1 → Q z0 z1 → Q' z0 z1) (lk257 : ∀ t, h_k257 t = true → h t = true) (hk257 : ∀ z0 z1 z2 z3 z4 z5 z6 z7, ow w D 12 z4 → ow w D 12 z3 → Ow w D T h_k257 M0 z7 → k257 z0 z1 z2 z3 z4 z5 z6 z7 → k257' z0 z1 z2 z3 z4 z5 z6 z7) : Ow w D T h M0 M → w_Model_differ_j351 this Q k257 v2 v4 v5 v6 v7 v9 s0 s1 M → w_Model_differ_j351 this Q' k257' v2 v4 v5 v6 v7 v9 s0 s1 M := by
  intro hf
  unfold w_Model_differ_j351
  exact (hk257 _ _ _ _ _ _ _ _ n0 n1 (Ow.dn lk257 hf))
set_option maxRecDepth 20000 in
theorem mo_w_Model_differ_j350 {w : Nat} {D : Nat → Nat → Prop} {T : Nat → Prop} {h : Hot} {this : Nat} {Q Q' : Int32 → Mem → Prop} {h_Q : Hot} {k257 k257' : Int32 → Int32 → Int32 → Nat → Nat → Int32 → Int32 → Mem → Prop} {h_k257 : Hot} {v2 : Int32} {v4 : Int32} {v5 : Int32} {v6 : Nat} {v7 : Nat} {v9 : Int32} {s0 : Int32} {M : Mem} {M0 : Mem} (hD : Dok w D) (n0 : ow w D 12 v7) (n1 : ow w D 12 v6) (lQ : ∀ t, h_Q t = true → h t = true) (hQ : ∀ z0 z1, Ow w D T h_Q M0 z1 → Q z0 z1 → Q' z0 z1) (lk257 : ∀ t, h_k257 t = true → h t = true) (hk257 : ∀ z0 z1 z2 z3 z4 z5 z6 z7, ow w D 12 z4 → ow w D 12 z3 → Ow w D T h_k257 M0 z7 → k257 z0 z1 z2 z3 z4 z5 z6 z7 → k257' z0 z1 z2 z3 z4 z5 z6 z7) : Ow w D T h M0 M → w_Model_differ_j350 this Q k257 v2 v4 v5 v6 v7 v9 s0 M → w_Model_differ_j350 this Q' k257' v2 v4 v5 v6 v7 v9 s0 M := by
  intro hf
  unfold w_Model_differ_j350
  exact (mo_w_Model_differ_j351 hD n0 n1 lQ hQ lk257 hk257 hf)
set_option maxRecDepth 20000 in
theorem mo_w_Model_differ_L257 {w : Nat} {D : Nat → Nat → Prop} {T : Nat → Prop} {h : Hot} {this : Nat} {Q Q' : Int32 → Mem → Prop} {h_Q : Hot} {M0 : Mem} (hD : Dok w D) (n0 : ow w D 11 this) (lQ : ∀ t, h_Q t = true → h t = true) (hQ : ∀ z0 z1, Ow w D T h_Q M0 z1 → Q z0 z1 → Q' z0 z1) : ∀ (n : Nat) (v2 : Int32) (v4 : Int32) (v5 : Int32) (v6 : Nat) (v7 : Nat) (v8 : Int32) (v9 : Int32) (M : Mem), ow w D 12 v7 → ow w D 12 v6 → Ow w D T h M0 M → w_Model_differ_L257 this Q n v2 v4 v5 v6 v7 v8 v9 M → w_Model_differ_L257 this Q' n v2 v4 v5 v6 v7 v8 v9 M
  | 0, _, _, _, _, _, _, _, _ => fun _ _ _ h => h
  | n + 1, v2, v4, v5, v6, v7, v8, v9, M => fun m0 m1 hf => by
    unfold w_Model_differ_L257
    exact (mf_and fun _ => (mf_ite (hQ _ _  (Ow.dn lQ hf)) (mf_and fun _ => (mf_and fun _ => (have g1 : Ow w D T _ M0 (sR M 11 this 45 (some (12, v7))) := (Ow.wRh rfl n0 m0 hf); (mo_w_Model_methodIn hD  (fun r43 M42 f2 => (have g3 : Ow w D T _ M0 M42 := (Ow.trans g1 f2); (mf_ite (mf_ite (mo_w_Model_isWrittenSo hD n0 m1 m0 (fun r47 M46 f4 => (have g5 : Ow w D T _ M0 M46 := (Ow.trans g3 f4); (mf_ite (mo_w_Model_differ_j351 hD m0 m1 (leU lQ) hQ (leU (fun _ e => e)) (fun y0 y1 y2 y3 y4 y5 y6 y7 u0 u1 hf => mo_w_Model_differ_L257 hD n0 lQ hQ n y0 y1 y2 y3 y4 y5 y6 y7 u0 u1 hf) g5) (mo_w_Model_differ_j350 hD m0 m1 (leU lQ) hQ (leU (fun _ e => e)) (fun y0 y1 y2 y3 y4 y5 y6 y7 u0 u1 hf => mo_w_Model_differ_L257 hD n0 lQ hQ n y0 y1 y2 y3 y4 y5 y6 y7 u0 u1 hf) g5)))) g3.1) (mo_w_Model_differ_j350 hD m0 m1 (leU lQ) hQ (leU (fun _ e => e)) (fun y0 y1 y2 y3 y4 y5 y6 y7 u0 u1 hf => mo_w_Model_differ_L257 hD n0 lQ hQ n y0 y1 y2 y3 y4 y5 y6 y7 u0 u1 hf) g3)) (mf_ite (mo_w_Model_differ_j351 hD m0 m1 (leU lQ) hQ (leU (fun _ e => e)) (fun y0 y1 y2 y3 y4 y5 y6 y7 u0 u1 hf => mo_w_Model_differ_L257 hD n0 lQ hQ n y0 y1 y2 y3 y4 y5 y6 y7 u0 u1 hf) g3) (mo_w_Model_differ_j351 hD m0 m1 (leU lQ) hQ (leU (fun _ e => e)) (fun y0 y1 y2 y3 y4 y5 y6 y7 u0 u1 hf => mo_w_Model_differ_L257 hD n0 lQ hQ n y0 y1 y2 y3 y4 y5 y6 y7 u0 u1 hf) g3))))) g1.1))))))
set_option maxRecDepth 20000 in
theorem mo_w_Model_differ {w : Nat} {D : Nat → Nat → Prop} {T : Nat → Prop} {h : Hot} {this : Nat} {a1 : Int32} {a2 : Int32} {a3 : Int32} {a4 : Int32} {a5 : Int32} {Q Q' : Int32 → Mem → Prop} {M : Mem} (hD : Dok w D) (n0 : ow w D 11 this) (n1 : T (1000 + a3.toNatClampNeg)) (n2 : T (1000 + a1.toNatClampNeg)) (hQ : ∀ z0 z1, Ow w D T h M z1 → Q z0 z1 → Q' z0 z1) : St w D T h M → w_Model_differ this a1 a2 a3 a4 a5 Q M → w_Model_differ this a1 a2 a3 a4 a5 Q' M := by
  intro hs
  unfold w_Model_differ
  exact (mo_w_Model_isClass hD  (fun r2 M1 f1 => (have g2 : Ow w D T _ M M1 := (Ow.trans (Ow.rf hs) f1); (mf_ite (hQ _ _  g2) (mo_w_Model_isClass hD  (fun r5 M4 f3 => (have g4 : Ow w D T _ M M4 := (Ow.trans g2 f3); (mf_ite (hQ _ _  g4) (mf_ite (hQ _ _  g4) (mf_ite (mf_and fun _ => (Exists.imp fun i10 => (mf_and fun e5 => (have o6 : ow w D 12 i10 := (Ow.rT e5 rfl n2 g4); (mf_and fun _ => (Exists.imp fun i12 => (mf_and fun e7 => (have o8 : ow w D 12 i12 := (Ow.rT e7 rfl n1 g4); (mf_ite (mf_and fun _ => (mf_and fun _ => (mf_ite (mf_and fun _ => (mf_and fun _ => (mf_ite (mf_and fun _ => (mf_and fun _ => (mf_ite (mo_w_Model_differ_j112 hD  (fun _ e => e) hQ g4) (mo_w_Model_differ_j111 hD  (fun _ e => e) hQ g4)))) (mo_w_Model_differ_j111 hD  (fun _ e => e) hQ g4)))) (mo_w_Model_differ_j111 hD  (fun _ e => e) hQ g4)))) (mf_ite (Exists.imp fun n37 => (mo_w_Model_differ_L201 hD  (fun _ e => e) hQ _ _ _ _ _ _ _ _  g4)) (Exists.imp fun n50 => (mo_w_Model_differ_L257 hD n0 (fun _ e => e) hQ _ _ _ _ _ _ _ _ _ o8 o6 g4)))))))))))) (hQ _ _  g4)))))) g2.1)))) (Ow.rf hs).1)
set_option maxRecDepth 20000 in
theorem mo_w_Model_trace {w : Nat} {D : Nat → Nat → Prop} {T : Nat → Prop} {h : Hot} {this : Nat} {a1 : Int32} {a2 : Int32} {a3 : Int32} {Q Q' : Int32 → Mem → Prop} {M : Mem} (hD : Dok w D)  (hQ : ∀ z0 z1, Ow w D T h M z1 → Q z0 z1 → Q' z0 z1) : St w D T h M → w_Model_trace this a1 a2 a3 Q M → w_Model_trace this a1 a2 a3 Q' M := by
  intro hs
  unfold w_Model_trace
  exact (mo_w_Model_isWorld hD  (fun r2 M1 f1 => (have g2 : Ow w D T _ M M1 := (Ow.trans (Ow.rf hs) f1); (mf_ite (hQ _ _  g2) (mf_ite (hQ _ _  g2) (mf_ite (hQ _ _  g2) (mf_ite (mf_and fun _ => (Exists.imp fun i8 => (mf_and fun e3 => (mf_ite (mf_and fun _ => (mf_ite (mf_and fun _ => (hQ _ _  g2)) (mf_ite (mf_and fun _ => (hQ _ _  g2)) (mf_ite (mf_ite (mf_and fun _ => (hQ _ _  g2)) (hQ _ _  g2)) (mf_ite (mf_ite (mf_and fun _ => (hQ _ _  g2)) (hQ _ _  g2)) (mf_and fun _ => (hQ _ _  g2))))))) (hQ _ _  g2))))) (hQ _ _  g2))))))) (Ow.rf hs).1)
set_option maxRecDepth 20000 in
theorem mo_w_Model_done {w : Nat} {D : Nat → Nat → Prop} {T : Nat → Prop} {h : Hot} {this : Nat} {a1 : Int32} {a2 : Int32} {Q Q' : Int32 → Mem → Prop} {M : Mem} (hD : Dok w D)  (hQ : ∀ z0 z1, Ow w D T h M z1 → Q z0 z1 → Q' z0 z1) : St w D T h M → w_Model_done this a1 a2 Q M → w_Model_done this a1 a2 Q' M := by
  intro hs
  unfold w_Model_done
  exact (mo_w_Model_isWorld hD  (fun r2 M1 f1 => (have g2 : Ow w D T _ M M1 := (Ow.trans (Ow.rf hs) f1); (mf_ite (hQ _ _  g2) (mf_ite (hQ _ _  g2) (mf_ite (hQ _ _  g2) (mf_and fun _ => (Exists.imp fun i7 => (mf_and fun e3 => (mf_and fun _ => (hQ _ _  g2)))))))))) (Ow.rf hs).1)
set_option maxRecDepth 20000 in
theorem mo_w_Model_keepDraft {w : Nat} {D : Nat → Nat → Prop} {T : Nat → Prop} {h : Hot} {this : Nat} {Q Q' : Int32 → Mem → Prop} {M : Mem} (hD : Dok w D) (n0 : ow w D 11 this) (hQ : ∀ z0 z1, Ow w D T h M z1 → Q z0 z1 → Q' z0 z1) : St w D T h M → w_Model_keepDraft this Q M → w_Model_keepDraft this Q' M := by
  intro hs
  unfold w_Model_keepDraft
  exact (mf_and fun _ => (mf_and fun _ => (mf_and fun _ => (mf_and fun _ => (mf_and fun _ => (Exists.imp fun M1 => (mf_and fun e1 => (have g2 : Ow w D T _ M M1 := Ow.of e1 (Ow.wcp (ow0 rfl) (Ow.rf hs)); (mf_and fun _ => (mf_and fun _ => (Exists.imp fun M9 => (mf_and fun e3 => (have g4 : Ow w D T _ M M9 := Ow.of e3 (Ow.wI (ow0 rfl) (Ow.wI (ow0 rfl) g2)); (hQ _ _  (Ow.wI n0 g4)))))))))))))))
set_option maxRecDepth 20000 in
theorem mo_w_Model_trial_j229 {w : Nat} {D : Nat → Nat → Prop} {T : Nat → Prop} {h : Hot} {this : Nat} {Q Q' : Int32 → Mem → Prop} {h_Q : Hot} {s0 : Nat} {M : Mem} {M0 : Mem} (hD : Dok w D) (n0 : ow w D 11 this) (lQ : ∀ t, h_Q t = true → h t = true) (hQ : ∀ z0 z1, Ow w D T h_Q M0 z1 → Q z0 z1 → Q' z0 z1) : Ow w D T h M0 M → w_Model_trial_j229 this Q s0 M → w_Model_trial_j229 this Q' s0 M := by
  intro hf
  unfold w_Model_trial_j229
  exact (hQ _ _  (Ow.dn lQ (Ow.wI n0 hf)))
set_option maxRecDepth 20000 in
theorem mo_w_Model_trial_j203 {w : Nat} {D : Nat → Nat → Prop} {T : Nat → Prop} {h : Hot} {this : Nat} {Q Q' : Int32 → Mem → Prop} {h_Q : Hot} {v2 : Int32} {v3 : Int32} {M : Mem} {M0 : Mem} (hD : Dok w D) (n0 : ow w D 11 this) (lQ : ∀ t, h_Q t = true → h t = true) (hQ : ∀ z0 z1, Ow w D T h_Q M0 z1 → Q z0 z1 → Q' z0 z1) : Ow w D T h M0 M → w_Model_trial_j203 this Q v2 v3 M → w_Model_trial_j203 this Q' v2 v3 M := by
  intro hf
  unfold w_Model_trial_j203
  exact (mo_w_Model_cutLine hD n0 (fun r8 M7 f1 => (have g2 : Ow w D T _ M0 M7 := (Ow.trans hf f1); (mo_w_Model_needWord hD n0 (fun M9 f3 => (have g4 : Ow w D T _ M0 M9 := (Ow.trans g2 f3); (mo_w_Model_callWords hD n0 (fun M10 f5 => (have g6 : Ow w D T _ M0 M10 := (Ow.trans g4 f5); (mo_w_Model_keepDraft hD n0 (fun r12 M11 f7 => (have g8 : Ow w D T _ M0 M11 := (Ow.trans g6 f7); (hQ _ _  (Ow.dn lQ g8)))) g6.1))) (fun M13 f9 => (have g10 : Ow w D T _ M0 M13 := (Ow.trans g4 f9); (mo_w_Model_trial_j229 hD n0 lQ hQ g10))) g4.1))) (fun M14 f11 => (have g12 : Ow w D T _ M0 M14 := (Ow.trans g2 f11); (mo_w_Model_trial_j229 hD n0 lQ hQ g12))) g2.1))) hf.1)
set_option maxRecDepth 20000 in
theorem mo_w_Model_trial_j157 {w : Nat} {D : Nat → Nat → Prop} {T : Nat → Prop} {h : Hot} {this : Nat} {Q Q' : Int32 → Mem → Prop} {h_Q : Hot} {k36 k36' : Int32 → Int32 → Int32 → Int32 → Mem → Prop} {h_k36 : Hot} {v1 : Int32} {v2 : Int32} {v3 : Int32} {v5 : Int32} {M : Mem} {M0 : Mem} (hD : Dok w D)  (lQ : ∀ t, h_Q t = true → h t = true) (hQ : ∀ z0 z1, Ow w D T h_Q M0 z1 → Q z0 z1 → Q' z0 z1) (lk36 : ∀ t, h_k36 t = true → h t = true) (hk36 : ∀ z0 z1 z2 z3 z4, Ow w D T h_k36 M0 z4 → k36 z0 z1 z2 z3 z4 → k36' z0 z1 z2 z3 z4) : Ow w D T h M0 M → w_Model_trial_j157 this Q k36 v1 v2 v3 v5 M → w_Model_trial_j157 this Q' k36' v1 v2 v3 v5 M := by
  intro hf
  unfold w_Model_trial_j157
  exact (hk36 _ _ _ _ _  (Ow.dn lk36 hf))
set_option maxRecDepth 20000 in
theorem mo_w_Model_trial_j76 {w : Nat} {D : Nat → Nat → Prop} {T : Nat → Prop} {h : Hot} {this : Nat} {Q Q' : Int32 → Mem → Prop} {h_Q : Hot} {k36 k36' : Int32 → Int32 → Int32 → Int32 → Mem → Prop} {h_k36 : Hot} {v1 : Int32} {v2 : Int32} {v3 : Int32} {v4 : Int32} {v5 : Int32} {M : Mem} {M0 : Mem} (hD : Dok w D) (n0 : ow w D 11 this) (lQ : ∀ t, h_Q t = true → h t = true) (hQ : ∀ z0 z1, Ow w D T h_Q M0 z1 → Q z0 z1 → Q' z0 z1) (lk36 : ∀ t, h_k36 t = true → h t = true) (hk36 : ∀ z0 z1 z2 z3 z4, Ow w D T h_k36 M0 z4 → k36 z0 z1 z2 z3 z4 → k36' z0 z1 z2 z3 z4) : Ow w D T h M0 M → w_Model_trial_j76 this Q k36 v1 v2 v3 v4 v5 M → w_Model_trial_j76 this Q' k36' v1 v2 v3 v4 v5 M := by
  intro hf
  unfold w_Model_trial_j76
  exact (mo_w_Model_cutLine hD n0 (fun r18 M17 f1 => (have g2 : Ow w D T _ M0 M17 := (Ow.trans hf f1); (mf_ite (mo_w_Model_trial_j157 hD  lQ hQ lk36 hk36 g2) (mf_and fun _ => (mf_and fun _ => (mf_and fun _ => (mf_and fun _ => (mf_and fun _ => (Exists.imp fun M20 => (mf_and fun e3 => (have g4 : Ow w D T _ M0 M20 := Ow.of e3 (Ow.wcp (ow0 rfl) g2); (mf_and fun _ => (Exists.imp fun M27 => (mf_and fun e5 => (have g6 : Ow w D T _ M0 M27 := Ow.of e5 (Ow.wI (ow0 rfl) (Ow.wI n0 g4)); (have g7 : Ow w D T _ M0 (sI M27 11 this 123 ((mI M27 11 this 123) + (1 : Int32))) := (Ow.wI n0 g6); (mo_w_Model_trial_j157 hD  lQ hQ lk36 hk36 g7))))))))))))))))) hf.1)
set_option maxRecDepth 20000 in
theorem mo_w_Model_trial_L49 {w : Nat} {D : Nat → Nat → Prop} {T : Nat → Prop} {h : Hot} {this : Nat} {Q Q' : Int32 → Mem → Prop} {h_Q : Hot} {k36 k36' : Int32 → Int32 → Int32 → Int32 → Mem → Prop} {h_k36 : Hot} {M0 : Mem} (hD : Dok w D) (n0 : ow w D 11 this) (lQ : ∀ t, h_Q t = true → h t = true) (hQ : ∀ z0 z1, Ow w D T h_Q M0 z1 → Q z0 z1 → Q' z0 z1) (lk36 : ∀ t, h_k36 t = true → h t = true) (hk36 : ∀ z0 z1 z2 z3 z4, Ow w D T h_k36 M0 z4 → k36 z0 z1 z2 z3 z4 → k36' z0 z1 z2 z3 z4) : ∀ (n : Nat) (v1 : Int32) (v2 : Int32) (v3 : Int32) (v4 : Int32) (v5 : Int32) (M : Mem), Ow w D T h M0 M → w_Model_trial_L49 this Q k36 n v1 v2 v3 v4 v5 M → w_Model_trial_L49 this Q' k36' n v1 v2 v3 v4 v5 M
  | 0, _, _, _, _, _, _ => fun  _ h => h
  | n + 1, v1, v2, v3, v4, v5, M => fun  hf => by
    unfold w_Model_trial_L49
    exact (mf_ite (mo_w_Model_trial_j76 hD n0 lQ hQ lk36 hk36 hf) (mf_and fun _ => (mf_ite (mo_w_Model_trial_j76 hD n0 lQ hQ lk36 hk36 hf) (mo_w_Model_trial_L49 hD n0 lQ hQ lk36 hk36 _ _ _ _ _ _ _  hf))))
set_option maxRecDepth 20000 in
theorem mo_w_Model_trial_L36 {w : Nat} {D : Nat → Nat → Prop} {T : Nat → Prop} {h : Hot} {this : Nat} {Q Q' : Int32 → Mem → Prop} {h_Q : Hot} {M0 : Mem} (hD : Dok w D) (n0 : ow w D 11 this) (lQ : ∀ t, h_Q t = true → h t = true) (hQ : ∀ z0 z1, Ow w D T h_Q M0 z1 → Q z0 z1 → Q' z0 z1) : ∀ (n : Nat) (v1 : Int32) (v2 : Int32) (v3 : Int32) (v4 : Int32) (M : Mem), Ow w D T h M0 M → w_Model_trial_L36 this Q n v1 v2 v3 v4 M → w_Model_trial_L36 this Q' n v1 v2 v3 v4 M
  | 0, _, _, _, _, _ => fun  _ h => h
  | n + 1, v1, v2, v3, v4, M => fun  hf => by
    unfold w_Model_trial_L36
    exact (mf_ite (mf_ite (mf_ite (have g1 : Ow w D T _ M0 (sI (sI M 11 this 85 (0 : Int32)) 11 this 86 (-2 : Int32)) := (Ow.wI n0 (Ow.wI n0 hf)); (mo_w_Model_refuse hD n0 (fun M6 f2 => (have g3 : Ow w D T _ M0 M6 := (Ow.trans g1 f2); (mo_w_Model_trial_j203 hD n0 lQ hQ g3))) (fun M15 f4 => (have g5 : Ow w D T _ M0 M15 := (Ow.trans g1 f4); (mo_w_Model_trial_j229 hD n0 lQ hQ g5))) g1.1)) (have g6 : Ow w D T _ M0 (sI (sI M 11 this 85 (0 : Int32)) 11 this 86 (-2 : Int32)) := (Ow.wI n0 (Ow.wI n0 hf)); (mo_w_Model_trial_j203 hD n0 lQ hQ g6))) (hQ _ _  (Ow.dn lQ hf))) (Exists.imp fun n30 => (mo_w_Model_trial_L49 hD n0 lQ hQ (fun _ e => e) (fun y0 y1 y2 y3 y4  hf => mo_w_Model_trial_L36 hD n0 lQ hQ n y0 y1 y2 y3 y4  hf) _ _ _ _ _ _ _  hf)))
set_option maxRecDepth 20000 in
theorem mo_w_Model_trial {w : Nat} {D : Nat → Nat → Prop} {T : Nat → Prop} {h : Hot} {this : Nat} {Q Q' : Int32 → Mem → Prop} {M : Mem} (hD : Dok w D) (n0 : ow w D 11 this) (hQ : ∀ z0 z1, Ow w D T h M z1 → Q z0 z1 → Q' z0 z1) : St w D T h M → w_Model_trial this Q M → w_Model_trial this Q' M := by
  intro hs
  unfold w_Model_trial
  exact (mf_ite (hQ _ _  (Ow.rf hs)) (mf_ite (Exists.imp fun n31 => (have g1 : Ow w D T _ M (sI M 11 this 123 (0 : Int32)) := (Ow.wI n0 (Ow.rf hs)); (mo_w_Model_trial_L36 hD n0 (fun _ e => e) hQ _ _ _ _ _ _  g1))) (hQ _ _  (Ow.rf hs))))
set_option maxRecDepth 20000 in
theorem mo_w_Model_tryDraft_j196 {w : Nat} {D : Nat → Nat → Prop} {T : Nat → Prop} {h : Hot} {this : Nat} {Q Q' : Mem → Prop} {h_Q : Hot} {X X' : Mem → Prop} {h_X : Hot} {s0 : Int32} {M : Mem} {M0 : Mem} (hD : Dok w D) (n0 : ow w D 11 this) (lQ : ∀ t, h_Q t = true → h t = true) (hQ : ∀ z0, Ow w D T h_Q M0 z0 → Q z0 → Q' z0) (lX : ∀ t, h_X t = true → h t = true) (hX : ∀ z0, Ow w D T h_X M0 z0 → X z0 → X' z0) : Ow w D T h M0 M → w_Model_tryDraft_j196 this Q X s0 M → w_Model_tryDraft_j196 this Q' X' s0 M := by
  intro hf
  unfold w_Model_tryDraft_j196
  exact (hQ _  (Ow.dn lQ (Ow.wI n0 hf)))
set_option maxRecDepth 20000 in
theorem mo_w_Model_tryDraft_j152 {w : Nat} {D : Nat → Nat → Prop} {T : Nat → Prop} {h : Hot} {this : Nat} {Q Q' : Mem → Prop} {h_Q : Hot} {X X' : Mem → Prop} {h_X : Hot} {v3 : Nat} {s0 : Int32} {M : Mem} {M0 : Mem} (hD : Dok w D) (n0 : ow w D 11 this) (lQ : ∀ t, h_Q t = true → h t = true) (hQ : ∀ z0, Ow w D T h_Q M0 z0 → Q z0 → Q' z0) (lX : ∀ t, h_X t = true → h t = true) (hX : ∀ z0, Ow w D T h_X M0 z0 → X z0 → X' z0) : Ow w D T h M0 M → w_Model_tryDraft_j152 this Q X v3 s0 M → w_Model_tryDraft_j152 this Q' X' v3 s0 M := by
  intro hf
  unfold w_Model_tryDraft_j152
  exact (mf_ite (have g1 : Ow w D T _ M0 (sI M 11 this 124 s0) := (Ow.wI n0 hf); (mo_w_Model_tryDraft_j196 hD n0 lQ hQ lX hX g1)) (mf_ite (have g2 : Ow w D T _ M0 (sI M 11 this 124 s0) := (Ow.wI n0 hf); (mo_w_Model_tryDraft_j196 hD n0 lQ hQ lX hX g2)) (mf_ite (have g3 : Ow w D T _ M0 (sI M 11 this 124 s0) := (Ow.wI n0 hf); (mo_w_Model_tryDraft_j196 hD n0 lQ hQ lX hX g3)) (have g4 : Ow w D T _ M0 (sI M 11 this 124 s0) := (Ow.wI n0 hf); (mo_w_Model_tryDraft_j196 hD n0 lQ hQ lX hX g4)))))
set_option maxRecDepth 20000 in
theorem mo_w_Model_tryDraft_j241 {w : Nat} {D : Nat → Nat → Prop} {T : Nat → Prop} {h : Hot} {this : Nat} {Q Q' : Mem → Prop} {h_Q : Hot} {X X' : Mem → Prop} {h_X : Hot} {s0 : Int32} {s1 : Int32} {M : Mem} {M0 : Mem} (hD : Dok w D) (n0 : ow w D 11 this) (lQ : ∀ t, h_Q t = true → h t = true) (hQ : ∀ z0, Ow w D T h_Q M0 z0 → Q z0 → Q' z0) (lX : ∀ t, h_X t = true → h t = true) (hX : ∀ z0, Ow w D T h_X M0 z0 → X z0 → X' z0) : Ow w D T h M0 M → w_Model_tryDraft_j241 this Q X s0 s1 M → w_Model_tryDraft_j241 this Q' X' s0 s1 M := by
  intro hf
  unfold w_Model_tryDraft_j241
  exact (hQ _  (Ow.dn lQ (Ow.wI n0 hf)))
set_option maxRecDepth 20000 in
theorem mo_w_Model_tryDraft_j30 {w : Nat} {D : Nat → Nat → Prop} {T : Nat → Prop} {h : Hot} {this : Nat} {Q Q' : Mem → Prop} {h_Q : Hot} {X X' : Mem → Prop} {h_X : Hot} {v1 : Int32} {v2 : Int32} {M : Mem} {M0 : Mem} (hD : Dok w D) (n0 : ow w D 11 this) (n1 : T (1000 + ((3 : Int32).toNatClampNeg))) (lQ : ∀ t, h_Q t = true → h t = true) (hQ : ∀ z0, Ow w D T h_Q M0 z0 → Q z0 → Q' z0) (lX : ∀ t, h_X t = true → h t = true) (hX : ∀ z0, Ow w D T h_X M0 z0 → X z0 → X' z0) : Ow w D T h M0 M → w_Model_tryDraft_j30 this Q X v1 v2 M → w_Model_tryDraft_j30 this Q' X' v1 v2 M := by
  intro hf
  unfold w_Model_tryDraft_j30
  exact (mf_and fun _ => (Exists.imp fun i3 => (mf_and fun e1 => (have o2 : ow w D 12 i3 := (Ow.rT e1 rfl n1 hf); (Exists.imp fun i4 => (mf_and fun e3 => (have o4 : ow w D 12 i4 := (Ow.rh e3 rfl up_s (Ow.wRh rfl n0 o2 hf)); (have g5 : Ow w D T _ M0 (sR M 11 this 45 (some (12, i3))) := (Ow.wRh rfl n0 o2 hf); (mo_w_Model_beginWorld hD o4 (fun M5 f6 => (have g7 : Ow w D T _ M0 M5 := (Ow.trans g5 f6); (mo_w_Model_take hD n0 up_s (fun r7 M6 f8 => (have g9 : Ow w D T _ M0 M6 := (Ow.trans g7 f8); (mf_ite (mo_w_Model_cutLine hD n0 (fun r10 M9 f10 => (have g11 : Ow w D T _ M0 M9 := (Ow.trans g9 f10); (mo_w_Model_needWord hD n0 (fun M11 f12 => (have g13 : Ow w D T _ M0 M11 := (Ow.trans g11 f12); (mo_w_Model_callWords hD n0 (fun M12 f14 => (have g15 : Ow w D T _ M0 M12 := (Ow.trans g13 f14); (Exists.imp fun i13 => (mf_and fun e16 => (have o17 : ow w D 12 i13 := (Ow.rh e16 rfl up_s g15); (mf_and fun _ => (Exists.imp fun i15 => (mf_and fun e18 => (have o19 : ow w D 13 i15 := (Ow.r1 e18 rfl rfl (ow.to o17 rfl rfl) g15); (mo_w_Model_beginRun hD o19 (fun M16 f20 => (have g21 : Ow w D T _ M0 M16 := (Ow.trans g15 f20); (mo_w_Model_goOn hD n0 up_s (fun r18 M17 f22 => (have g23 : Ow w D T _ M0 M17 := (Ow.trans g21 f22); (mf_ite (mf_ite (have g24 : Ow w D T _ M0 (sI M17 11 this 125 (0 : Int32)) := (Ow.wI n0 g23); (mo_w_Model_tryDraft_j152 hD n0 (leU lQ) hQ (leU lX) hX g24)) (have g25 : Ow w D T _ M0 (sI M17 11 this 125 (0 : Int32)) := (Ow.wI n0 g23); (mo_w_Model_tryDraft_j152 hD n0 (leU lQ) hQ (leU lX) hX g25))) (mf_ite (mf_ite (have g26 : Ow w D T _ M0 (sI (sI M17 11 this 125 (0 : Int32)) 11 this 124 (4 : Int32)) := (Ow.wI n0 (Ow.wI n0 g23)); (mo_w_Model_tryDraft_j241 hD n0 (leU lQ) hQ (leU lX) hX g26)) (have g27 : Ow w D T _ M0 (sI (sI M17 11 this 125 (0 : Int32)) 11 this 124 (4 : Int32)) := (Ow.wI n0 (Ow.wI n0 g23)); (mo_w_Model_tryDraft_j241 hD n0 (leU lQ) hQ (leU lX) hX g27))) (hQ _  (Ow.dn lQ (Ow.dn1 (Ow.wI n0 (Ow.wI n0 g23))))))))) g21.1))) g15.1)))))))))) (fun z29 f28 => hX z29 (Ow.dn lX (Ow.dn1 (Ow.trans g13 f28)))) g13.1))) (fun z31 f30 => hX z31 (Ow.dn lX (Ow.dn1 (Ow.trans g11 f30)))) g11.1))) g9.1) (Exists.imp fun M26 => (mf_and fun e32 => (have g33 : Ow w D T _ M0 M26 := Ow.of e32 (Ow.wI n0 (Ow.wI n0 g9)); (hQ _  (Ow.dn lQ (Ow.dn1 g33))))))))) g7.1))) g5.1)))))))))
set_option maxRecDepth 20000 in
theorem mo_w_Model_tryDraft_L7 {w : Nat} {D : Nat → Nat → Prop} {T : Nat → Prop} {h : Hot} {this : Nat} {Q Q' : Mem → Prop} {h_Q : Hot} {X X' : Mem → Prop} {h_X : Hot} {M0 : Mem} (hD : Dok w D) (n0 : ow w D 11 this) (n1 : T (1000 + ((3 : Int32).toNatClampNeg))) (lQ : ∀ t, h_Q t = true → h t = true) (hQ : ∀ z0, Ow w D T h_Q M0 z0 → Q z0 → Q' z0) (lX : ∀ t, h_X t = true → h t = true) (hX : ∀ z0, Ow w D T h_X M0 z0 → X z0 → X' z0) : ∀ (n : Nat) (v1 : Int32) (v2 : Int32) (M : Mem), Ow w D T h M0 M → w_Model_tryDraft_L7 this Q X n v1 v2 M → w_Model_tryDraft_L7 this Q' X' n v1 v2 M
  | 0, _, _, _ => fun  _ h => h
  | n + 1, v1, v2, M => fun  hf => by
    unfold w_Model_tryDraft_L7
    exact (mf_ite (mo_w_Model_tryDraft_j30 hD n0 n1 lQ hQ lX hX hf) (mf_and fun _ => (mf_ite (mo_w_Model_tryDraft_j30 hD n0 n1 lQ hQ lX hX hf) (mo_w_Model_tryDraft_L7 hD n0 n1 lQ hQ lX hX _ _ _ _  hf))))
set_option maxRecDepth 20000 in
theorem mo_w_Model_tryDraft {w : Nat} {D : Nat → Nat → Prop} {T : Nat → Prop} {h : Hot} {this : Nat} {a1 : Int32} {Q Q' : Mem → Prop} {X X' : Mem → Prop} {M : Mem} (hD : Dok w D) (n0 : ow w D 11 this) (n1 : T (1000 + ((3 : Int32).toNatClampNeg))) (hQ : ∀ z0, Ow w D T h M z0 → Q z0 → Q' z0) (hX : ∀ z0, Ow w D T h M z0 → X z0 → X' z0) : St w D T h M → w_Model_tryDraft this a1 Q X M → w_Model_tryDraft this a1 Q' X' M := by
  intro hs
  unfold w_Model_tryDraft
  exact (Exists.imp fun n29 => (mo_w_Model_tryDraft_L7 hD n0 n1 (fun _ e => e) hQ (fun _ e => e) hX _ _ _ _  (Ow.rf hs)))
set_option maxRecDepth 20000 in
theorem mo_w_Model_draftTrial {w : Nat} {D : Nat → Nat → Prop} {T : Nat → Prop} {h : Hot} {this : Nat} {a1 : Int32} {Q Q' : Mem → Prop} {M : Mem} (hD : Dok w D) (n0 : ow w D 11 this) (hQ : ∀ z0, Ow w D T h M z0 → Q z0 → Q' z0) : St w D T h M → w_Model_draftTrial this a1 Q M → w_Model_draftTrial this a1 Q' M := by
  intro hs
  unfold w_Model_draftTrial
  exact (mf_and fun _ => (mf_and fun _ => (mf_and fun _ => (mf_and fun _ => (mf_and fun _ => (mf_and fun _ => (Exists.imp fun M2 => (mf_and fun e1 => (have g2 : Ow w D T _ M M2 := Ow.of e1 (Ow.wcp (ow0 rfl) (Ow.wI n0 (Ow.rf hs))); (hQ _  g2))))))))))
set_option maxRecDepth 20000 in
theorem mo_w_Model_isTrial {w : Nat} {D : Nat → Nat → Prop} {T : Nat → Prop} {h : Hot} {this : Nat} {a1 : Int32} {Q Q' : Int32 → Mem → Prop} {M : Mem} (hD : Dok w D)  (hQ : ∀ z0 z1, Ow w D T h M z1 → Q z0 z1 → Q' z0 z1) : St w D T h M → w_Model_isTrial this a1 Q M → w_Model_isTrial this a1 Q' M := by
  intro hs
  unfold w_Model_isTrial
  exact (mf_ite (hQ _ _  (Ow.rf hs)) (mf_ite (hQ _ _  (Ow.rf hs)) (hQ _ _  (Ow.rf hs))))
set_option maxRecDepth 20000 in
theorem mo_w_Model_outcome {w : Nat} {D : Nat → Nat → Prop} {T : Nat → Prop} {h : Hot} {this : Nat} {a1 : Int32} {a2 : Int32} {a3 : Int32} {Q Q' : Int32 → Mem → Prop} {X X' : Mem → Prop} {M : Mem} (hD : Dok w D) (n0 : ow w D 11 this) (n1 : T (1000 + ((3 : Int32).toNatClampNeg))) (hQ : ∀ z0 z1, Ow w D T h M z1 → Q z0 z1 → Q' z0 z1) (hX : ∀ z0, Ow w D T h M z0 → X z0 → X' z0) : St w D T h M → w_Model_outcome this a1 a2 a3 Q X M → w_Model_outcome this a1 a2 a3 Q' X' M := by
  intro hs
  unfold w_Model_outcome
  exact (mo_w_Model_isTrial hD  (fun r2 M1 f1 => (have g2 : Ow w D T _ M M1 := (Ow.trans (Ow.rf hs) f1); (mf_ite (hQ _ _  g2) (mf_ite (hQ _ _  g2) (mf_ite (hQ _ _  g2) (mf_ite (hQ _ _  g2) (mf_ite (mo_w_Model_draftTrial hD n0 (fun M8 f3 => (have g4 : Ow w D T _ M M8 := (Ow.trans g2 f3); (mo_w_Model_tryDraft hD n0 n1 (fun M9 f5 => (have g6 : Ow w D T _ M M9 := (Ow.trans g4 f5); (mf_ite (hQ _ _  g6) (hQ _ _  g6)))) (fun z8 f7 => hX z8 (Ow.trans g4 f7)) g4.1))) g2.1) (hQ _ _  g2)))))))) (Ow.rf hs).1)
set_option maxRecDepth 20000 in
theorem mo_w_Model_look_j114 {w : Nat} {D : Nat → Nat → Prop} {T : Nat → Prop} {h : Hot} {this : Nat} {Q Q' : Mem → Prop} {h_Q : Hot} {X X' : Mem → Prop} {h_X : Hot} {k68 k68' : Int32 → Int32 → Int32 → Int32 → Mem → Prop} {h_k68 : Hot} {v1 : Int32} {v2 : Int32} {v3 : Int32} {v4 : Int32} {s0 : Int32} {s1 : Int32} {s2 : Int32} {M : Mem} {M0 : Mem} (hD : Dok w D)  (lQ : ∀ t, h_Q t = true → h t = true) (hQ : ∀ z0, Ow w D T h_Q M0 z0 → Q z0 → Q' z0) (lX : ∀ t, h_X t = true → h t = true) (hX : ∀ z0, Ow w D T h_X M0 z0 → X z0 → X' z0) (lk68 : ∀ t, h_k68 t = true → h t = true) (hk68 : ∀ z0 z1 z2 z3 z4, Ow w D T h_k68 M0 z4 → k68 z0 z1 z2 z3 z4 → k68' z0 z1 z2 z3 z4) : Ow w D T h M0 M → w_Model_look_j114 this Q X k68 v1 v2 v3 v4 s0 s1 s2 M → w_Model_look_j114 this Q' X' k68' v1 v2 v3 v4 s0 s1 s2 M := by
  intro hf
  unfold w_Model_look_j114
  exact (mf_and fun _ => (hk68 _ _ _ _ _  (Ow.dn lk68 (Ow.wI (ow0 rfl) hf))))
set_option maxRecDepth 20000 in
theorem mo_w_Model_look_j106 {w : Nat} {D : Nat → Nat → Prop} {T : Nat → Prop} {h : Hot} {this : Nat} {Q Q' : Mem → Prop} {h_Q : Hot} {X X' : Mem → Prop} {h_X : Hot} {k68 k68' : Int32 → Int32 → Int32 → Int32 → Mem → Prop} {h_k68 : Hot} {v1 : Int32} {v2 : Int32} {v3 : Int32} {v4 : Int32} {s0 : Int32} {s1 : Int32} {M : Mem} {M0 : Mem} (hD : Dok w D)  (lQ : ∀ t, h_Q t = true → h t = true) (hQ : ∀ z0, Ow w D T h_Q M0 z0 → Q z0 → Q' z0) (lX : ∀ t, h_X t = true → h t = true) (hX : ∀ z0, Ow w D T h_X M0 z0 → X z0 → X' z0) (lk68 : ∀ t, h_k68 t = true → h t = true) (hk68 : ∀ z0 z1 z2 z3 z4, Ow w D T h_k68 M0 z4 → k68 z0 z1 z2 z3 z4 → k68' z0 z1 z2 z3 z4) : Ow w D T h M0 M → w_Model_look_j106 this Q X k68 v1 v2 v3 v4 s0 s1 M → w_Model_look_j106 this Q' X' k68' v1 v2 v3 v4 s0 s1 M := by
  intro hf
  unfold w_Model_look_j106
  exact (mo_w_Model_look_j114 hD  lQ hQ lX hX lk68 hk68 hf)
set_option maxRecDepth 20000 in
theorem mo_w_Model_look_L68 {w : Nat} {D : Nat → Nat → Prop} {T : Nat → Prop} {h : Hot} {this : Nat} {Q Q' : Mem → Prop} {h_Q : Hot} {X X' : Mem → Prop} {h_X : Hot} {M0 : Mem} (hD : Dok w D) (n0 : ow w D 11 this) (n1 : T (1000 + ((3 : Int32).toNatClampNeg))) (lQ : ∀ t, h_Q t = true → h t = true) (hQ : ∀ z0, Ow w D T h_Q M0 z0 → Q z0 → Q' z0) (lX : ∀ t, h_X t = true → h t = true) (hX : ∀ z0, Ow w D T h_X M0 z0 → X z0 → X' z0) : ∀ (n : Nat) (v1 : Int32) (v2 : Int32) (v3 : Int32) (v4 : Int32) (M : Mem), Ow w D T h M0 M → w_Model_look_L68 this Q X n v1 v2 v3 v4 M → w_Model_look_L68 this Q' X' n v1 v2 v3 v4 M
  | 0, _, _, _, _, _ => fun  _ h => h
  | n + 1, v1, v2, v3, v4, M => fun  hf => by
    unfold w_Model_look_L68
    exact (mf_ite (mf_and fun _ => (hQ _  (Ow.dn lQ (Ow.wI (ow0 rfl) hf)))) (mo_w_Model_tryDraft hD n0 n1 (fun M11 f1 => (have g2 : Ow w D T _ M0 M11 := (Ow.trans hf f1); (mf_and fun _ => (mf_ite (mf_ite (mo_w_Model_look_j114 hD  lQ hQ lX hX (fun _ e => e) (fun y0 y1 y2 y3 y4  hf => mo_w_Model_look_L68 hD n0 n1 lQ hQ lX hX n y0 y1 y2 y3 y4  hf) g2) (mo_w_Model_look_j106 hD  lQ hQ lX hX (fun _ e => e) (fun y0 y1 y2 y3 y4  hf => mo_w_Model_look_L68 hD n0 n1 lQ hQ lX hX n y0 y1 y2 y3 y4  hf) g2)) (mo_w_Model_look_j106 hD  lQ hQ lX hX (fun _ e => e) (fun y0 y1 y2 y3 y4  hf => mo_w_Model_look_L68 hD n0 n1 lQ hQ lX hX n y0 y1 y2 y3 y4  hf) g2))))) (fun z4 f3 => hX z4 (Ow.dn lX (Ow.trans hf f3))) hf.1))
set_option maxRecDepth 20000 in
theorem mo_w_Model_look_j57 {w : Nat} {D : Nat → Nat → Prop} {T : Nat → Prop} {h : Hot} {this : Nat} {Q Q' : Mem → Prop} {h_Q : Hot} {X X' : Mem → Prop} {h_X : Hot} {v1 : Int32} {v2 : Int32} {v3 : Int32} {s0 : Int32} {s1 : Int32} {M : Mem} {M0 : Mem} (hD : Dok w D) (n0 : ow w D 11 this) (n1 : T (1000 + ((3 : Int32).toNatClampNeg))) (lQ : ∀ t, h_Q t = true → h t = true) (hQ : ∀ z0, Ow w D T h_Q M0 z0 → Q z0 → Q' z0) (lX : ∀ t, h_X t = true → h t = true) (hX : ∀ z0, Ow w D T h_X M0 z0 → X z0 → X' z0) : Ow w D T h M0 M → w_Model_look_j57 this Q X v1 v2 v3 s0 s1 M → w_Model_look_j57 this Q' X' v1 v2 v3 s0 s1 M := by
  intro hf
  unfold w_Model_look_j57
  exact (mf_and fun _ => (mf_and fun _ => (Exists.imp fun M8 => (mf_and fun e1 => (have g2 : Ow w D T _ M0 M8 := Ow.of e1 (Ow.wI (ow0 rfl) (Ow.wI (ow0 rfl) hf)); (Exists.imp fun n16 => (mo_w_Model_look_L68 hD n0 n1 lQ hQ lX hX _ _ _ _ _ _  g2)))))))
set_option maxRecDepth 20000 in
theorem mo_w_Model_look {w : Nat} {D : Nat → Nat → Prop} {T : Nat → Prop} {h : Hot} {this : Nat} {a1 : Int32} {Q Q' : Mem → Prop} {X X' : Mem → Prop} {M : Mem} (hD : Dok w D) (n0 : ow w D 11 this) (n1 : T (1000 + ((3 : Int32).toNatClampNeg))) (hQ : ∀ z0, Ow w D T h M z0 → Q z0 → Q' z0) (hX : ∀ z0, Ow w D T h M z0 → X z0 → X' z0) : St w D T h M → w_Model_look this a1 Q X M → w_Model_look this a1 Q' X' M := by
  intro hs
  unfold w_Model_look
  exact (mf_and fun _ => (mf_ite (mo_w_Model_draftTrial hD n0 (fun M3 f1 => (have g2 : Ow w D T _ M M3 := (Ow.trans (Ow.rf hs) f1); (mo_w_Model_tryDraft hD n0 n1 (fun M4 f3 => (have g4 : Ow w D T _ M M4 := (Ow.trans g2 f3); (mf_ite (mo_w_Model_look_j57 hD n0 n1 (fun _ e => e) hQ (fun _ e => e) hX g4) (mf_ite (mf_and fun _ => (mo_w_Model_look_j57 hD n0 n1 (fun _ e => e) hQ (fun _ e => e) hX g4)) (mo_w_Model_look_j57 hD n0 n1 (fun _ e => e) hQ (fun _ e => e) hX g4))))) (fun z6 f5 => hX z6 (Ow.trans g2 f5)) g2.1))) (Ow.rf hs).1) (hQ _  (Ow.rf hs))))
set_option maxRecDepth 20000 in
theorem mo_w_Model_meets {w : Nat} {D : Nat → Nat → Prop} {T : Nat → Prop} {h : Hot} {this : Nat} {a1 : Int32} {Q Q' : Int32 → Mem → Prop} {X X' : Mem → Prop} {M : Mem} (hD : Dok w D) (n0 : ow w D 11 this) (n1 : T (1000 + ((3 : Int32).toNatClampNeg))) (hQ : ∀ z0 z1, Ow w D T h M z1 → Q z0 z1 → Q' z0 z1) (hX : ∀ z0, Ow w D T h M z0 → X z0 → X' z0) : St w D T h M → w_Model_meets this a1 Q X M → w_Model_meets this a1 Q' X' M := by
  intro hs
  unfold w_Model_meets
  exact (mo_w_Model_isTrial hD  (fun r2 M1 f1 => (have g2 : Ow w D T _ M M1 := (Ow.trans (Ow.rf hs) f1); (mf_ite (hQ _ _  g2) (mo_w_Model_look hD n0 n1 (fun M4 f3 => (have g4 : Ow w D T _ M M4 := (Ow.trans g2 f3); (mf_and fun _ => (hQ _ _  g4)))) (fun z6 f5 => hX z6 (Ow.trans g2 f5)) g2.1)))) (Ow.rf hs).1)
set_option maxRecDepth 20000 in
theorem mo_w_Model_finds {w : Nat} {D : Nat → Nat → Prop} {T : Nat → Prop} {h : Hot} {this : Nat} {a1 : Int32} {a2 : Int32} {Q Q' : Int32 → Mem → Prop} {X X' : Mem → Prop} {M : Mem} (hD : Dok w D) (n0 : ow w D 11 this) (n1 : T (1000 + ((3 : Int32).toNatClampNeg))) (hQ : ∀ z0 z1, Ow w D T h M z1 → Q z0 z1 → Q' z0 z1) (hX : ∀ z0, Ow w D T h M z0 → X z0 → X' z0) : St w D T h M → w_Model_finds this a1 a2 Q X M → w_Model_finds this a1 a2 Q' X' M := by
  intro hs
  unfold w_Model_finds
  exact (mo_w_Model_isTrial hD  (fun r2 M1 f1 => (have g2 : Ow w D T _ M M1 := (Ow.trans (Ow.rf hs) f1); (mf_ite (hQ _ _  g2) (mf_ite (hQ _ _  g2) (mf_ite (mo_w_Model_draftTrial hD n0 (fun M6 f3 => (have g4 : Ow w D T _ M M6 := (Ow.trans g2 f3); (mo_w_Model_tryDraft hD n0 n1 (fun M7 f5 => (have g6 : Ow w D T _ M M7 := (Ow.trans g4 f5); (mo_w_Model_tryDraft hD n0 n1 (fun M8 f7 => (have g8 : Ow w D T _ M M8 := (Ow.trans g6 f7); (mf_ite (mf_ite (hQ _ _  g8) (hQ _ _  g8)) (hQ _ _  g8)))) (fun z10 f9 => hX z10 (Ow.trans g6 f9)) g6.1))) (fun z12 f11 => hX z12 (Ow.trans g4 f11)) g4.1))) g2.1) (hQ _ _  g2)))))) (Ow.rf hs).1)
set_option maxRecDepth 20000 in
theorem mo_w_Model_isRule_j35 {w : Nat} {D : Nat → Nat → Prop} {T : Nat → Prop} {h : Hot} {Q Q' : Int32 → Mem → Prop} {h_Q : Hot} {v0 : Int32} {M : Mem} {M0 : Mem} (hD : Dok w D)  (lQ : ∀ t, h_Q t = true → h t = true) (hQ : ∀ z0 z1, Ow w D T h_Q M0 z1 → Q z0 z1 → Q' z0 z1) : Ow w D T h M0 M → w_Model_isRule_j35 Q v0 M → w_Model_isRule_j35 Q' v0 M := by
  intro hf
  unfold w_Model_isRule_j35
  exact (mf_ite (hQ _ _  (Ow.dn lQ hf)) (mf_ite (hQ _ _  (Ow.dn lQ hf)) (hQ _ _  (Ow.dn lQ hf))))
set_option maxRecDepth 20000 in
theorem mo_w_Model_isRule_j23 {w : Nat} {D : Nat → Nat → Prop} {T : Nat → Prop} {h : Hot} {Q Q' : Int32 → Mem → Prop} {h_Q : Hot} {v0 : Int32} {M : Mem} {M0 : Mem} (hD : Dok w D)  (lQ : ∀ t, h_Q t = true → h t = true) (hQ : ∀ z0 z1, Ow w D T h_Q M0 z1 → Q z0 z1 → Q' z0 z1) : Ow w D T h M0 M → w_Model_isRule_j23 Q v0 M → w_Model_isRule_j23 Q' v0 M := by
  intro hf
  unfold w_Model_isRule_j23
  exact (mf_ite (mo_w_Model_isRule_j35 hD  lQ hQ hf) (mf_ite (hQ _ _  (Ow.dn lQ hf)) (mo_w_Model_isRule_j35 hD  lQ hQ hf)))
set_option maxRecDepth 20000 in
theorem mo_w_Model_isRule_j11 {w : Nat} {D : Nat → Nat → Prop} {T : Nat → Prop} {h : Hot} {Q Q' : Int32 → Mem → Prop} {h_Q : Hot} {v0 : Int32} {M : Mem} {M0 : Mem} (hD : Dok w D)  (lQ : ∀ t, h_Q t = true → h t = true) (hQ : ∀ z0 z1, Ow w D T h_Q M0 z1 → Q z0 z1 → Q' z0 z1) : Ow w D T h M0 M → w_Model_isRule_j11 Q v0 M → w_Model_isRule_j11 Q' v0 M := by
  intro hf
  unfold w_Model_isRule_j11
  exact (mf_ite (mo_w_Model_isRule_j23 hD  lQ hQ hf) (mf_ite (hQ _ _  (Ow.dn lQ hf)) (mo_w_Model_isRule_j23 hD  lQ hQ hf)))
set_option maxRecDepth 20000 in
theorem mo_w_Model_isRule {w : Nat} {D : Nat → Nat → Prop} {T : Nat → Prop} {h : Hot} {a1 : Int32} {Q Q' : Int32 → Mem → Prop} {M : Mem} (hD : Dok w D)  (hQ : ∀ z0 z1, Ow w D T h M z1 → Q z0 z1 → Q' z0 z1) : St w D T h M → w_Model_isRule a1 Q M → w_Model_isRule a1 Q' M := by
  intro hs
  unfold w_Model_isRule
  exact (mf_ite (mo_w_Model_isRule_j11 hD  (fun _ e => e) hQ (Ow.rf hs)) (mf_ite (hQ _ _  (Ow.rf hs)) (mo_w_Model_isRule_j11 hD  (fun _ e => e) hQ (Ow.rf hs))))
set_option maxRecDepth 20000 in
theorem mo_w_Model_hole_j87 {w : Nat} {D : Nat → Nat → Prop} {T : Nat → Prop} {h : Hot} {this : Nat} {Q Q' : Int32 → Mem → Prop} {h_Q : Hot} {X X' : Mem → Prop} {h_X : Hot} {k50 k50' : Int64 → Int32 → Int32 → Mem → Prop} {h_k50 : Hot} {v2 : Int64} {v4 : Int32} {v5 : Int32} {M : Mem} {M0 : Mem} (hD : Dok w D)  (lQ : ∀ t, h_Q t = true → h t = true) (hQ : ∀ z0 z1, Ow w D T h_Q M0 z1 → Q z0 z1 → Q' z0 z1) (lX : ∀ t, h_X t = true → h t = true) (hX : ∀ z0, Ow w D T h_X M0 z0 → X z0 → X' z0) (lk50 : ∀ t, h_k50 t = true → h t = true) (hk50 : ∀ z0 z1 z2 z3, Ow w D T h_k50 M0 z3 → k50 z0 z1 z2 z3 → k50' z0 z1 z2 z3) : Ow w D T h M0 M → w_Model_hole_j87 this Q X k50 v2 v4 v5 M → w_Model_hole_j87 this Q' X' k50' v2 v4 v5 M := by
  intro hf
  unfold w_Model_hole_j87
  exact (hk50 _ _ _ _  (Ow.dn lk50 hf))
set_option maxRecDepth 20000 in
theorem mo_w_Model_hole_L50 {w : Nat} {D : Nat → Nat → Prop} {T : Nat → Prop} {h : Hot} {this : Nat} {Q Q' : Int32 → Mem → Prop} {h_Q : Hot} {X X' : Mem → Prop} {h_X : Hot} {M0 : Mem} (hD : Dok w D)  (lQ : ∀ t, h_Q t = true → h t = true) (hQ : ∀ z0 z1, Ow w D T h_Q M0 z1 → Q z0 z1 → Q' z0 z1) (lX : ∀ t, h_X t = true → h t = true) (hX : ∀ z0, Ow w D T h_X M0 z0 → X z0 → X' z0) : ∀ (n : Nat) (v2 : Int64) (v4 : Int32) (v5 : Int32) (M : Mem), Ow w D T h M0 M → w_Model_hole_L50 this Q X n v2 v4 v5 M → w_Model_hole_L50 this Q' X' n v2 v4 v5 M
  | 0, _, _, _, _ => fun  _ h => h
  | n + 1, v2, v4, v5, M => fun  hf => by
    unfold w_Model_hole_L50
    exact (mf_ite (hQ _ _  (Ow.dn lQ hf)) (mo_w_Model_isRule hD  (fun r5 M4 f1 => (have g2 : Ow w D T _ M0 M4 := (Ow.trans hf f1); (mf_ite (mo_w_Model_hole_j87 hD  lQ hQ lX hX (fun _ e => e) (fun y0 y1 y2 y3  hf => mo_w_Model_hole_L50 hD  lQ hQ lX hX n y0 y1 y2 y3  hf) g2) (mf_ite (mf_ite (hQ _ _  (Ow.dn lQ g2)) (mo_w_Model_hole_j87 hD  lQ hQ lX hX (fun _ e => e) (fun y0 y1 y2 y3  hf => mo_w_Model_hole_L50 hD  lQ hQ lX hX n y0 y1 y2 y3  hf) g2)) (mo_w_Model_hole_j87 hD  lQ hQ lX hX (fun _ e => e) (fun y0 y1 y2 y3  hf => mo_w_Model_hole_L50 hD  lQ hQ lX hX n y0 y1 y2 y3  hf) g2))))) hf.1))
set_option maxRecDepth 20000 in
theorem mo_w_Model_hole_L11 {w : Nat} {D : Nat → Nat → Prop} {T : Nat → Prop} {h : Hot} {this : Nat} {Q Q' : Int32 → Mem → Prop} {h_Q : Hot} {X X' : Mem → Prop} {h_X : Hot} {M0 : Mem} (hD : Dok w D) (n0 : ow w D 11 this) (n1 : T (1000 + ((3 : Int32).toNatClampNeg))) (lQ : ∀ t, h_Q t = true → h t = true) (hQ : ∀ z0 z1, Ow w D T h_Q M0 z1 → Q z0 z1 → Q' z0 z1) (lX : ∀ t, h_X t = true → h t = true) (hX : ∀ z0, Ow w D T h_X M0 z0 → X z0 → X' z0) : ∀ (n : Nat) (v1 : Int32) (v2 : Int64) (v4 : Int32) (M : Mem), Ow w D T h M0 M → w_Model_hole_L11 this Q X n v1 v2 v4 M → w_Model_hole_L11 this Q' X' n v1 v2 v4 M
  | 0, _, _, _, _ => fun  _ h => h
  | n + 1, v1, v2, v4, M => fun  hf => by
    unfold w_Model_hole_L11
    exact (mf_ite (Exists.imp fun n9 => (mo_w_Model_hole_L50 hD  lQ hQ lX hX _ _ _ _ _  hf)) (mo_w_Model_look hD n0 n1 (fun M10 f1 => (have g2 : Ow w D T _ M0 M10 := (Ow.trans hf f1); (mf_and fun _ => (Exists.imp fun x12 => (mf_and fun _ => (mo_w_Model_hole_L11 hD n0 n1 lQ hQ lX hX _ _ _ _ _  g2)))))) (fun z4 f3 => hX z4 (Ow.dn lX (Ow.trans hf f3))) hf.1))
set_option maxRecDepth 20000 in
theorem mo_w_Model_hole {w : Nat} {D : Nat → Nat → Prop} {T : Nat → Prop} {h : Hot} {this : Nat} {a1 : Int32} {Q Q' : Int32 → Mem → Prop} {X X' : Mem → Prop} {M : Mem} (hD : Dok w D) (n0 : ow w D 11 this) (n1 : T (1000 + ((3 : Int32).toNatClampNeg))) (hQ : ∀ z0 z1, Ow w D T h M z1 → Q z0 z1 → Q' z0 z1) (hX : ∀ z0, Ow w D T h M z0 → X z0 → X' z0) : St w D T h M → w_Model_hole this a1 Q X M → w_Model_hole this a1 Q' X' M := by
  intro hs
  unfold w_Model_hole
  exact (mf_ite (Exists.imp fun n13 => (mo_w_Model_hole_L11 hD n0 n1 (fun _ e => e) hQ (fun _ e => e) hX _ _ _ _ _  (Ow.rf hs))) (hQ _ _  (Ow.rf hs)))
set_option maxRecDepth 20000 in
theorem mo_w_Model_together_j61 {w : Nat} {D : Nat → Nat → Prop} {T : Nat → Prop} {h : Hot} {this : Nat} {Q Q' : Int64 → Mem → Prop} {h_Q : Hot} {k5 k5' : Int32 → Int32 → Int64 → Int32 → Mem → Prop} {h_k5 : Hot} {v1 : Int32} {v2 : Int32} {v3 : Int64} {v5 : Int32} {M : Mem} {M0 : Mem} (hD : Dok w D)  (lQ : ∀ t, h_Q t = true → h t = true) (hQ : ∀ z0 z1, Ow w D T h_Q M0 z1 → Q z0 z1 → Q' z0 z1) (lk5 : ∀ t, h_k5 t = true → h t = true) (hk5 : ∀ z0 z1 z2 z3 z4, Ow w D T h_k5 M0 z4 → k5 z0 z1 z2 z3 z4 → k5' z0 z1 z2 z3 z4) : Ow w D T h M0 M → w_Model_together_j61 this Q k5 v1 v2 v3 v5 M → w_Model_together_j61 this Q' k5' v1 v2 v3 v5 M := by
  intro hf
  unfold w_Model_together_j61
  exact (hk5 _ _ _ _ _  (Ow.dn lk5 hf))
set_option maxRecDepth 20000 in
theorem mo_w_Model_together_j59 {w : Nat} {D : Nat → Nat → Prop} {T : Nat → Prop} {h : Hot} {this : Nat} {Q Q' : Int64 → Mem → Prop} {h_Q : Hot} {k5 k5' : Int32 → Int32 → Int64 → Int32 → Mem → Prop} {h_k5 : Hot} {v1 : Int32} {v2 : Int32} {v5 : Int32} {s0 : Int64} {s1 : Int64} {M : Mem} {M0 : Mem} (hD : Dok w D)  (lQ : ∀ t, h_Q t = true → h t = true) (hQ : ∀ z0 z1, Ow w D T h_Q M0 z1 → Q z0 z1 → Q' z0 z1) (lk5 : ∀ t, h_k5 t = true → h t = true) (hk5 : ∀ z0 z1 z2 z3 z4, Ow w D T h_k5 M0 z4 → k5 z0 z1 z2 z3 z4 → k5' z0 z1 z2 z3 z4) : Ow w D T h M0 M → w_Model_together_j59 this Q k5 v1 v2 v5 s0 s1 M → w_Model_together_j59 this Q' k5' v1 v2 v5 s0 s1 M := by
  intro hf
  unfold w_Model_together_j59
  exact (mo_w_Model_together_j61 hD  lQ hQ lk5 hk5 hf)
set_option maxRecDepth 20000 in
theorem mo_w_Model_together_L5 {w : Nat} {D : Nat → Nat → Prop} {T : Nat → Prop} {h : Hot} {this : Nat} {Q Q' : Int64 → Mem → Prop} {h_Q : Hot} {M0 : Mem} (hD : Dok w D)  (lQ : ∀ t, h_Q t = true → h t = true) (hQ : ∀ z0 z1, Ow w D T h_Q M0 z1 → Q z0 z1 → Q' z0 z1) : ∀ (n : Nat) (v1 : Int32) (v2 : Int32) (v3 : Int64) (v5 : Int32) (M : Mem), Ow w D T h M0 M → w_Model_together_L5 this Q n v1 v2 v3 v5 M → w_Model_together_L5 this Q' n v1 v2 v3 v5 M
  | 0, _, _, _, _, _ => fun  _ h => h
  | n + 1, v1, v2, v3, v5, M => fun  hf => by
    unfold w_Model_together_L5
    exact (mf_ite (hQ _ _  (Ow.dn lQ hf)) (mf_ite (mo_w_Model_together_j61 hD  lQ hQ (fun _ e => e) (fun y0 y1 y2 y3 y4  hf => mo_w_Model_together_L5 hD  lQ hQ n y0 y1 y2 y3 y4  hf) hf) (mf_ite (mf_and fun _ => (mf_ite (mo_w_Model_together_j59 hD  lQ hQ (fun _ e => e) (fun y0 y1 y2 y3 y4  hf => mo_w_Model_together_L5 hD  lQ hQ n y0 y1 y2 y3 y4  hf) hf) (mf_and fun _ => (mo_w_Model_together_j59 hD  lQ hQ (fun _ e => e) (fun y0 y1 y2 y3 y4  hf => mo_w_Model_together_L5 hD  lQ hQ n y0 y1 y2 y3 y4  hf) hf)))) (mf_and fun _ => (mo_w_Model_together_j59 hD  lQ hQ (fun _ e => e) (fun y0 y1 y2 y3 y4  hf => mo_w_Model_together_L5 hD  lQ hQ n y0 y1 y2 y3 y4  hf) hf)))))
set_option maxRecDepth 20000 in
theorem mo_w_Model_together {w : Nat} {D : Nat → Nat → Prop} {T : Nat → Prop} {h : Hot} {this : Nat} {a1 : Int32} {a2 : Int32} {Q Q' : Int64 → Mem → Prop} {M : Mem} (hD : Dok w D)  (hQ : ∀ z0 z1, Ow w D T h M z1 → Q z0 z1 → Q' z0 z1) : St w D T h M → w_Model_together this a1 a2 Q M → w_Model_together this a1 a2 Q' M := by
  intro hs
  unfold w_Model_together
  exact (Exists.imp fun n8 => (mo_w_Model_together_L5 hD  (fun _ e => e) hQ _ _ _ _ _ _  (Ow.rf hs)))
set_option maxRecDepth 20000 in
theorem mo_w_Model_least_j187 {w : Nat} {D : Nat → Nat → Prop} {T : Nat → Prop} {h : Hot} {this : Nat} {Q Q' : Int32 → Mem → Prop} {h_Q : Hot} {X X' : Mem → Prop} {h_X : Hot} {k45 k45' : Int64 → Int64 → Int32 → Mem → Prop} {h_k45 : Hot} {v1 : Int64} {v3 : Int64} {v5 : Int32} {M : Mem} {M0 : Mem} (hD : Dok w D)  (lQ : ∀ t, h_Q t = true → h t = true) (hQ : ∀ z0 z1, Ow w D T h_Q M0 z1 → Q z0 z1 → Q' z0 z1) (lX : ∀ t, h_X t = true → h t = true) (hX : ∀ z0, Ow w D T h_X M0 z0 → X z0 → X' z0) (lk45 : ∀ t, h_k45 t = true → h t = true) (hk45 : ∀ z0 z1 z2 z3, Ow w D T h_k45 M0 z3 → k45 z0 z1 z2 z3 → k45' z0 z1 z2 z3) : Ow w D T h M0 M → w_Model_least_j187 this Q X k45 v1 v3 v5 M → w_Model_least_j187 this Q' X' k45' v1 v3 v5 M := by
  intro hf
  unfold w_Model_least_j187
  exact (hk45 _ _ _ _  (Ow.dn lk45 hf))
set_option maxRecDepth 20000 in
theorem mo_w_Model_least_L78 {w : Nat} {D : Nat → Nat → Prop} {T : Nat → Prop} {h : Hot} {this : Nat} {Q Q' : Int32 → Mem → Prop} {h_Q : Hot} {X X' : Mem → Prop} {h_X : Hot} {k45 k45' : Int64 → Int64 → Int32 → Mem → Prop} {h_k45 : Hot} {M0 : Mem} (hD : Dok w D) (n0 : ow w D 11 this) (lQ : ∀ t, h_Q t = true → h t = true) (hQ : ∀ z0 z1, Ow w D T h_Q M0 z1 → Q z0 z1 → Q' z0 z1) (lX : ∀ t, h_X t = true → h t = true) (hX : ∀ z0, Ow w D T h_X M0 z0 → X z0 → X' z0) (lk45 : ∀ t, h_k45 t = true → h t = true) (hk45 : ∀ z0 z1 z2 z3, Ow w D T h_k45 M0 z3 → k45 z0 z1 z2 z3 → k45' z0 z1 z2 z3) : ∀ (n : Nat) (v1 : Int64) (v3 : Int64) (v5 : Int32) (v6 : Int32) (M : Mem), Ow w D T h M0 M → w_Model_least_L78 this Q X k45 n v1 v3 v5 v6 M → w_Model_least_L78 this Q' X' k45' n v1 v3 v5 v6 M
  | 0, _, _, _, _, _ => fun  _ h => h
  | n + 1, v1, v3, v5, v6, M => fun  hf => by
    unfold w_Model_least_L78
    exact (mf_ite (have g1 : Ow w D T _ M0 (sI M 11 this 121 ((mI M 11 this 121) - (1 : Int32))) := (Ow.wI n0 hf); (mo_w_Model_least_j187 hD  lQ hQ lX hX lk45 hk45 g1)) (mf_and fun _ => (mf_and fun _ => (mf_and fun _ => (mf_and fun _ => (mf_and fun _ => (mf_and fun _ => (Exists.imp fun M15 => (mf_and fun e2 => (have g3 : Ow w D T _ M0 M15 := Ow.of e2 (Ow.wcp (ow0 rfl) hf); (mf_and fun _ => (mf_and fun _ => (Exists.imp fun M23 => (mf_and fun e4 => (have g5 : Ow w D T _ M0 M23 := Ow.of e4 (Ow.wI (ow0 rfl) g3); (mf_and fun _ => (mf_and fun _ => (Exists.imp fun M26 => (mf_and fun e6 => (have g7 : Ow w D T _ M0 M26 := Ow.of e6 (Ow.wI (ow0 rfl) g5); (mf_and fun _ => (mf_and fun _ => (Exists.imp fun M29 => (mf_and fun e8 => (have g9 : Ow w D T _ M0 M29 := Ow.of e8 (Ow.wI (ow0 rfl) g7); (mo_w_Model_least_L78 hD n0 lQ hQ lX hX lk45 hk45 _ _ _ _ _ _  g9))))))))))))))))))))))))))
set_option maxRecDepth 20000 in
theorem mo_w_Model_least_L45 {w : Nat} {D : Nat → Nat → Prop} {T : Nat → Prop} {h : Hot} {this : Nat} {Q Q' : Int32 → Mem → Prop} {h_Q : Hot} {X X' : Mem → Prop} {h_X : Hot} {M0 : Mem} (hD : Dok w D) (n0 : ow w D 11 this) (lQ : ∀ t, h_Q t = true → h t = true) (hQ : ∀ z0 z1, Ow w D T h_Q M0 z1 → Q z0 z1 → Q' z0 z1) (lX : ∀ t, h_X t = true → h t = true) (hX : ∀ z0, Ow w D T h_X M0 z0 → X z0 → X' z0) : ∀ (n : Nat) (v1 : Int64) (v3 : Int64) (v5 : Int32) (M : Mem), Ow w D T h M0 M → w_Model_least_L45 this Q X n v1 v3 v5 M → w_Model_least_L45 this Q' X' n v1 v3 v5 M
  | 0, _, _, _, _ => fun  _ h => h
  | n + 1, v1, v3, v5, M => fun  hf => by
    unfold w_Model_least_L45
    exact (mf_ite (hQ _ _  (Ow.dn lQ hf)) (mo_w_Model_together hD  (fun r8 M7 f1 => (have g2 : Ow w D T _ M0 M7 := (Ow.trans hf f1); (mf_ite (mo_w_Model_together hD  (fun r11 M10 f3 => (have g4 : Ow w D T _ M0 M10 := (Ow.trans g2 f3); (mf_ite (Exists.imp fun n30 => (mo_w_Model_least_L78 hD n0 lQ hQ lX hX (fun _ e => e) (fun y0 y1 y2 y3  hf => mo_w_Model_least_L45 hD n0 lQ hQ lX hX n y0 y1 y2 y3  hf) _ _ _ _ _ _  g4)) (mo_w_Model_least_j187 hD  lQ hQ lX hX (fun _ e => e) (fun y0 y1 y2 y3  hf => mo_w_Model_least_L45 hD n0 lQ hQ lX hX n y0 y1 y2 y3  hf) g4)))) g2.1) (mo_w_Model_least_j187 hD  lQ hQ lX hX (fun _ e => e) (fun y0 y1 y2 y3  hf => mo_w_Model_least_L45 hD n0 lQ hQ lX hX n y0 y1 y2 y3  hf) g2)))) hf.1))
set_option maxRecDepth 20000 in
theorem mo_w_Model_least_L2 {w : Nat} {D : Nat → Nat → Prop} {T : Nat → Prop} {h : Hot} {this : Nat} {Q Q' : Int32 → Mem → Prop} {h_Q : Hot} {X X' : Mem → Prop} {h_X : Hot} {M0 : Mem} (hD : Dok w D) (n0 : ow w D 11 this) (n1 : T (1000 + ((3 : Int32).toNatClampNeg))) (lQ : ∀ t, h_Q t = true → h t = true) (hQ : ∀ z0 z1, Ow w D T h_Q M0 z1 → Q z0 z1 → Q' z0 z1) (lX : ∀ t, h_X t = true → h t = true) (hX : ∀ z0, Ow w D T h_X M0 z0 → X z0 → X' z0) : ∀ (n : Nat) (v1 : Int32) (M : Mem), Ow w D T h M0 M → w_Model_least_L2 this Q X n v1 M → w_Model_least_L2 this Q' X' n v1 M
  | 0, _, _ => fun  _ h => h
  | n + 1, v1, M => fun  hf => by
    unfold w_Model_least_L2
    exact (mf_ite (mo_w_Model_together hD  (fun r3 M2 f1 => (have g2 : Ow w D T _ M0 M2 := (Ow.trans hf f1); (mo_w_Model_together hD  (fun r5 M4 f3 => (have g4 : Ow w D T _ M0 M4 := (Ow.trans g2 f3); (Exists.imp fun n31 => (mo_w_Model_least_L45 hD n0 lQ hQ lX hX _ _ _ _ _  g4)))) g2.1))) hf.1) (mo_w_Model_look hD n0 n1 (fun M32 f5 => (have g6 : Ow w D T _ M0 M32 := (Ow.trans hf f5); (mo_w_Model_least_L2 hD n0 n1 lQ hQ lX hX _ _ _  g6))) (fun z8 f7 => hX z8 (Ow.dn lX (Ow.trans hf f7))) hf.1))
set_option maxRecDepth 20000 in
theorem mo_w_Model_least {w : Nat} {D : Nat → Nat → Prop} {T : Nat → Prop} {h : Hot} {this : Nat} {Q Q' : Int32 → Mem → Prop} {X X' : Mem → Prop} {M : Mem} (hD : Dok w D) (n0 : ow w D 11 this) (n1 : T (1000 + ((3 : Int32).toNatClampNeg))) (hQ : ∀ z0 z1, Ow w D T h M z1 → Q z0 z1 → Q' z0 z1) (hX : ∀ z0, Ow w D T h M z0 → X z0 → X' z0) : St w D T h M → w_Model_least this Q X M → w_Model_least this Q' X' M := by
  intro hs
  unfold w_Model_least
  exact (Exists.imp fun n33 => (mo_w_Model_least_L2 hD n0 n1 (fun _ e => e) hQ (fun _ e => e) hX _ _ _  (Ow.rf hs)))
set_option maxRecDepth 20000 in
theorem mo_w_Model_addTrial_L18 {w : Nat} {D : Nat → Nat → Prop} {T : Nat → Prop} {h : Hot} {this : Nat} {Q Q' : Mem → Prop} {h_Q : Hot} {M0 : Mem} (hD : Dok w D)  (lQ : ∀ t, h_Q t = true → h t = true) (hQ : ∀ z0, Ow w D T h_Q M0 z0 → Q z0 → Q' z0) : ∀ (n : Nat) (v1 : Int32) (v2 : Int32) (M : Mem), Ow w D T h M0 M → w_Model_addTrial_L18 this Q n v1 v2 M → w_Model_addTrial_L18 this Q' n v1 v2 M
  | 0, _, _, _ => fun  _ h => h
  | n + 1, v1, v2, M => fun  hf => by
    unfold w_Model_addTrial_L18
    exact (mf_ite (mf_and fun _ => (mf_and fun _ => (mf_and fun _ => (mf_and fun _ => (mf_and fun _ => (Exists.imp fun M8 => (mf_and fun e1 => (have g2 : Ow w D T _ M0 M8 := Ow.of e1 (Ow.wcp (ow0 rfl) hf); (hQ _  (Ow.dn lQ g2)))))))))) (mf_and fun _ => (mf_and fun _ => (mf_and fun _ => (mo_w_JMath_min hD  (fun r18 M17 f3 => (have g4 : Ow w D T _ M0 M17 := (Ow.trans hf f3); (mo_w_JMath_min hD  (fun r20 M19 f5 => (have g6 : Ow w D T _ M0 M19 := (Ow.trans g4 f5); (mf_and fun _ => (have g7 : Ow w D T _ M0 (sI M19 128 this (v2 ||| v1).toNatClampNeg r20) := (Ow.wI (ow0 rfl) g6); (mo_w_Model_addTrial_L18 hD  lQ hQ _ _ _ _  g7))))) g4.1))) hf.1)))))
set_option maxRecDepth 20000 in
theorem mo_w_Model_addTrial {w : Nat} {D : Nat → Nat → Prop} {T : Nat → Prop} {h : Hot} {this : Nat} {a1 : Int32} {Q Q' : Mem → Prop} {M : Mem} (hD : Dok w D)  (hQ : ∀ z0, Ow w D T h M z0 → Q z0 → Q' z0) : St w D T h M → w_Model_addTrial this a1 Q M → w_Model_addTrial this a1 Q' M := by
  intro hs
  unfold w_Model_addTrial
  exact (mf_and fun _ => (mf_and fun _ => (mf_and fun _ => (mf_and fun _ => (mf_and fun _ => (Exists.imp fun M1 => (mf_and fun e1 => (have g2 : Ow w D T _ M M1 := Ow.of e1 (Ow.wcp (ow0 rfl) (Ow.rf hs)); (Exists.imp fun n22 => (mo_w_Model_addTrial_L18 hD  (fun _ e => e) hQ _ _ _ _  g2))))))))))
set_option maxRecDepth 20000 in
theorem mo_w_Model_fewest_j214 {w : Nat} {D : Nat → Nat → Prop} {T : Nat → Prop} {h : Hot} {this : Nat} {Q Q' : Int32 → Mem → Prop} {h_Q : Hot} {X X' : Mem → Prop} {h_X : Hot} {k64 k64' : Int32 → Int32 → Mem → Prop} {h_k64 : Hot} {v1 : Int32} {v2 : Int32} {M : Mem} {M0 : Mem} (hD : Dok w D)  (lQ : ∀ t, h_Q t = true → h t = true) (hQ : ∀ z0 z1, Ow w D T h_Q M0 z1 → Q z0 z1 → Q' z0 z1) (lX : ∀ t, h_X t = true → h t = true) (hX : ∀ z0, Ow w D T h_X M0 z0 → X z0 → X' z0) (lk64 : ∀ t, h_k64 t = true → h t = true) (hk64 : ∀ z0 z1 z2, Ow w D T h_k64 M0 z2 → k64 z0 z1 z2 → k64' z0 z1 z2) : Ow w D T h M0 M → w_Model_fewest_j214 this Q X k64 v1 v2 M → w_Model_fewest_j214 this Q' X' k64' v1 v2 M := by
  intro hf
  unfold w_Model_fewest_j214
  exact (hk64 _ _ _  (Ow.dn lk64 hf))
set_option maxRecDepth 20000 in
theorem mo_w_Model_fewest_j207 {w : Nat} {D : Nat → Nat → Prop} {T : Nat → Prop} {h : Hot} {this : Nat} {Q Q' : Int32 → Mem → Prop} {h_Q : Hot} {X X' : Mem → Prop} {h_X : Hot} {k64 k64' : Int32 → Int32 → Mem → Prop} {h_k64 : Hot} {k158 k158' : Int32 → Int32 → Int32 → Int32 → Mem → Prop} {h_k158 : Hot} {v1 : Int32} {v2 : Int32} {v3 : Int32} {v4 : Int32} {s0 : Int32} {s1 : Int32} {M : Mem} {M0 : Mem} (hD : Dok w D)  (lQ : ∀ t, h_Q t = true → h t = true) (hQ : ∀ z0 z1, Ow w D T h_Q M0 z1 → Q z0 z1 → Q' z0 z1) (lX : ∀ t, h_X t = true → h t = true) (hX : ∀ z0, Ow w D T h_X M0 z0 → X z0 → X' z0) (lk64 : ∀ t, h_k64 t = true → h t = true) (hk64 : ∀ z0 z1 z2, Ow w D T h_k64 M0 z2 → k64 z0 z1 z2 → k64' z0 z1 z2) (lk158 : ∀ t, h_k158 t = true → h t = true) (hk158 : ∀ z0 z1 z2 z3 z4, Ow w D T h_k158 M0 z4 → k158 z0 z1 z2 z3 z4 → k158' z0 z1 z2 z3 z4) : Ow w D T h M0 M → w_Model_fewest_j207 this Q X k64 k158 v1 v2 v3 v4 s0 s1 M → w_Model_fewest_j207 this Q' X' k64' k158' v1 v2 v3 v4 s0 s1 M := by
  intro hf
  unfold w_Model_fewest_j207
  exact (mf_and fun _ => (hk158 _ _ _ _ _  (Ow.dn lk158 (Ow.wI (ow0 rfl) hf))))
set_option maxRecDepth 20000 in
theorem mo_w_Model_fewest_L158 {w : Nat} {D : Nat → Nat → Prop} {T : Nat → Prop} {h : Hot} {this : Nat} {Q Q' : Int32 → Mem → Prop} {h_Q : Hot} {X X' : Mem → Prop} {h_X : Hot} {k64 k64' : Int32 → Int32 → Mem → Prop} {h_k64 : Hot} {M0 : Mem} (hD : Dok w D)  (lQ : ∀ t, h_Q t = true → h t = true) (hQ : ∀ z0 z1, Ow w D T h_Q M0 z1 → Q z0 z1 → Q' z0 z1) (lX : ∀ t, h_X t = true → h t = true) (hX : ∀ z0, Ow w D T h_X M0 z0 → X z0 → X' z0) (lk64 : ∀ t, h_k64 t = true → h t = true) (hk64 : ∀ z0 z1 z2, Ow w D T h_k64 M0 z2 → k64 z0 z1 z2 → k64' z0 z1 z2) : ∀ (n : Nat) (v1 : Int32) (v2 : Int32) (v3 : Int32) (v4 : Int32) (M : Mem), Ow w D T h M0 M → w_Model_fewest_L158 this Q X k64 n v1 v2 v3 v4 M → w_Model_fewest_L158 this Q' X' k64' n v1 v2 v3 v4 M
  | 0, _, _, _, _, _ => fun  _ h => h
  | n + 1, v1, v2, v3, v4, M => fun  hf => by
    unfold w_Model_fewest_L158
    exact (mf_ite (mo_w_Model_fewest_j214 hD  lQ hQ lX hX lk64 hk64 hf) (mf_ite (mo_w_Model_fewest_j214 hD  lQ hQ lX hX lk64 hk64 hf) (mf_ite (mf_and fun _ => (mf_and fun _ => (mo_w_JMath_min hD  (fun r15 M14 f1 => (have g2 : Ow w D T _ M0 M14 := (Ow.trans hf f1); (mo_w_Model_fewest_j207 hD  lQ hQ lX hX lk64 hk64 (fun _ e => e) (fun y0 y1 y2 y3 y4  hf => mo_w_Model_fewest_L158 hD  lQ hQ lX hX lk64 hk64 n y0 y1 y2 y3 y4  hf) g2))) hf.1))) (mf_and fun _ => (mo_w_Model_fewest_j207 hD  lQ hQ lX hX lk64 hk64 (fun _ e => e) (fun y0 y1 y2 y3 y4  hf => mo_w_Model_fewest_L158 hD  lQ hQ lX hX lk64 hk64 n y0 y1 y2 y3 y4  hf) hf)))))
set_option maxRecDepth 20000 in
theorem mo_w_Model_fewest_j149 {w : Nat} {D : Nat → Nat → Prop} {T : Nat → Prop} {h : Hot} {this : Nat} {Q Q' : Int32 → Mem → Prop} {h_Q : Hot} {X X' : Mem → Prop} {h_X : Hot} {k64 k64' : Int32 → Int32 → Mem → Prop} {h_k64 : Hot} {k116 k116' : Int32 → Int32 → Int32 → Int32 → Mem → Prop} {h_k116 : Hot} {v1 : Int32} {v2 : Int32} {v3 : Int32} {v4 : Int32} {M : Mem} {M0 : Mem} (hD : Dok w D)  (lQ : ∀ t, h_Q t = true → h t = true) (hQ : ∀ z0 z1, Ow w D T h_Q M0 z1 → Q z0 z1 → Q' z0 z1) (lX : ∀ t, h_X t = true → h t = true) (hX : ∀ z0, Ow w D T h_X M0 z0 → X z0 → X' z0) (lk64 : ∀ t, h_k64 t = true → h t = true) (hk64 : ∀ z0 z1 z2, Ow w D T h_k64 M0 z2 → k64 z0 z1 z2 → k64' z0 z1 z2) (lk116 : ∀ t, h_k116 t = true → h t = true) (hk116 : ∀ z0 z1 z2 z3 z4, Ow w D T h_k116 M0 z4 → k116 z0 z1 z2 z3 z4 → k116' z0 z1 z2 z3 z4) : Ow w D T h M0 M → w_Model_fewest_j149 this Q X k64 k116 v1 v2 v3 v4 M → w_Model_fewest_j149 this Q' X' k64' k116' v1 v2 v3 v4 M := by
  intro hf
  unfold w_Model_fewest_j149
  exact (hk116 _ _ _ _ _  (Ow.dn lk116 hf))
set_option maxRecDepth 20000 in
theorem mo_w_Model_fewest_L116 {w : Nat} {D : Nat → Nat → Prop} {T : Nat → Prop} {h : Hot} {this : Nat} {Q Q' : Int32 → Mem → Prop} {h_Q : Hot} {X X' : Mem → Prop} {h_X : Hot} {k64 k64' : Int32 → Int32 → Mem → Prop} {h_k64 : Hot} {M0 : Mem} (hD : Dok w D)  (lQ : ∀ t, h_Q t = true → h t = true) (hQ : ∀ z0 z1, Ow w D T h_Q M0 z1 → Q z0 z1 → Q' z0 z1) (lX : ∀ t, h_X t = true → h t = true) (hX : ∀ z0, Ow w D T h_X M0 z0 → X z0 → X' z0) (lk64 : ∀ t, h_k64 t = true → h t = true) (hk64 : ∀ z0 z1 z2, Ow w D T h_k64 M0 z2 → k64 z0 z1 z2 → k64' z0 z1 z2) : ∀ (n : Nat) (v1 : Int32) (v2 : Int32) (v3 : Int32) (v4 : Int32) (M : Mem), Ow w D T h M0 M → w_Model_fewest_L116 this Q X k64 n v1 v2 v3 v4 M → w_Model_fewest_L116 this Q' X' k64' n v1 v2 v3 v4 M
  | 0, _, _, _, _, _ => fun  _ h => h
  | n + 1, v1, v2, v3, v4, M => fun  hf => by
    unfold w_Model_fewest_L116
    exact (mf_ite (Exists.imp fun n18 => (mo_w_Model_fewest_L158 hD  lQ hQ lX hX lk64 hk64 _ _ _ _ _ _  hf)) (mf_and fun _ => (mf_ite (mf_and fun _ => (mo_w_Model_addTrial hD  (fun M22 f1 => (have g2 : Ow w D T _ M0 M22 := (Ow.trans hf f1); (mo_w_Model_fewest_j149 hD  lQ hQ lX hX lk64 hk64 (fun _ e => e) (fun y0 y1 y2 y3 y4  hf => mo_w_Model_fewest_L116 hD  lQ hQ lX hX lk64 hk64 n y0 y1 y2 y3 y4  hf) g2))) hf.1)) (mo_w_Model_fewest_j149 hD  lQ hQ lX hX lk64 hk64 (fun _ e => e) (fun y0 y1 y2 y3 y4  hf => mo_w_Model_fewest_L116 hD  lQ hQ lX hX lk64 hk64 n y0 y1 y2 y3 y4  hf) hf))))
set_option maxRecDepth 20000 in
theorem mo_w_Model_fewest_L75 {w : Nat} {D : Nat → Nat → Prop} {T : Nat → Prop} {h : Hot} {this : Nat} {Q Q' : Int32 → Mem → Prop} {h_Q : Hot} {X X' : Mem → Prop} {h_X : Hot} {k64 k64' : Int32 → Int32 → Mem → Prop} {h_k64 : Hot} {M0 : Mem} (hD : Dok w D)  (lQ : ∀ t, h_Q t = true → h t = true) (hQ : ∀ z0 z1, Ow w D T h_Q M0 z1 → Q z0 z1 → Q' z0 z1) (lX : ∀ t, h_X t = true → h t = true) (hX : ∀ z0, Ow w D T h_X M0 z0 → X z0 → X' z0) (lk64 : ∀ t, h_k64 t = true → h t = true) (hk64 : ∀ z0 z1 z2, Ow w D T h_k64 M0 z2 → k64 z0 z1 z2 → k64' z0 z1 z2) : ∀ (n : Nat) (v1 : Int32) (v2 : Int32) (v3 : Int32) (v4 : Int32) (M : Mem), Ow w D T h M0 M → w_Model_fewest_L75 this Q X k64 n v1 v2 v3 v4 M → w_Model_fewest_L75 this Q' X' k64' n v1 v2 v3 v4 M
  | 0, _, _, _, _, _ => fun  _ h => h
  | n + 1, v1, v2, v3, v4, M => fun  hf => by
    unfold w_Model_fewest_L75
    exact (mf_ite (Exists.imp fun n23 => (mo_w_Model_fewest_L116 hD  lQ hQ lX hX lk64 hk64 _ _ _ _ _ _  hf)) (mf_and fun _ => (mf_and fun _ => (mf_and fun _ => (Exists.imp fun M27 => (mf_and fun e1 => (have g2 : Ow w D T _ M0 M27 := Ow.of e1 (Ow.wI (ow0 rfl) (Ow.wI (ow0 rfl) hf)); (mo_w_Model_fewest_L75 hD  lQ hQ lX hX lk64 hk64 _ _ _ _ _ _  g2))))))))
set_option maxRecDepth 20000 in
theorem mo_w_Model_fewest_L64 {w : Nat} {D : Nat → Nat → Prop} {T : Nat → Prop} {h : Hot} {this : Nat} {Q Q' : Int32 → Mem → Prop} {h_Q : Hot} {X X' : Mem → Prop} {h_X : Hot} {M0 : Mem} (hD : Dok w D)  (lQ : ∀ t, h_Q t = true → h t = true) (hQ : ∀ z0 z1, Ow w D T h_Q M0 z1 → Q z0 z1 → Q' z0 z1) (lX : ∀ t, h_X t = true → h t = true) (hX : ∀ z0, Ow w D T h_X M0 z0 → X z0 → X' z0) : ∀ (n : Nat) (v1 : Int32) (v2 : Int32) (M : Mem), Ow w D T h M0 M → w_Model_fewest_L64 this Q X n v1 v2 M → w_Model_fewest_L64 this Q' X' n v1 v2 M
  | 0, _, _, _ => fun  _ h => h
  | n + 1, v1, v2, M => fun  hf => by
    unfold w_Model_fewest_L64
    exact (mf_ite (mf_and fun _ => (hQ _ _  (Ow.dn lQ hf))) (Exists.imp fun n28 => (mo_w_Model_fewest_L75 hD  lQ hQ lX hX (fun _ e => e) (fun y0 y1 y2  hf => mo_w_Model_fewest_L64 hD  lQ hQ lX hX n y0 y1 y2  hf) _ _ _ _ _ _  hf)))
set_option maxRecDepth 20000 in
theorem mo_w_Model_fewest_j55 {w : Nat} {D : Nat → Nat → Prop} {T : Nat → Prop} {h : Hot} {this : Nat} {Q Q' : Int32 → Mem → Prop} {h_Q : Hot} {X X' : Mem → Prop} {h_X : Hot} {k32 k32' : Int32 → Int32 → Mem → Prop} {h_k32 : Hot} {v1 : Int32} {v2 : Int32} {s0 : Int32} {s1 : Int32} {M : Mem} {M0 : Mem} (hD : Dok w D)  (lQ : ∀ t, h_Q t = true → h t = true) (hQ : ∀ z0 z1, Ow w D T h_Q M0 z1 → Q z0 z1 → Q' z0 z1) (lX : ∀ t, h_X t = true → h t = true) (hX : ∀ z0, Ow w D T h_X M0 z0 → X z0 → X' z0) (lk32 : ∀ t, h_k32 t = true → h t = true) (hk32 : ∀ z0 z1 z2, Ow w D T h_k32 M0 z2 → k32 z0 z1 z2 → k32' z0 z1 z2) : Ow w D T h M0 M → w_Model_fewest_j55 this Q X k32 v1 v2 s0 s1 M → w_Model_fewest_j55 this Q' X' k32' v1 v2 s0 s1 M := by
  intro hf
  unfold w_Model_fewest_j55
  exact (mf_and fun _ => (hk32 _ _ _  (Ow.dn lk32 (Ow.wI (ow0 rfl) hf))))
set_option maxRecDepth 20000 in
theorem mo_w_Model_fewest_L32 {w : Nat} {D : Nat → Nat → Prop} {T : Nat → Prop} {h : Hot} {this : Nat} {Q Q' : Int32 → Mem → Prop} {h_Q : Hot} {X X' : Mem → Prop} {h_X : Hot} {M0 : Mem} (hD : Dok w D)  (lQ : ∀ t, h_Q t = true → h t = true) (hQ : ∀ z0 z1, Ow w D T h_Q M0 z1 → Q z0 z1 → Q' z0 z1) (lX : ∀ t, h_X t = true → h t = true) (hX : ∀ z0, Ow w D T h_X M0 z0 → X z0 → X' z0) : ∀ (n : Nat) (v1 : Int32) (v2 : Int32) (M : Mem), Ow w D T h M0 M → w_Model_fewest_L32 this Q X n v1 v2 M → w_Model_fewest_L32 this Q' X' n v1 v2 M
  | 0, _, _, _ => fun  _ h => h
  | n + 1, v1, v2, M => fun  hf => by
    unfold w_Model_fewest_L32
    exact (mf_ite (Exists.imp fun n29 => (mo_w_Model_fewest_L64 hD  lQ hQ lX hX _ _ _ _  hf)) (mf_ite (mo_w_Model_fewest_j55 hD  lQ hQ lX hX (fun _ e => e) (fun y0 y1 y2  hf => mo_w_Model_fewest_L32 hD  lQ hQ lX hX n y0 y1 y2  hf) hf) (mo_w_Model_fewest_j55 hD  lQ hQ lX hX (fun _ e => e) (fun y0 y1 y2  hf => mo_w_Model_fewest_L32 hD  lQ hQ lX hX n y0 y1 y2  hf) hf)))
set_option maxRecDepth 20000 in
theorem mo_w_Model_fewest_L2 {w : Nat} {D : Nat → Nat → Prop} {T : Nat → Prop} {h : Hot} {this : Nat} {Q Q' : Int32 → Mem → Prop} {h_Q : Hot} {X X' : Mem → Prop} {h_X : Hot} {M0 : Mem} (hD : Dok w D) (n0 : ow w D 11 this) (n1 : T (1000 + ((3 : Int32).toNatClampNeg))) (lQ : ∀ t, h_Q t = true → h t = true) (hQ : ∀ z0 z1, Ow w D T h_Q M0 z1 → Q z0 z1 → Q' z0 z1) (lX : ∀ t, h_X t = true → h t = true) (hX : ∀ z0, Ow w D T h_X M0 z0 → X z0 → X' z0) : ∀ (n : Nat) (v1 : Int32) (M : Mem), Ow w D T h M0 M → w_Model_fewest_L2 this Q X n v1 M → w_Model_fewest_L2 this Q' X' n v1 M
  | 0, _, _ => fun  _ h => h
  | n + 1, v1, M => fun  hf => by
    unfold w_Model_fewest_L2
    exact (mf_ite (mo_w_Model_together hD  (fun r3 M2 f1 => (have g2 : Ow w D T _ M0 M2 := (Ow.trans hf f1); (Exists.imp fun n32 => (mo_w_Model_fewest_L32 hD  lQ hQ lX hX _ _ _ _  g2)))) hf.1) (mo_w_Model_look hD n0 n1 (fun M33 f3 => (have g4 : Ow w D T _ M0 M33 := (Ow.trans hf f3); (mo_w_Model_fewest_L2 hD n0 n1 lQ hQ lX hX _ _ _  g4))) (fun z6 f5 => hX z6 (Ow.dn lX (Ow.trans hf f5))) hf.1))
set_option maxRecDepth 20000 in
theorem mo_w_Model_fewest {w : Nat} {D : Nat → Nat → Prop} {T : Nat → Prop} {h : Hot} {this : Nat} {Q Q' : Int32 → Mem → Prop} {X X' : Mem → Prop} {M : Mem} (hD : Dok w D) (n0 : ow w D 11 this) (n1 : T (1000 + ((3 : Int32).toNatClampNeg))) (hQ : ∀ z0 z1, Ow w D T h M z1 → Q z0 z1 → Q' z0 z1) (hX : ∀ z0, Ow w D T h M z0 → X z0 → X' z0) : St w D T h M → w_Model_fewest this Q X M → w_Model_fewest this Q' X' M := by
  intro hs
  unfold w_Model_fewest
  exact (Exists.imp fun n34 => (mo_w_Model_fewest_L2 hD n0 n1 (fun _ e => e) hQ (fun _ e => e) hX _ _ _  (Ow.rf hs)))
set_option maxRecDepth 20000 in
theorem mo_w_Model_linesOf_j50 {w : Nat} {D : Nat → Nat → Prop} {T : Nat → Prop} {h : Hot} {this : Nat} {Q Q' : Int32 → Mem → Prop} {h_Q : Hot} {k11 k11' : Int32 → Int32 → Int32 → Mem → Prop} {h_k11 : Hot} {v1 : Int32} {v2 : Int32} {v3 : Int32} {M : Mem} {M0 : Mem} (hD : Dok w D)  (lQ : ∀ t, h_Q t = true → h t = true) (hQ : ∀ z0 z1, Ow w D T h_Q M0 z1 → Q z0 z1 → Q' z0 z1) (lk11 : ∀ t, h_k11 t = true → h t = true) (hk11 : ∀ z0 z1 z2 z3, Ow w D T h_k11 M0 z3 → k11 z0 z1 z2 z3 → k11' z0 z1 z2 z3) : Ow w D T h M0 M → w_Model_linesOf_j50 this Q k11 v1 v2 v3 M → w_Model_linesOf_j50 this Q' k11' v1 v2 v3 M := by
  intro hf
  unfold w_Model_linesOf_j50
  exact (hk11 _ _ _ _  (Ow.dn lk11 hf))
set_option maxRecDepth 20000 in
theorem mo_w_Model_linesOf_L11 {w : Nat} {D : Nat → Nat → Prop} {T : Nat → Prop} {h : Hot} {this : Nat} {Q Q' : Int32 → Mem → Prop} {h_Q : Hot} {M0 : Mem} (hD : Dok w D)  (lQ : ∀ t, h_Q t = true → h t = true) (hQ : ∀ z0 z1, Ow w D T h_Q M0 z1 → Q z0 z1 → Q' z0 z1) : ∀ (n : Nat) (v1 : Int32) (v2 : Int32) (v3 : Int32) (M : Mem), Ow w D T h M0 M → w_Model_linesOf_L11 this Q n v1 v2 v3 M → w_Model_linesOf_L11 this Q' n v1 v2 v3 M
  | 0, _, _, _, _ => fun  _ h => h
  | n + 1, v1, v2, v3, M => fun  hf => by
    unfold w_Model_linesOf_L11
    exact (mf_and fun _ => (mf_ite (hQ _ _  (Ow.dn lQ hf)) (mf_and fun _ => (mf_ite (mf_and fun _ => (have g1 : Ow w D T _ M0 (sI M 129 this (v2 + (1 : Int32)).toNatClampNeg (v3 + (1 : Int32))) := (Ow.wI (ow0 rfl) hf); (mo_w_Model_linesOf_j50 hD  lQ hQ (fun _ e => e) (fun y0 y1 y2 y3  hf => mo_w_Model_linesOf_L11 hD  lQ hQ n y0 y1 y2 y3  hf) g1))) (mo_w_Model_linesOf_j50 hD  lQ hQ (fun _ e => e) (fun y0 y1 y2 y3  hf => mo_w_Model_linesOf_L11 hD  lQ hQ n y0 y1 y2 y3  hf) hf)))))
set_option maxRecDepth 20000 in
theorem mo_w_Model_linesOf {w : Nat} {D : Nat → Nat → Prop} {T : Nat → Prop} {h : Hot} {this : Nat} {a1 : Int32} {Q Q' : Int32 → Mem → Prop} {M : Mem} (hD : Dok w D)  (hQ : ∀ z0 z1, Ow w D T h M z1 → Q z0 z1 → Q' z0 z1) : St w D T h M → w_Model_linesOf this a1 Q M → w_Model_linesOf this a1 Q' M := by
  intro hs
  unfold w_Model_linesOf
  exact (mf_and fun _ => (Exists.imp fun n7 => (have g1 : Ow w D T _ M (sI M 129 this (0 : Int32).toNatClampNeg (0 : Int32)) := (Ow.wI (ow0 rfl) (Ow.rf hs)); (mo_w_Model_linesOf_L11 hD  (fun _ e => e) hQ _ _ _ _ _  g1))))
set_option maxRecDepth 20000 in
theorem mo_w_Model_draftLine {w : Nat} {D : Nat → Nat → Prop} {T : Nat → Prop} {h : Hot} {this : Nat} {a1 : Int32} {a2 : Int32} {Q Q' : Mem → Prop} {M : Mem} (hD : Dok w D) (n0 : ow w D 11 this) (hQ : ∀ z0, Ow w D T h M z0 → Q z0 → Q' z0) : St w D T h M → w_Model_draftLine this a1 a2 Q M → w_Model_draftLine this a1 a2 Q' M := by
  intro hs
  unfold w_Model_draftLine
  exact (mf_and fun _ => (mf_and fun _ => (Exists.imp fun x3 => (mf_and fun _ => (mf_and fun _ => (mf_and fun _ => (mf_and fun _ => (mf_and fun _ => (mf_and fun _ => (mf_and fun _ => (Exists.imp fun M5 => (mf_and fun e1 => (have g2 : Ow w D T _ M M5 := Ow.of e1 (Ow.wcp (ow0 rfl) (Ow.rf hs)); (hQ _  (Ow.wI n0 g2)))))))))))))))
set_option maxRecDepth 20000 in
theorem mo_w_Model_shrink_j215 {w : Nat} {D : Nat → Nat → Prop} {T : Nat → Prop} {h : Hot} {this : Nat} {Q Q' : Int32 → Mem → Prop} {h_Q : Hot} {X X' : Mem → Prop} {h_X : Hot} {k68 k68' : Int32 → Int32 → Int32 → Int32 → Int32 → Int32 → Int32 → Mem → Prop} {h_k68 : Hot} {v1 : Int32} {v2 : Int32} {v3 : Int32} {v4 : Int32} {v5 : Int32} {v6 : Int32} {v7 : Int32} {M : Mem} {M0 : Mem} (hD : Dok w D)  (lQ : ∀ t, h_Q t = true → h t = true) (hQ : ∀ z0 z1, Ow w D T h_Q M0 z1 → Q z0 z1 → Q' z0 z1) (lX : ∀ t, h_X t = true → h t = true) (hX : ∀ z0, Ow w D T h_X M0 z0 → X z0 → X' z0) (lk68 : ∀ t, h_k68 t = true → h t = true) (hk68 : ∀ z0 z1 z2 z3 z4 z5 z6 z7, Ow w D T h_k68 M0 z7 → k68 z0 z1 z2 z3 z4 z5 z6 z7 → k68' z0 z1 z2 z3 z4 z5 z6 z7) : Ow w D T h M0 M → w_Model_shrink_j215 this Q X k68 v1 v2 v3 v4 v5 v6 v7 M → w_Model_shrink_j215 this Q' X' k68' v1 v2 v3 v4 v5 v6 v7 M := by
  intro hf
  unfold w_Model_shrink_j215
  exact (hk68 _ _ _ _ _ _ _ _  (Ow.dn lk68 hf))
set_option maxRecDepth 20000 in
theorem mo_w_Model_shrink_j179 {w : Nat} {D : Nat → Nat → Prop} {T : Nat → Prop} {h : Hot} {this : Nat} {Q Q' : Int32 → Mem → Prop} {h_Q : Hot} {X X' : Mem → Prop} {h_X : Hot} {k68 k68' : Int32 → Int32 → Int32 → Int32 → Int32 → Int32 → Int32 → Mem → Prop} {h_k68 : Hot} {v1 : Int32} {v2 : Int32} {v3 : Int32} {v4 : Int32} {v5 : Int32} {v6 : Int32} {v7 : Int32} {v9 : Int32} {M : Mem} {M0 : Mem} (hD : Dok w D)  (lQ : ∀ t, h_Q t = true → h t = true) (hQ : ∀ z0 z1, Ow w D T h_Q M0 z1 → Q z0 z1 → Q' z0 z1) (lX : ∀ t, h_X t = true → h t = true) (hX : ∀ z0, Ow w D T h_X M0 z0 → X z0 → X' z0) (lk68 : ∀ t, h_k68 t = true → h t = true) (hk68 : ∀ z0 z1 z2 z3 z4 z5 z6 z7, Ow w D T h_k68 M0 z7 → k68 z0 z1 z2 z3 z4 z5 z6 z7 → k68' z0 z1 z2 z3 z4 z5 z6 z7) : Ow w D T h M0 M → w_Model_shrink_j179 this Q X k68 v1 v2 v3 v4 v5 v6 v7 v9 M → w_Model_shrink_j179 this Q' X' k68' v1 v2 v3 v4 v5 v6 v7 v9 M := by
  intro hf
  unfold w_Model_shrink_j179
  exact (mf_ite (mo_w_Model_shrink_j215 hD  lQ hQ lX hX lk68 hk68 hf) (mf_and fun _ => (mf_and fun _ => (mf_and fun _ => (mf_and fun _ => (mf_and fun _ => (Exists.imp fun M23 => (mf_and fun e1 => (have g2 : Ow w D T _ M0 M23 := Ow.of e1 (Ow.wcp (ow0 rfl) hf); (mf_and fun _ => (have g3 : Ow w D T _ M0 (sI M23 122 this v1.toNatClampNeg (mI M23 11 this 123)) := (Ow.wI (ow0 rfl) g2); (mo_w_Model_shrink_j215 hD  lQ hQ lX hX lk68 hk68 g3))))))))))))
set_option maxRecDepth 20000 in
theorem mo_w_Model_shrink_j177 {w : Nat} {D : Nat → Nat → Prop} {T : Nat → Prop} {h : Hot} {this : Nat} {Q Q' : Int32 → Mem → Prop} {h_Q : Hot} {X X' : Mem → Prop} {h_X : Hot} {k68 k68' : Int32 → Int32 → Int32 → Int32 → Int32 → Int32 → Int32 → Mem → Prop} {h_k68 : Hot} {v1 : Int32} {v2 : Int32} {v3 : Int32} {v4 : Int32} {v5 : Int32} {v6 : Int32} {v7 : Int32} {s0 : Int32} {M : Mem} {M0 : Mem} (hD : Dok w D)  (lQ : ∀ t, h_Q t = true → h t = true) (hQ : ∀ z0 z1, Ow w D T h_Q M0 z1 → Q z0 z1 → Q' z0 z1) (lX : ∀ t, h_X t = true → h t = true) (hX : ∀ z0, Ow w D T h_X M0 z0 → X z0 → X' z0) (lk68 : ∀ t, h_k68 t = true → h t = true) (hk68 : ∀ z0 z1 z2 z3 z4 z5 z6 z7, Ow w D T h_k68 M0 z7 → k68 z0 z1 z2 z3 z4 z5 z6 z7 → k68' z0 z1 z2 z3 z4 z5 z6 z7) : Ow w D T h M0 M → w_Model_shrink_j177 this Q X k68 v1 v2 v3 v4 v5 v6 v7 s0 M → w_Model_shrink_j177 this Q' X' k68' v1 v2 v3 v4 v5 v6 v7 s0 M := by
  intro hf
  unfold w_Model_shrink_j177
  exact (mo_w_Model_shrink_j179 hD  lQ hQ lX hX lk68 hk68 hf)
set_option maxRecDepth 20000 in
theorem mo_w_Model_shrink_j176 {w : Nat} {D : Nat → Nat → Prop} {T : Nat → Prop} {h : Hot} {this : Nat} {Q Q' : Int32 → Mem → Prop} {h_Q : Hot} {X X' : Mem → Prop} {h_X : Hot} {k68 k68' : Int32 → Int32 → Int32 → Int32 → Int32 → Int32 → Int32 → Mem → Prop} {h_k68 : Hot} {v1 : Int32} {v2 : Int32} {v3 : Int32} {v4 : Int32} {v5 : Int32} {v6 : Int32} {v7 : Int32} {M : Mem} {M0 : Mem} (hD : Dok w D)  (lQ : ∀ t, h_Q t = true → h t = true) (hQ : ∀ z0 z1, Ow w D T h_Q M0 z1 → Q z0 z1 → Q' z0 z1) (lX : ∀ t, h_X t = true → h t = true) (hX : ∀ z0, Ow w D T h_X M0 z0 → X z0 → X' z0) (lk68 : ∀ t, h_k68 t = true → h t = true) (hk68 : ∀ z0 z1 z2 z3 z4 z5 z6 z7, Ow w D T h_k68 M0 z7 → k68 z0 z1 z2 z3 z4 z5 z6 z7 → k68' z0 z1 z2 z3 z4 z5 z6 z7) : Ow w D T h M0 M → w_Model_shrink_j176 this Q X k68 v1 v2 v3 v4 v5 v6 v7 M → w_Model_shrink_j176 this Q' X' k68' v1 v2 v3 v4 v5 v6 v7 M := by
  intro hf
  unfold w_Model_shrink_j176
  exact (mo_w_Model_shrink_j177 hD  lQ hQ lX hX lk68 hk68 hf)
set_option maxRecDepth 20000 in
theorem mo_w_Model_shrink_j142 {w : Nat} {D : Nat → Nat → Prop} {T : Nat → Prop} {h : Hot} {this : Nat} {Q Q' : Int32 → Mem → Prop} {h_Q : Hot} {X X' : Mem → Prop} {h_X : Hot} {k68 k68' : Int32 → Int32 → Int32 → Int32 → Int32 → Int32 → Int32 → Mem → Prop} {h_k68 : Hot} {v1 : Int32} {v2 : Int32} {v3 : Int32} {v4 : Int32} {v5 : Int32} {v6 : Int32} {v7 : Int32} {s0 : Int32} {M : Mem} {M0 : Mem} (hD : Dok w D) (n0 : ow w D 11 this) (n1 : T (1000 + ((3 : Int32).toNatClampNeg))) (lQ : ∀ t, h_Q t = true → h t = true) (hQ : ∀ z0 z1, Ow w D T h_Q M0 z1 → Q z0 z1 → Q' z0 z1) (lX : ∀ t, h_X t = true → h t = true) (hX : ∀ z0, Ow w D T h_X M0 z0 → X z0 → X' z0) (lk68 : ∀ t, h_k68 t = true → h t = true) (hk68 : ∀ z0 z1 z2 z3 z4 z5 z6 z7, Ow w D T h_k68 M0 z7 → k68 z0 z1 z2 z3 z4 z5 z6 z7 → k68' z0 z1 z2 z3 z4 z5 z6 z7) : Ow w D T h M0 M → w_Model_shrink_j142 this Q X k68 v1 v2 v3 v4 v5 v6 v7 s0 M → w_Model_shrink_j142 this Q' X' k68' v1 v2 v3 v4 v5 v6 v7 s0 M := by
  intro hf
  unfold w_Model_shrink_j142
  exact (mf_ite (mo_w_Model_shrink_j179 hD  lQ hQ lX hX lk68 hk68 hf) (mo_w_Model_tryDraft hD n0 n1 (fun M30 f1 => (have g2 : Ow w D T _ M0 M30 := (Ow.trans hf f1); (mf_ite (mf_ite (mo_w_Model_shrink_j177 hD  lQ hQ lX hX lk68 hk68 g2) (mo_w_Model_shrink_j176 hD  lQ hQ lX hX lk68 hk68 g2)) (mo_w_Model_shrink_j176 hD  lQ hQ lX hX lk68 hk68 g2)))) (fun z4 f3 => hX z4 (Ow.dn lX (Ow.trans hf f3))) hf.1))
set_option maxRecDepth 20000 in
theorem mo_w_Model_shrink_j141 {w : Nat} {D : Nat → Nat → Prop} {T : Nat → Prop} {h : Hot} {this : Nat} {Q Q' : Int32 → Mem → Prop} {h_Q : Hot} {X X' : Mem → Prop} {h_X : Hot} {k68 k68' : Int32 → Int32 → Int32 → Int32 → Int32 → Int32 → Int32 → Mem → Prop} {h_k68 : Hot} {v1 : Int32} {v2 : Int32} {v3 : Int32} {v4 : Int32} {v5 : Int32} {v6 : Int32} {v7 : Int32} {M : Mem} {M0 : Mem} (hD : Dok w D) (n0 : ow w D 11 this) (n1 : T (1000 + ((3 : Int32).toNatClampNeg))) (lQ : ∀ t, h_Q t = true → h t = true) (hQ : ∀ z0 z1, Ow w D T h_Q M0 z1 → Q z0 z1 → Q' z0 z1) (lX : ∀ t, h_X t = true → h t = true) (hX : ∀ z0, Ow w D T h_X M0 z0 → X z0 → X' z0) (lk68 : ∀ t, h_k68 t = true → h t = true) (hk68 : ∀ z0 z1 z2 z3 z4 z5 z6 z7, Ow w D T h_k68 M0 z7 → k68 z0 z1 z2 z3 z4 z5 z6 z7 → k68' z0 z1 z2 z3 z4 z5 z6 z7) : Ow w D T h M0 M → w_Model_shrink_j141 this Q X k68 v1 v2 v3 v4 v5 v6 v7 M → w_Model_shrink_j141 this Q' X' k68' v1 v2 v3 v4 v5 v6 v7 M := by
  intro hf
  unfold w_Model_shrink_j141
  exact (mo_w_Model_shrink_j142 hD n0 n1 lQ hQ lX hX lk68 hk68 hf)
set_option maxRecDepth 20000 in
theorem mo_w_Model_shrink_j109 {w : Nat} {D : Nat → Nat → Prop} {T : Nat → Prop} {h : Hot} {this : Nat} {Q Q' : Int32 → Mem → Prop} {h_Q : Hot} {X X' : Mem → Prop} {h_X : Hot} {k68 k68' : Int32 → Int32 → Int32 → Int32 → Int32 → Int32 → Int32 → Mem → Prop} {h_k68 : Hot} {k88 k88' : Int32 → Int32 → Int32 → Int32 → Int32 → Int32 → Int32 → Int32 → Int32 → Mem → Prop} {h_k88 : Hot} {v1 : Int32} {v2 : Int32} {v3 : Int32} {v4 : Int32} {v5 : Int32} {v6 : Int32} {v7 : Int32} {v8 : Int32} {v9 : Int32} {M : Mem} {M0 : Mem} (hD : Dok w D)  (lQ : ∀ t, h_Q t = true → h t = true) (hQ : ∀ z0 z1, Ow w D T h_Q M0 z1 → Q z0 z1 → Q' z0 z1) (lX : ∀ t, h_X t = true → h t = true) (hX : ∀ z0, Ow w D T h_X M0 z0 → X z0 → X' z0) (lk68 : ∀ t, h_k68 t = true → h t = true) (hk68 : ∀ z0 z1 z2 z3 z4 z5 z6 z7, Ow w D T h_k68 M0 z7 → k68 z0 z1 z2 z3 z4 z5 z6 z7 → k68' z0 z1 z2 z3 z4 z5 z6 z7) (lk88 : ∀ t, h_k88 t = true → h t = true) (hk88 : ∀ z0 z1 z2 z3 z4 z5 z6 z7 z8 z9, Ow w D T h_k88 M0 z9 → k88 z0 z1 z2 z3 z4 z5 z6 z7 z8 z9 → k88' z0 z1 z2 z3 z4 z5 z6 z7 z8 z9) : Ow w D T h M0 M → w_Model_shrink_j109 this Q X k68 k88 v1 v2 v3 v4 v5 v6 v7 v8 v9 M → w_Model_shrink_j109 this Q' X' k68' k88' v1 v2 v3 v4 v5 v6 v7 v8 v9 M := by
  intro hf
  unfold w_Model_shrink_j109
  exact (hk88 _ _ _ _ _ _ _ _ _ _  (Ow.dn lk88 hf))
set_option maxRecDepth 20000 in
theorem mo_w_Model_shrink_L88 {w : Nat} {D : Nat → Nat → Prop} {T : Nat → Prop} {h : Hot} {this : Nat} {Q Q' : Int32 → Mem → Prop} {h_Q : Hot} {X X' : Mem → Prop} {h_X : Hot} {k68 k68' : Int32 → Int32 → Int32 → Int32 → Int32 → Int32 → Int32 → Mem → Prop} {h_k68 : Hot} {M0 : Mem} (hD : Dok w D) (n0 : ow w D 11 this) (n1 : T (1000 + ((3 : Int32).toNatClampNeg))) (lQ : ∀ t, h_Q t = true → h t = true) (hQ : ∀ z0 z1, Ow w D T h_Q M0 z1 → Q z0 z1 → Q' z0 z1) (lX : ∀ t, h_X t = true → h t = true) (hX : ∀ z0, Ow w D T h_X M0 z0 → X z0 → X' z0) (lk68 : ∀ t, h_k68 t = true → h t = true) (hk68 : ∀ z0 z1 z2 z3 z4 z5 z6 z7, Ow w D T h_k68 M0 z7 → k68 z0 z1 z2 z3 z4 z5 z6 z7 → k68' z0 z1 z2 z3 z4 z5 z6 z7) : ∀ (n : Nat) (v1 : Int32) (v2 : Int32) (v3 : Int32) (v4 : Int32) (v5 : Int32) (v6 : Int32) (v7 : Int32) (v8 : Int32) (v9 : Int32) (M : Mem), Ow w D T h M0 M → w_Model_shrink_L88 this Q X k68 n v1 v2 v3 v4 v5 v6 v7 v8 v9 M → w_Model_shrink_L88 this Q' X' k68' n v1 v2 v3 v4 v5 v6 v7 v8 v9 M
  | 0, _, _, _, _, _, _, _, _, _, _ => fun  _ h => h
  | n + 1, v1, v2, v3, v4, v5, v6, v7, v8, v9, M => fun  hf => by
    unfold w_Model_shrink_L88
    exact (mf_ite (mo_w_Model_tryDraft hD n0 n1 (fun M18 f1 => (have g2 : Ow w D T _ M0 M18 := (Ow.trans hf f1); (mf_ite (mf_ite (mo_w_Model_shrink_j142 hD n0 n1 lQ hQ lX hX lk68 hk68 g2) (mo_w_Model_shrink_j141 hD n0 n1 lQ hQ lX hX lk68 hk68 g2)) (mo_w_Model_shrink_j141 hD n0 n1 lQ hQ lX hX lk68 hk68 g2)))) (fun z4 f3 => hX z4 (Ow.dn lX (Ow.trans hf f3))) hf.1) (mf_ite (mo_w_Model_shrink_j109 hD  lQ hQ lX hX lk68 hk68 (fun _ e => e) (fun y0 y1 y2 y3 y4 y5 y6 y7 y8 y9  hf => mo_w_Model_shrink_L88 hD n0 n1 lQ hQ lX hX lk68 hk68 n y0 y1 y2 y3 y4 y5 y6 y7 y8 y9  hf) hf) (mo_w_Model_draftLine hD n0 (fun M34 f5 => (have g6 : Ow w D T _ M0 M34 := (Ow.trans hf f5); (mo_w_Model_shrink_j109 hD  lQ hQ lX hX lk68 hk68 (fun _ e => e) (fun y0 y1 y2 y3 y4 y5 y6 y7 y8 y9  hf => mo_w_Model_shrink_L88 hD n0 n1 lQ hQ lX hX lk68 hk68 n y0 y1 y2 y3 y4 y5 y6 y7 y8 y9  hf) g6))) hf.1)))
set_option maxRecDepth 20000 in
theorem mo_w_Model_shrink_L68 {w : Nat} {D : Nat → Nat → Prop} {T : Nat → Prop} {h : Hot} {this : Nat} {Q Q' : Int32 → Mem → Prop} {h_Q : Hot} {X X' : Mem → Prop} {h_X : Hot} {M0 : Mem} (hD : Dok w D) (n0 : ow w D 11 this) (n1 : T (1000 + ((3 : Int32).toNatClampNeg))) (lQ : ∀ t, h_Q t = true → h t = true) (hQ : ∀ z0 z1, Ow w D T h_Q M0 z1 → Q z0 z1 → Q' z0 z1) (lX : ∀ t, h_X t = true → h t = true) (hX : ∀ z0, Ow w D T h_X M0 z0 → X z0 → X' z0) : ∀ (n : Nat) (v1 : Int32) (v2 : Int32) (v3 : Int32) (v4 : Int32) (v5 : Int32) (v6 : Int32) (v7 : Int32) (M : Mem), Ow w D T h M0 M → w_Model_shrink_L68 this Q X n v1 v2 v3 v4 v5 v6 v7 M → w_Model_shrink_L68 this Q' X' n v1 v2 v3 v4 v5 v6 v7 M
  | 0, _, _, _, _, _, _, _, _ => fun  _ h => h
  | n + 1, v1, v2, v3, v4, v5, v6, v7, M => fun  hf => by
    unfold w_Model_shrink_L68
    exact (mf_ite (mf_and fun _ => (have g1 : Ow w D T _ M0 (sI M 522 this v1.toNatClampNeg ((0 : Int32) &&& 1)) := (Ow.wI (ow0 rfl) hf); (mo_w_Model_linesOf hD  (fun r14 M13 f2 => (have g3 : Ow w D T _ M0 M13 := (Ow.trans g1 f2); (hQ _ _  (Ow.dn lQ g3)))) g1.1))) (mo_w_Model_linesOf hD  (fun r16 M15 f4 => (have g5 : Ow w D T _ M0 M15 := (Ow.trans hf f4); (Exists.imp fun n35 => (have g6 : Ow w D T _ M0 (sI M15 11 this 123 (0 : Int32)) := (Ow.wI n0 g5); (mo_w_Model_shrink_L88 hD n0 n1 lQ hQ lX hX (fun _ e => e) (fun y0 y1 y2 y3 y4 y5 y6 y7  hf => mo_w_Model_shrink_L68 hD n0 n1 lQ hQ lX hX n y0 y1 y2 y3 y4 y5 y6 y7  hf) _ _ _ _ _ _ _ _ _ _ _  g6))))) hf.1))
set_option maxRecDepth 20000 in
theorem mo_w_Model_shrink {w : Nat} {D : Nat → Nat → Prop} {T : Nat → Prop} {h : Hot} {this : Nat} {a1 : Int32} {a2 : Int32} {Q Q' : Int32 → Mem → Prop} {X X' : Mem → Prop} {M : Mem} (hD : Dok w D) (n0 : ow w D 11 this) (n1 : T (1000 + ((3 : Int32).toNatClampNeg))) (hQ : ∀ z0 z1, Ow w D T h M z1 → Q z0 z1 → Q' z0 z1) (hX : ∀ z0, Ow w D T h M z0 → X z0 → X' z0) : St w D T h M → w_Model_shrink this a1 a2 Q X M → w_Model_shrink this a1 a2 Q' X' M := by
  intro hs
  unfold w_Model_shrink
  exact (mo_w_Model_isTrial hD  (fun r2 M1 f1 => (have g2 : Ow w D T _ M M1 := (Ow.trans (Ow.rf hs) f1); (mf_ite (hQ _ _  g2) (mf_ite (hQ _ _  g2) (mf_ite (mo_w_Model_draftTrial hD n0 (fun M6 f3 => (have g4 : Ow w D T _ M M6 := (Ow.trans g2 f3); (mo_w_Model_tryDraft hD n0 n1 (fun M7 f5 => (have g6 : Ow w D T _ M M7 := (Ow.trans g4 f5); (mo_w_Model_tryDraft hD n0 n1 (fun M8 f7 => (have g8 : Ow w D T _ M M8 := (Ow.trans g6 f7); (mo_w_Model_linesOf hD  (fun r10 M9 f9 => (have g10 : Ow w D T _ M M9 := (Ow.trans g8 f9); (Exists.imp fun n36 => (mo_w_Model_shrink_L68 hD n0 n1 (fun _ e => e) hQ (fun _ e => e) hX _ _ _ _ _ _ _ _ _  g10)))) g8.1))) (fun z12 f11 => hX z12 (Ow.trans g6 f11)) g6.1))) (fun z14 f13 => hX z14 (Ow.trans g4 f13)) g4.1))) g2.1) (hQ _ _  g2)))))) (Ow.rf hs).1)
set_option maxRecDepth 20000 in
theorem mo_w_Model_change_j272 {w : Nat} {D : Nat → Nat → Prop} {T : Nat → Prop} {h : Hot} {this : Nat} {Q Q' : Int32 → Mem → Prop} {h_Q : Hot} {k178 k178' : Int32 → Int32 → Int32 → Int32 → Int32 → Int32 → Mem → Prop} {h_k178 : Hot} {v1 : Int32} {v2 : Int32} {v3 : Int32} {v4 : Int32} {v5 : Int32} {v8 : Int32} {M : Mem} {M0 : Mem} (hD : Dok w D)  (lQ : ∀ t, h_Q t = true → h t = true) (hQ : ∀ z0 z1, Ow w D T h_Q M0 z1 → Q z0 z1 → Q' z0 z1) (lk178 : ∀ t, h_k178 t = true → h t = true) (hk178 : ∀ z0 z1 z2 z3 z4 z5 z6, Ow w D T h_k178 M0 z6 → k178 z0 z1 z2 z3 z4 z5 z6 → k178' z0 z1 z2 z3 z4 z5 z6) : Ow w D T h M0 M → w_Model_change_j272 this Q k178 v1 v2 v3 v4 v5 v8 M → w_Model_change_j272 this Q' k178' v1 v2 v3 v4 v5 v8 M := by
  intro hf
  unfold w_Model_change_j272
  exact (hk178 _ _ _ _ _ _ _  (Ow.dn lk178 hf))
set_option maxRecDepth 20000 in
theorem mo_w_Model_change_j254 {w : Nat} {D : Nat → Nat → Prop} {T : Nat → Prop} {h : Hot} {this : Nat} {Q Q' : Int32 → Mem → Prop} {h_Q : Hot} {k178 k178' : Int32 → Int32 → Int32 → Int32 → Int32 → Int32 → Mem → Prop} {h_k178 : Hot} {v1 : Int32} {v2 : Int32} {v3 : Int32} {v4 : Int32} {v5 : Int32} {v8 : Int32} {v9 : Int32} {M : Mem} {M0 : Mem} (hD : Dok w D) (n0 : ow w D 11 this) (lQ : ∀ t, h_Q t = true → h t = true) (hQ : ∀ z0 z1, Ow w D T h_Q M0 z1 → Q z0 z1 → Q' z0 z1) (lk178 : ∀ t, h_k178 t = true → h t = true) (hk178 : ∀ z0 z1 z2 z3 z4 z5 z6, Ow w D T h_k178 M0 z6 → k178 z0 z1 z2 z3 z4 z5 z6 → k178' z0 z1 z2 z3 z4 z5 z6) : Ow w D T h M0 M → w_Model_change_j254 this Q k178 v1 v2 v3 v4 v5 v8 v9 M → w_Model_change_j254 this Q' k178' v1 v2 v3 v4 v5 v8 v9 M := by
  intro hf
  unfold w_Model_change_j254
  exact (mf_ite (mf_ite (mo_w_Model_draftLine hD n0 (fun M30 f1 => (have g2 : Ow w D T _ M0 M30 := (Ow.trans hf f1); (mo_w_Model_change_j272 hD  lQ hQ lk178 hk178 g2))) hf.1) (mo_w_Model_change_j272 hD  lQ hQ lk178 hk178 hf)) (mo_w_Model_change_j272 hD  lQ hQ lk178 hk178 hf))
set_option maxRecDepth 20000 in
theorem mo_w_Model_change_j247 {w : Nat} {D : Nat → Nat → Prop} {T : Nat → Prop} {h : Hot} {this : Nat} {Q Q' : Int32 → Mem → Prop} {h_Q : Hot} {k178 k178' : Int32 → Int32 → Int32 → Int32 → Int32 → Int32 → Mem → Prop} {h_k178 : Hot} {v1 : Int32} {v2 : Int32} {v3 : Int32} {v4 : Int32} {v5 : Int32} {v8 : Int32} {v9 : Int32} {M : Mem} {M0 : Mem} (hD : Dok w D) (n0 : ow w D 11 this) (lQ : ∀ t, h_Q t = true → h t = true) (hQ : ∀ z0 z1, Ow w D T h_Q M0 z1 → Q z0 z1 → Q' z0 z1) (lk178 : ∀ t, h_k178 t = true → h t = true) (hk178 : ∀ z0 z1 z2 z3 z4 z5 z6, Ow w D T h_k178 M0 z6 → k178 z0 z1 z2 z3 z4 z5 z6 → k178' z0 z1 z2 z3 z4 z5 z6) : Ow w D T h M0 M → w_Model_change_j247 this Q k178 v1 v2 v3 v4 v5 v8 v9 M → w_Model_change_j247 this Q' k178' v1 v2 v3 v4 v5 v8 v9 M := by
  intro hf
  unfold w_Model_change_j247
  exact (mo_w_Model_draftLine hD n0 (fun M31 f1 => (have g2 : Ow w D T _ M0 M31 := (Ow.trans hf f1); (mo_w_Model_change_j254 hD n0 lQ hQ lk178 hk178 g2))) hf.1)
set_option maxRecDepth 20000 in
theorem mo_w_Model_change_j235 {w : Nat} {D : Nat → Nat → Prop} {T : Nat → Prop} {h : Hot} {this : Nat} {Q Q' : Int32 → Mem → Prop} {h_Q : Hot} {k178 k178' : Int32 → Int32 → Int32 → Int32 → Int32 → Int32 → Mem → Prop} {h_k178 : Hot} {v1 : Int32} {v2 : Int32} {v3 : Int32} {v4 : Int32} {v5 : Int32} {v8 : Int32} {s0 : Int32} {M : Mem} {M0 : Mem} (hD : Dok w D) (n0 : ow w D 11 this) (lQ : ∀ t, h_Q t = true → h t = true) (hQ : ∀ z0 z1, Ow w D T h_Q M0 z1 → Q z0 z1 → Q' z0 z1) (lk178 : ∀ t, h_k178 t = true → h t = true) (hk178 : ∀ z0 z1 z2 z3 z4 z5 z6, Ow w D T h_k178 M0 z6 → k178 z0 z1 z2 z3 z4 z5 z6 → k178' z0 z1 z2 z3 z4 z5 z6) : Ow w D T h M0 M → w_Model_change_j235 this Q k178 v1 v2 v3 v4 v5 v8 s0 M → w_Model_change_j235 this Q' k178' v1 v2 v3 v4 v5 v8 s0 M := by
  intro hf
  unfold w_Model_change_j235
  exact (mf_ite (mf_ite (mo_w_Model_change_j254 hD n0 lQ hQ lk178 hk178 hf) (mo_w_Model_change_j247 hD n0 lQ hQ lk178 hk178 hf)) (mo_w_Model_change_j247 hD n0 lQ hQ lk178 hk178 hf))
set_option maxRecDepth 20000 in
theorem mo_w_Model_change_j233 {w : Nat} {D : Nat → Nat → Prop} {T : Nat → Prop} {h : Hot} {this : Nat} {Q Q' : Int32 → Mem → Prop} {h_Q : Hot} {k178 k178' : Int32 → Int32 → Int32 → Int32 → Int32 → Int32 → Mem → Prop} {h_k178 : Hot} {v1 : Int32} {v2 : Int32} {v3 : Int32} {v4 : Int32} {v5 : Int32} {v8 : Int32} {M : Mem} {M0 : Mem} (hD : Dok w D) (n0 : ow w D 11 this) (lQ : ∀ t, h_Q t = true → h t = true) (hQ : ∀ z0 z1, Ow w D T h_Q M0 z1 → Q z0 z1 → Q' z0 z1) (lk178 : ∀ t, h_k178 t = true → h t = true) (hk178 : ∀ z0 z1 z2 z3 z4 z5 z6, Ow w D T h_k178 M0 z6 → k178 z0 z1 z2 z3 z4 z5 z6 → k178' z0 z1 z2 z3 z4 z5 z6) : Ow w D T h M0 M → w_Model_change_j233 this Q k178 v1 v2 v3 v4 v5 v8 M → w_Model_change_j233 this Q' k178' v1 v2 v3 v4 v5 v8 M := by
  intro hf
  unfold w_Model_change_j233
  exact (mo_w_Model_change_j235 hD n0 lQ hQ lk178 hk178 hf)
set_option maxRecDepth 20000 in
theorem mo_w_Model_change_j217 {w : Nat} {D : Nat → Nat → Prop} {T : Nat → Prop} {h : Hot} {this : Nat} {Q Q' : Int32 → Mem → Prop} {h_Q : Hot} {k178 k178' : Int32 → Int32 → Int32 → Int32 → Int32 → Int32 → Mem → Prop} {h_k178 : Hot} {v1 : Int32} {v2 : Int32} {v3 : Int32} {v4 : Int32} {v5 : Int32} {v8 : Int32} {M : Mem} {M0 : Mem} (hD : Dok w D) (n0 : ow w D 11 this) (lQ : ∀ t, h_Q t = true → h t = true) (hQ : ∀ z0 z1, Ow w D T h_Q M0 z1 → Q z0 z1 → Q' z0 z1) (lk178 : ∀ t, h_k178 t = true → h t = true) (hk178 : ∀ z0 z1 z2 z3 z4 z5 z6, Ow w D T h_k178 M0 z6 → k178 z0 z1 z2 z3 z4 z5 z6 → k178' z0 z1 z2 z3 z4 z5 z6) : Ow w D T h M0 M → w_Model_change_j217 this Q k178 v1 v2 v3 v4 v5 v8 M → w_Model_change_j217 this Q' k178' v1 v2 v3 v4 v5 v8 M := by
  intro hf
  unfold w_Model_change_j217
  exact (mf_ite (mf_ite (mo_w_Model_change_j235 hD n0 lQ hQ lk178 hk178 hf) (mo_w_Model_change_j233 hD n0 lQ hQ lk178 hk178 hf)) (mo_w_Model_change_j233 hD n0 lQ hQ lk178 hk178 hf))
set_option maxRecDepth 20000 in
theorem mo_w_Model_change_j201 {w : Nat} {D : Nat → Nat → Prop} {T : Nat → Prop} {h : Hot} {this : Nat} {Q Q' : Int32 → Mem → Prop} {h_Q : Hot} {k178 k178' : Int32 → Int32 → Int32 → Int32 → Int32 → Int32 → Mem → Prop} {h_k178 : Hot} {v1 : Int32} {v2 : Int32} {v3 : Int32} {v4 : Int32} {v5 : Int32} {v8 : Int32} {M : Mem} {M0 : Mem} (hD : Dok w D) (n0 : ow w D 11 this) (lQ : ∀ t, h_Q t = true → h t = true) (hQ : ∀ z0 z1, Ow w D T h_Q M0 z1 → Q z0 z1 → Q' z0 z1) (lk178 : ∀ t, h_k178 t = true → h t = true) (hk178 : ∀ z0 z1 z2 z3 z4 z5 z6, Ow w D T h_k178 M0 z6 → k178 z0 z1 z2 z3 z4 z5 z6 → k178' z0 z1 z2 z3 z4 z5 z6) : Ow w D T h M0 M → w_Model_change_j201 this Q k178 v1 v2 v3 v4 v5 v8 M → w_Model_change_j201 this Q' k178' v1 v2 v3 v4 v5 v8 M := by
  intro hf
  unfold w_Model_change_j201
  exact (mf_ite (mf_ite (mo_w_Model_change_j235 hD n0 lQ hQ lk178 hk178 hf) (mo_w_Model_change_j217 hD n0 lQ hQ lk178 hk178 hf)) (mo_w_Model_change_j217 hD n0 lQ hQ lk178 hk178 hf))
set_option maxRecDepth 20000 in
theorem mo_w_Model_change_L178 {w : Nat} {D : Nat → Nat → Prop} {T : Nat → Prop} {h : Hot} {this : Nat} {Q Q' : Int32 → Mem → Prop} {h_Q : Hot} {M0 : Mem} (hD : Dok w D) (n0 : ow w D 11 this) (lQ : ∀ t, h_Q t = true → h t = true) (hQ : ∀ z0 z1, Ow w D T h_Q M0 z1 → Q z0 z1 → Q' z0 z1) : ∀ (n : Nat) (v1 : Int32) (v2 : Int32) (v3 : Int32) (v4 : Int32) (v5 : Int32) (v8 : Int32) (M : Mem), Ow w D T h M0 M → w_Model_change_L178 this Q n v1 v2 v3 v4 v5 v8 M → w_Model_change_L178 this Q' n v1 v2 v3 v4 v5 v8 M
  | 0, _, _, _, _, _, _, _ => fun  _ h => h
  | n + 1, v1, v2, v3, v4, v5, v8, M => fun  hf => by
    unfold w_Model_change_L178
    exact (mf_ite (mf_ite (mo_w_Model_keepDraft hD n0 (fun r23 M22 f1 => (have g2 : Ow w D T _ M0 M22 := (Ow.trans hf f1); (hQ _ _  (Ow.dn lQ g2)))) hf.1) (hQ _ _  (Ow.dn lQ hf))) (mf_ite (mf_ite (mo_w_Model_change_j235 hD n0 lQ hQ (fun _ e => e) (fun y0 y1 y2 y3 y4 y5 y6  hf => mo_w_Model_change_L178 hD n0 lQ hQ n y0 y1 y2 y3 y4 y5 y6  hf) hf) (mo_w_Model_change_j201 hD n0 lQ hQ (fun _ e => e) (fun y0 y1 y2 y3 y4 y5 y6  hf => mo_w_Model_change_L178 hD n0 lQ hQ n y0 y1 y2 y3 y4 y5 y6  hf) hf)) (mo_w_Model_change_j201 hD n0 lQ hQ (fun _ e => e) (fun y0 y1 y2 y3 y4 y5 y6  hf => mo_w_Model_change_L178 hD n0 lQ hQ n y0 y1 y2 y3 y4 y5 y6  hf) hf)))
set_option maxRecDepth 20000 in
theorem mo_w_Model_change_j170 {w : Nat} {D : Nat → Nat → Prop} {T : Nat → Prop} {h : Hot} {this : Nat} {Q Q' : Int32 → Mem → Prop} {h_Q : Hot} {v1 : Int32} {v2 : Int32} {v3 : Int32} {v4 : Int32} {v5 : Int32} {M : Mem} {M0 : Mem} (hD : Dok w D) (n0 : ow w D 11 this) (lQ : ∀ t, h_Q t = true → h t = true) (hQ : ∀ z0 z1, Ow w D T h_Q M0 z1 → Q z0 z1 → Q' z0 z1) : Ow w D T h M0 M → w_Model_change_j170 this Q v1 v2 v3 v4 v5 M → w_Model_change_j170 this Q' v1 v2 v3 v4 v5 M := by
  intro hf
  unfold w_Model_change_j170
  exact (Exists.imp fun n36 => (have g1 : Ow w D T _ M0 (sI M 11 this 123 (0 : Int32)) := (Ow.wI n0 hf); (mo_w_Model_change_L178 hD n0 lQ hQ _ _ _ _ _ _ _ _  g1)))
set_option maxRecDepth 20000 in
theorem mo_w_Model_change_j155 {w : Nat} {D : Nat → Nat → Prop} {T : Nat → Prop} {h : Hot} {this : Nat} {Q Q' : Int32 → Mem → Prop} {h_Q : Hot} {v1 : Int32} {v2 : Int32} {v3 : Int32} {v4 : Int32} {v5 : Int32} {M : Mem} {M0 : Mem} (hD : Dok w D) (n0 : ow w D 11 this) (lQ : ∀ t, h_Q t = true → h t = true) (hQ : ∀ z0 z1, Ow w D T h_Q M0 z1 → Q z0 z1 → Q' z0 z1) : Ow w D T h M0 M → w_Model_change_j155 this Q v1 v2 v3 v4 v5 M → w_Model_change_j155 this Q' v1 v2 v3 v4 v5 M := by
  intro hf
  unfold w_Model_change_j155
  exact (mf_ite (mf_ite (hQ _ _  (Ow.dn lQ hf)) (mo_w_Model_change_j170 hD n0 lQ hQ hf)) (mo_w_Model_change_j170 hD n0 lQ hQ hf))
set_option maxRecDepth 20000 in
theorem mo_w_Model_change_j129 {w : Nat} {D : Nat → Nat → Prop} {T : Nat → Prop} {h : Hot} {this : Nat} {Q Q' : Int32 → Mem → Prop} {h_Q : Hot} {v1 : Int32} {v2 : Int32} {v3 : Int32} {v4 : Int32} {v5 : Int32} {v6 : Int32} {M : Mem} {M0 : Mem} (hD : Dok w D) (n0 : ow w D 11 this) (lQ : ∀ t, h_Q t = true → h t = true) (hQ : ∀ z0 z1, Ow w D T h_Q M0 z1 → Q z0 z1 → Q' z0 z1) : Ow w D T h M0 M → w_Model_change_j129 this Q v1 v2 v3 v4 v5 v6 M → w_Model_change_j129 this Q' v1 v2 v3 v4 v5 v6 M := by
  intro hf
  unfold w_Model_change_j129
  exact (mf_ite (hQ _ _  (Ow.dn lQ hf)) (mf_ite (mo_w_Model_change_j155 hD n0 lQ hQ hf) (mf_ite (mo_w_Model_change_j155 hD n0 lQ hQ hf) (mf_ite (mo_w_Model_change_j155 hD n0 lQ hQ hf) (hQ _ _  (Ow.dn lQ hf))))))
set_option maxRecDepth 20000 in
theorem mo_w_Model_change_j59 {w : Nat} {D : Nat → Nat → Prop} {T : Nat → Prop} {h : Hot} {this : Nat} {Q Q' : Int32 → Mem → Prop} {h_Q : Hot} {v1 : Int32} {v2 : Int32} {v3 : Int32} {v4 : Int32} {v5 : Int32} {M : Mem} {M0 : Mem} (hD : Dok w D) (n0 : ow w D 11 this) (lQ : ∀ t, h_Q t = true → h t = true) (hQ : ∀ z0 z1, Ow w D T h_Q M0 z1 → Q z0 z1 → Q' z0 z1) : Ow w D T h M0 M → w_Model_change_j59 this Q v1 v2 v3 v4 v5 M → w_Model_change_j59 this Q' v1 v2 v3 v4 v5 M := by
  intro hf
  unfold w_Model_change_j59
  exact (mf_and fun _ => (mf_and fun _ => (mf_and fun _ => (Exists.imp fun x14 => (mf_and fun _ => (mf_ite (mo_w_Model_change_j129 hD n0 lQ hQ hf) (mf_ite (mf_and fun _ => (mf_and fun _ => (Exists.imp fun x42 => (mf_and fun _ => (mo_w_Model_change_j129 hD n0 lQ hQ hf))))) (mo_w_Model_change_j129 hD n0 lQ hQ hf))))))))
set_option maxRecDepth 20000 in
theorem mo_w_Model_change {w : Nat} {D : Nat → Nat → Prop} {T : Nat → Prop} {h : Hot} {this : Nat} {a1 : Int32} {a2 : Int32} {a3 : Int32} {a4 : Int32} {Q Q' : Int32 → Mem → Prop} {M : Mem} (hD : Dok w D) (n0 : ow w D 11 this) (hQ : ∀ z0 z1, Ow w D T h M z1 → Q z0 z1 → Q' z0 z1) : St w D T h M → w_Model_change this a1 a2 a3 a4 Q M → w_Model_change this a1 a2 a3 a4 Q' M := by
  intro hs
  unfold w_Model_change
  exact (mo_w_Model_isTrial hD  (fun r2 M1 f1 => (have g2 : Ow w D T _ M M1 := (Ow.trans (Ow.rf hs) f1); (mf_ite (hQ _ _  g2) (mf_ite (hQ _ _  g2) (mf_ite (mo_w_Model_linesOf hD  (fun r7 M6 f3 => (have g4 : Ow w D T _ M M6 := (Ow.trans g2 f3); (mf_ite (hQ _ _  g4) (mf_ite (hQ _ _  g4) (mf_ite (mo_w_Model_change_j59 hD n0 (fun _ e => e) hQ g4) (mf_ite (hQ _ _  g4) (mf_ite (mo_w_Model_change_j59 hD n0 (fun _ e => e) hQ g4) (hQ _ _  g4)))))))) g2.1) (hQ _ _  g2)))))) (Ow.rf hs).1)
set_option maxRecDepth 20000 in
theorem mo_w_Model_text {w : Nat} {D : Nat → Nat → Prop} {T : Nat → Prop} {h : Hot} {this : Nat} {a1 : Int32} {a2 : Int32} {Q Q' : Int32 → Mem → Prop} {M : Mem} (hD : Dok w D)  (hQ : ∀ z0 z1, Ow w D T h M z1 → Q z0 z1 → Q' z0 z1) : St w D T h M → w_Model_text this a1 a2 Q M → w_Model_text this a1 a2 Q' M := by
  intro hs
  unfold w_Model_text
  exact (mo_w_Model_isTrial hD  (fun r2 M1 f1 => (have g2 : Ow w D T _ M M1 := (Ow.trans (Ow.rf hs) f1); (mf_ite (hQ _ _  g2) (mf_ite (hQ _ _  g2) (mf_and fun _ => (mf_ite (mf_and fun _ => (hQ _ _  g2)) (hQ _ _  g2))))))) (Ow.rf hs).1)
set_option maxRecDepth 20000 in
theorem mo_w_Model_count {w : Nat} {D : Nat → Nat → Prop} {T : Nat → Prop} {h : Hot} {this : Nat} {a1 : Int32} {Q Q' : Int32 → Mem → Prop} {M : Mem} (hD : Dok w D)  (hQ : ∀ z0 z1, Ow w D T h M z1 → Q z0 z1 → Q' z0 z1) : St w D T h M → w_Model_count this a1 Q M → w_Model_count this a1 Q' M := by
  intro hs
  unfold w_Model_count
  exact (mf_ite (hQ _ _  (Ow.rf hs)) (mf_ite (hQ _ _  (Ow.rf hs)) (mf_ite (hQ _ _  (Ow.rf hs)) (hQ _ _  (Ow.rf hs)))))
