/-! KINDS in the twin: frames of a step (printed from mf.txt by gen/m2.py) -/
abbrev FK1 : Nat := 1222973673391078744968619774860342041385017113244045023540637270101994970294015830360746892546347144734264212140131471852061801215528251279578867032567502206765815281654383314191004312275929851536782902853762096345340178615699130756606764653365932596279289362005514237209583228492113455126704703873535333651184104818620376343134066409306207107884006341157375260252895456764421491914448074210178612967505962013321535872176157015054127651826412019438128730743280314658382376049004828557269463427244706564651024489705784599889695302350815393519775015179459429559906590852566462868837926340404056733714072986900269179899030712491626692387429122663269964265261725740693895903580824713148648859453656648448855016766592945615876139406105909523583883538248115635248025005717555627554900239217664195810921152802373785192844299368011847274838116028272193047892812679426143987437820384262989473466631790100744870394730296079019091337222315378684786431501272836801057003006555790920350233070367932416
theorem mk_w_Model_checkOne_j514 {this : Nat} {Q Q' : Int32 → Mem → Prop} {v2 : Int32} {s0 : Int32} {M : Mem} {M0 : Mem} (hQ : ∀ z0 z1, Fr FK1 M0 z1 → Q z0 z1 → Q' z0 z1) : Fr FK1 M0 M → w_Model_checkOne_j514 this Q v2 s0 M → w_Model_checkOne_j514 this Q' v2 s0 M := by
  intro hf
  unfold w_Model_checkOne_j514
  exact (mf_and fun _ => (mf_ite (hQ _ _ (Fr.wI rfl hf)) (mf_ite (hQ _ _ (Fr.wI rfl hf)) (hQ _ _ (Fr.wI rfl hf)))))
set_option maxRecDepth 20000 in
theorem mk_w_Model_checkOne_j513 {this : Nat} {Q Q' : Int32 → Mem → Prop} {v2 : Int32} {M : Mem} {M0 : Mem} (hQ : ∀ z0 z1, Fr FK1 M0 z1 → Q z0 z1 → Q' z0 z1) : Fr FK1 M0 M → w_Model_checkOne_j513 this Q v2 M → w_Model_checkOne_j513 this Q' v2 M := by
  intro hf
  unfold w_Model_checkOne_j513
  exact (mk_w_Model_checkOne_j514 hQ hf)
set_option maxRecDepth 20000 in
theorem mk_w_Model_checkOne_j458 {this : Nat} {Q Q' : Int32 → Mem → Prop} {v2 : Int32} {v5 : Int32} {v6 : Int32} {M : Mem} {M0 : Mem} (hQ : ∀ z0 z1, Fr FK1 M0 z1 → Q z0 z1 → Q' z0 z1) : Fr FK1 M0 M → w_Model_checkOne_j458 this Q v2 v5 v6 M → w_Model_checkOne_j458 this Q' v2 v5 v6 M := by
  intro hf
  unfold w_Model_checkOne_j458
  exact (mf_ite (mf_ite (mk_w_Model_checkOne_j513 hQ hf) (mf_ite (mk_w_Model_checkOne_j513 hQ hf) (mf_ite (mk_w_Model_checkOne_j513 hQ hf) (mf_ite (mk_w_Model_checkOne_j513 hQ hf) (mf_ite (mk_w_Model_checkOne_j513 hQ hf) (mf_ite (mk_w_Model_checkOne_j513 hQ hf) (mk_w_Model_checkOne_j514 hQ hf))))))) (hQ _ _ hf))
set_option maxRecDepth 20000 in
theorem mk_w_Model_checkOne_j345 {this : Nat} {Q Q' : Int32 → Mem → Prop} {v1 : Int32} {v2 : Int32} {v6 : Int32} {M : Mem} {M0 : Mem} (hQ : ∀ z0 z1, Fr FK1 M0 z1 → Q z0 z1 → Q' z0 z1) : Fr FK1 M0 M → w_Model_checkOne_j345 this Q v1 v2 v6 M → w_Model_checkOne_j345 this Q' v1 v2 v6 M := by
  intro hf
  unfold w_Model_checkOne_j345
  exact (mf_w_Model_askHandlers (fun r28 M27 f1 => (mk_w_Model_checkOne_j458 hQ (Fr.trans hf (Fr.sub f1 rfl)))))
set_option maxRecDepth 20000 in
theorem mk_w_Model_checkOne_L397 {this : Nat} {Q Q' : Int32 → Mem → Prop} {M0 : Mem} (hQ : ∀ z0 z1, Fr FK1 M0 z1 → Q z0 z1 → Q' z0 z1) : ∀ (n : Nat) (v2 : Int32) (v3 : Int32) (v5 : Int32) (v6 : Int32) (v7 : Int32) (M : Mem), Fr FK1 M0 M → w_Model_checkOne_L397 this Q n v2 v3 v5 v6 v7 M → w_Model_checkOne_L397 this Q' n v2 v3 v5 v6 v7 M
  | 0, _, _, _, _, _, _ => fun _ h => h
  | n + 1, v2, v3, v5, v6, v7, M => fun hf => by
    unfold w_Model_checkOne_L397
    exact (Exists.imp fun i47 => (mf_and fun _ => (Exists.imp fun i48 => (mf_and fun _ => (mf_and fun _ => (mf_ite (mk_w_Model_checkOne_j458 hQ hf) (mf_ite (Exists.imp fun i52 => (mf_and fun _ => (Exists.imp fun i53 => (mf_and fun _ => (Exists.imp fun i54 => (mf_and fun _ => (Exists.imp fun i55 => (mf_and fun _ => (mf_and fun _ => (Exists.imp fun i57 => (mf_and fun _ => (Exists.imp fun i58 => (mf_and fun _ => (mf_and fun _ => (mf_and fun _ => (mf_and fun _ => (mf_w_Model_goesTo (fun r63 M62 f1 => (mk_w_Model_checkOne_L397 hQ _ _ _ _ _ _ _ (Fr.trans hf (Fr.sub f1 rfl))))))))))))))))))))) (mk_w_Model_checkOne_j458 hQ hf))))))))
set_option maxRecDepth 20000 in
theorem mk_w_Model_checkOne_j387 {this : Nat} {Q Q' : Int32 → Mem → Prop} {v2 : Int32} {v3 : Int32} {v5 : Int32} {v6 : Int32} {M : Mem} {M0 : Mem} (hQ : ∀ z0 z1, Fr FK1 M0 z1 → Q z0 z1 → Q' z0 z1) : Fr FK1 M0 M → w_Model_checkOne_j387 this Q v2 v3 v5 v6 M → w_Model_checkOne_j387 this Q' v2 v3 v5 v6 M := by
  intro hf
  unfold w_Model_checkOne_j387
  exact (mf_ite (Exists.imp fun n64 => (mk_w_Model_checkOne_L397 hQ _ _ _ _ _ _ _ hf)) (mk_w_Model_checkOne_j458 hQ hf))
set_option maxRecDepth 20000 in
theorem mk_w_Model_checkOne_j355 {this : Nat} {Q Q' : Int32 → Mem → Prop} {v2 : Int32} {v3 : Int32} {v5 : Int32} {v6 : Int32} {M : Mem} {M0 : Mem} (hQ : ∀ z0 z1, Fr FK1 M0 z1 → Q z0 z1 → Q' z0 z1) : Fr FK1 M0 M → w_Model_checkOne_j355 this Q v2 v3 v5 v6 M → w_Model_checkOne_j355 this Q' v2 v3 v5 v6 M := by
  intro hf
  unfold w_Model_checkOne_j355
  exact (mf_ite (mk_w_Model_checkOne_j387 hQ hf) (mf_ite (mk_w_Model_checkOne_j387 hQ hf) (Exists.imp fun i66 => (mf_and fun _ => (Exists.imp fun i67 => (mf_and fun _ => (mf_and fun _ => (mf_w_Model_goesTo (fun r70 M69 f1 => (mk_w_Model_checkOne_j458 hQ (Fr.trans hf (Fr.sub f1 rfl))))))))))))
set_option maxRecDepth 20000 in
theorem mk_w_Model_checkOne_j219 {this : Nat} {Q Q' : Int32 → Mem → Prop} {v1 : Int32} {v2 : Int32} {v3 : Int32} {M : Mem} {M0 : Mem} (hQ : ∀ z0 z1, Fr FK1 M0 z1 → Q z0 z1 → Q' z0 z1) : Fr FK1 M0 M → w_Model_checkOne_j219 this Q v1 v2 v3 M → w_Model_checkOne_j219 this Q' v1 v2 v3 M := by
  intro hf
  unfold w_Model_checkOne_j219
  exact (mf_w_Model_askHandlers (fun r11 M10 f1 => (mf_ite (Exists.imp fun i13 => (mf_and fun _ => (Exists.imp fun i14 => (mf_and fun _ => (mf_and fun _ => (mf_w_Model_checkTaken (fun r17 M16 f2 => (mf_ite (mf_w_Model_checkOwn (fun r20 M19 f3 => (mf_ite (mf_w_Model_act (fun M22 f4 => (Exists.imp fun i23 => (mf_and fun _ => (mf_and fun _ => (mf_ite (mf_ite (mk_w_Model_checkOne_j345 hQ (Fr.trans (Fr.trans (Fr.trans (Fr.trans hf (Fr.sub f1 rfl)) (Fr.sub f2 rfl)) (Fr.sub f3 rfl)) (Fr.sub f4 rfl))) (mf_ite (mk_w_Model_checkOne_j345 hQ (Fr.trans (Fr.trans (Fr.trans (Fr.trans hf (Fr.sub f1 rfl)) (Fr.sub f2 rfl)) (Fr.sub f3 rfl)) (Fr.sub f4 rfl))) (mf_ite (Exists.imp fun i41 => (mf_and fun _ => (Exists.imp fun i42 => (mf_and fun _ => (mf_and fun _ => (mf_ite (mk_w_Model_checkOne_j345 hQ (Fr.trans (Fr.trans (Fr.trans (Fr.trans hf (Fr.sub f1 rfl)) (Fr.sub f2 rfl)) (Fr.sub f3 rfl)) (Fr.sub f4 rfl))) (mk_w_Model_checkOne_j355 hQ (Fr.trans (Fr.trans (Fr.trans (Fr.trans hf (Fr.sub f1 rfl)) (Fr.sub f2 rfl)) (Fr.sub f3 rfl)) (Fr.sub f4 rfl))))))))) (mk_w_Model_checkOne_j355 hQ (Fr.trans (Fr.trans (Fr.trans (Fr.trans hf (Fr.sub f1 rfl)) (Fr.sub f2 rfl)) (Fr.sub f3 rfl)) (Fr.sub f4 rfl)))))) (hQ _ _ (Fr.trans (Fr.trans (Fr.trans (Fr.trans hf (Fr.sub f1 rfl)) (Fr.sub f2 rfl)) (Fr.sub f3 rfl)) (Fr.sub f4 rfl))))))))) (hQ _ _ (Fr.trans (Fr.trans (Fr.trans hf (Fr.sub f1 rfl)) (Fr.sub f2 rfl)) (Fr.sub f3 rfl)))))) (hQ _ _ (Fr.trans (Fr.trans hf (Fr.sub f1 rfl)) (Fr.sub f2 rfl))))))))))) (hQ _ _ (Fr.trans hf (Fr.sub f1 rfl))))))
