/-! B: what the twin has told stays as it was while nothing is recorded: printed by ck2.py -/
def kg (f k : Nat) : Bool := (Nat.beq f 519 || Nat.beq f 114 || Nat.beq f 115 || Nat.beq f 116) || (Nat.beq f 11 && (Nat.beq k 77 || Nat.beq k 101 || Nat.beq k 102))
def K2 (n : Nat) (M M' : Mem) : Prop := mI M 11 n 77 = 0 → ∀ f k, kg f k = true → mI M' f n k = mI M f n k
theorem mf_itn {c : Prop} {_ : Decidable c} {A A' B B' : Prop} (ha : A → A') (hb : ¬ c → B → B') : (if c then A else B) → (if c then A' else B') := by
  split
  · exact ha
  · rename_i h; exact hb h
section
variable {n : Nat} {M M1 M2 : Mem} {f i k g j : Nat} {v : Int32}
theorem K2.rf (n : Nat) (M : Mem) : K2 n M M := fun _ _ _ _ => rfl
theorem K2.trans (h : K2 n M M1) (h1 : K2 n M1 M2) : K2 n M M2 := fun z f k e => (h1 ((h z 11 77 rfl).trans z) f k e).trans (h z f k e)
theorem K2.of (e : M2 = M1) (h : K2 n M M1) : K2 n M M2 := e ▸ h
theorem K2.off (q : ¬ mI M1 11 n 77 = 0) (h : K2 n M M1) : K2 n M M2 := fun z => absurd ((h z 11 77 rfl).trans z) q
theorem kg_cd (h : kg f k = true) : cd f k = 519 ∨ cd f k = 114 ∨ cd f k = 115 ∨ cd f k = 116 ∨ cd f k = 3277 ∨ cd f k = 3301 ∨ cd f k = 3302 := by
  unfold kg at h
  simp only [Bool.or_eq_true, Bool.and_eq_true] at h
  rcases h with (((e | e) | e) | e) | ⟨e, (e1 | e1) | e1⟩
  · exact Or.inl (by rw [Nat.eq_of_beq_eq_true e]; rfl)
  · exact Or.inr (Or.inl (by rw [Nat.eq_of_beq_eq_true e]; rfl))
  · exact Or.inr (Or.inr (Or.inl (by rw [Nat.eq_of_beq_eq_true e]; rfl)))
  · exact Or.inr (Or.inr (Or.inr (Or.inl (by rw [Nat.eq_of_beq_eq_true e]; rfl))))
  · exact Or.inr (Or.inr (Or.inr (Or.inr (Or.inl (by rw [Nat.eq_of_beq_eq_true e, Nat.eq_of_beq_eq_true e1]; rfl)))))
  · exact Or.inr (Or.inr (Or.inr (Or.inr (Or.inr (Or.inl (by rw [Nat.eq_of_beq_eq_true e, Nat.eq_of_beq_eq_true e1]; rfl))))))
  · exact Or.inr (Or.inr (Or.inr (Or.inr (Or.inr (Or.inr (by rw [Nat.eq_of_beq_eq_true e, Nat.eq_of_beq_eq_true e1]; rfl))))))
theorem K2.fr {S : Nat} (h : Fr S M M1) (e : S &&& 15036160406805597587327288310895819150396129515185960418942068351778150850590248934146114436270769031063739749300430181401246902006165812027496648134560999054085481515740961290093031573241769144713640954048647856551534572380500650710628667983834085616754295728340880281339965189069155100241722548277672257081963187324582460177228064844186955645880412794359026652905620852167703992450525435083398393938896729273119479122877362088694245855980745939967284883685201564823268802219118859297627610781903537812521813033594055267481791187754531969571710686530008920512841039041950768436246362492353343926078335984621910563223418445520236975945051508828250145622399040760884320015039490098985888053318296963968040343397928809676791859801695534648374045387232300718098472679328000728932633177482628129080318492708261062138048632046826045771910494720805078058521198970089279926287791945421458945760668971363544830966292778912684894125890701927448960764282041823466066221688812402173356480157511704069013504 = 0) : K2 n M M1 := fun _ f k q => by
  refine (h.1 f k ?_ n).1
  have t : ∀ b, (15036160406805597587327288310895819150396129515185960418942068351778150850590248934146114436270769031063739749300430181401246902006165812027496648134560999054085481515740961290093031573241769144713640954048647856551534572380500650710628667983834085616754295728340880281339965189069155100241722548277672257081963187324582460177228064844186955645880412794359026652905620852167703992450525435083398393938896729273119479122877362088694245855980745939967284883685201564823268802219118859297627610781903537812521813033594055267481791187754531969571710686530008920512841039041950768436246362492353343926078335984621910563223418445520236975945051508828250145622399040760884320015039490098985888053318296963968040343397928809676791859801695534648374045387232300718098472679328000728932633177482628129080318492708261062138048632046826045771910494720805078058521198970089279926287791945421458945760668971363544830966292778912684894125890701927448960764282041823466066221688812402173356480157511704069013504 : Nat).testBit b = true → S.testBit b = false := fun b hb => by
    have z : (S &&& 15036160406805597587327288310895819150396129515185960418942068351778150850590248934146114436270769031063739749300430181401246902006165812027496648134560999054085481515740961290093031573241769144713640954048647856551534572380500650710628667983834085616754295728340880281339965189069155100241722548277672257081963187324582460177228064844186955645880412794359026652905620852167703992450525435083398393938896729273119479122877362088694245855980745939967284883685201564823268802219118859297627610781903537812521813033594055267481791187754531969571710686530008920512841039041950768436246362492353343926078335984621910563223418445520236975945051508828250145622399040760884320015039490098985888053318296963968040343397928809676791859801695534648374045387232300718098472679328000728932633177482628129080318492708261062138048632046826045771910494720805078058521198970089279926287791945421458945760668971363544830966292778912684894125890701927448960764282041823466066221688812402173356480157511704069013504).testBit b = false := by rw [e]; exact Nat.zero_testBit b
    rw [Nat.testBit_and, hb, Bool.and_true] at z; exact z
  rcases kg_cd q with r | r | r | r | r | r | r <;> (rw [r]; exact t _ (by decide))
theorem kg_big (e : (Nat.ble 20 f && !(kg f 0)) = true) : kg f k = false := by
  obtain ⟨e1, e2⟩ := (Bool.and_eq_true _ _).mp e
  have e3 := Nat.le_of_ble_eq_true e1
  have n4 : Nat.beq f 11 = false := by
    rcases q : Nat.beq f 11 with _ | _
    · rfl
    · have := Nat.eq_of_beq_eq_true q; omega
  unfold kg at e2 ⊢
  rw [n4, Bool.false_and, Bool.or_false] at e2 ⊢
  rcases q : (Nat.beq f 519 || Nat.beq f 114 || Nat.beq f 115 || Nat.beq f 116) with _ | _
  · rfl
  · rw [q] at e2; cases e2
theorem K2.wJ {v : Int64} (h : K2 n M M1) : K2 n M (sJ M1 f i k v) := h
theorem K2.wR {v : Option (Nat × Nat)} (h : K2 n M M1) : K2 n M (sR M1 f i k v) := h
theorem K2.wI0 (e : kg f k = false) (h : K2 n M M1) : K2 n M (sI M1 f i k v) := h.trans (fun _ g j q => if_neg (fun z => by rw [z.1, z.2.2, e] at q; cases q))
theorem K2.wI0a (e : (Nat.ble 20 f && !(kg f 0)) = true) (h : K2 n M M1) : K2 n M (sI M1 f i k v) := h.wI0 (kg_big e)
theorem K2.wf0 (e : (Nat.ble 20 f && !(kg f 0)) = true) (h : K2 n M M1) : K2 n M (flI M1 f i v) := h.trans (fun _ g j q => if_neg (fun z => by rw [z.1, kg_big e] at q; cases q))
theorem K2.wmk {l : Nat} (e : (Nat.ble 20 f && !(kg f 0)) = true) (h : K2 n M M1) : K2 n M (mk M1 f i l) := h.trans (fun _ g j q => if_neg (fun z => by rw [z.1, kg_big e] at q; cases q))
theorem K2.wc0 {sp dp l : Nat} (e : (Nat.ble 20 g && !(kg g 0)) = true) (h : K2 n M M1) : K2 n M (cpI M1 f i sp g j dp l) := h.trans (fun _ x y q => if_neg (fun z => by rw [z.1, kg_big e] at q; cases q))
end
set_option maxRecDepth 20000 in
theorem mt_w_Model_checkOne_j514 {this : Nat} {Q Q' : Int32 → Mem → Prop} {v2 : Int32} {s0 : Int32} {M : Mem} {M0 : Mem} (hQ : ∀ z0 z1, K2 this M0 z1 → Q z0 z1 → Q' z0 z1) : K2 this M0 M → w_Model_checkOne_j514 this Q v2 s0 M → w_Model_checkOne_j514 this Q' v2 s0 M := by
  intro hf
  unfold w_Model_checkOne_j514
  exact (mf_and fun _ => (mf_ite (hQ _ _ (K2.wI0 rfl hf)) (mf_ite (hQ _ _ (K2.wI0 rfl hf)) (hQ _ _ (K2.wI0 rfl hf)))))
set_option maxRecDepth 20000 in
theorem mt_w_Model_checkOne_j513 {this : Nat} {Q Q' : Int32 → Mem → Prop} {v2 : Int32} {M : Mem} {M0 : Mem} (hQ : ∀ z0 z1, K2 this M0 z1 → Q z0 z1 → Q' z0 z1) : K2 this M0 M → w_Model_checkOne_j513 this Q v2 M → w_Model_checkOne_j513 this Q' v2 M := by
  intro hf
  unfold w_Model_checkOne_j513
  exact (mt_w_Model_checkOne_j514 hQ hf)
set_option maxRecDepth 20000 in
theorem mt_w_Model_checkOne_j458 {this : Nat} {Q Q' : Int32 → Mem → Prop} {v2 : Int32} {v5 : Int32} {v6 : Int32} {M : Mem} {M0 : Mem} (hQ : ∀ z0 z1, K2 this M0 z1 → Q z0 z1 → Q' z0 z1) : K2 this M0 M → w_Model_checkOne_j458 this Q v2 v5 v6 M → w_Model_checkOne_j458 this Q' v2 v5 v6 M := by
  intro hf
  unfold w_Model_checkOne_j458
  exact (mf_ite (mf_ite (mt_w_Model_checkOne_j513 hQ hf) (mf_ite (mt_w_Model_checkOne_j513 hQ hf) (mf_ite (mt_w_Model_checkOne_j513 hQ hf) (mf_ite (mt_w_Model_checkOne_j513 hQ hf) (mf_ite (mt_w_Model_checkOne_j513 hQ hf) (mf_ite (mt_w_Model_checkOne_j513 hQ hf) (mt_w_Model_checkOne_j514 hQ hf))))))) (hQ _ _ hf))
set_option maxRecDepth 20000 in
theorem mt_w_Model_checkOne_j345 {this : Nat} {Q Q' : Int32 → Mem → Prop} {v1 : Int32} {v2 : Int32} {v6 : Int32} {M : Mem} {M0 : Mem} (hQ : ∀ z0 z1, K2 this M0 z1 → Q z0 z1 → Q' z0 z1) : K2 this M0 M → w_Model_checkOne_j345 this Q v1 v2 v6 M → w_Model_checkOne_j345 this Q' v1 v2 v6 M := by
  intro hf
  unfold w_Model_checkOne_j345
  exact (mf_w_Model_askHandlers (fun r28 M27 f1 => (mt_w_Model_checkOne_j458 hQ (K2.trans hf (K2.fr f1 rfl)))))
set_option maxRecDepth 20000 in
theorem mt_w_Model_checkOne_L397 {this : Nat} {Q Q' : Int32 → Mem → Prop} {M0 : Mem} (hQ : ∀ z0 z1, K2 this M0 z1 → Q z0 z1 → Q' z0 z1) : ∀ (n : Nat) (v2 : Int32) (v3 : Int32) (v5 : Int32) (v6 : Int32) (v7 : Int32) (M : Mem), K2 this M0 M → w_Model_checkOne_L397 this Q n v2 v3 v5 v6 v7 M → w_Model_checkOne_L397 this Q' n v2 v3 v5 v6 v7 M
  | 0, _, _, _, _, _, _ => fun _ h => h
  | n + 1, v2, v3, v5, v6, v7, M => fun hf => by
    unfold w_Model_checkOne_L397
    exact (Exists.imp fun i47 => (mf_and fun _ => (Exists.imp fun i48 => (mf_and fun _ => (mf_and fun _ => (mf_ite (mt_w_Model_checkOne_j458 hQ hf) (mf_ite (Exists.imp fun i52 => (mf_and fun _ => (Exists.imp fun i53 => (mf_and fun _ => (Exists.imp fun i54 => (mf_and fun _ => (Exists.imp fun i55 => (mf_and fun _ => (mf_and fun _ => (Exists.imp fun i57 => (mf_and fun _ => (Exists.imp fun i58 => (mf_and fun _ => (mf_and fun _ => (mf_and fun _ => (mf_and fun _ => (mf_w_Model_goesTo (fun r63 M62 f1 => (mt_w_Model_checkOne_L397 hQ _ _ _ _ _ _ _ (K2.trans hf (K2.fr f1 rfl))))))))))))))))))))) (mt_w_Model_checkOne_j458 hQ hf))))))))
set_option maxRecDepth 20000 in
theorem mt_w_Model_checkOne_j387 {this : Nat} {Q Q' : Int32 → Mem → Prop} {v2 : Int32} {v3 : Int32} {v5 : Int32} {v6 : Int32} {M : Mem} {M0 : Mem} (hQ : ∀ z0 z1, K2 this M0 z1 → Q z0 z1 → Q' z0 z1) : K2 this M0 M → w_Model_checkOne_j387 this Q v2 v3 v5 v6 M → w_Model_checkOne_j387 this Q' v2 v3 v5 v6 M := by
  intro hf
  unfold w_Model_checkOne_j387
  exact (mf_ite (Exists.imp fun n64 => (mt_w_Model_checkOne_L397 hQ _ _ _ _ _ _ _ hf)) (mt_w_Model_checkOne_j458 hQ hf))
set_option maxRecDepth 20000 in
theorem mt_w_Model_checkOne_j355 {this : Nat} {Q Q' : Int32 → Mem → Prop} {v2 : Int32} {v3 : Int32} {v5 : Int32} {v6 : Int32} {M : Mem} {M0 : Mem} (hQ : ∀ z0 z1, K2 this M0 z1 → Q z0 z1 → Q' z0 z1) : K2 this M0 M → w_Model_checkOne_j355 this Q v2 v3 v5 v6 M → w_Model_checkOne_j355 this Q' v2 v3 v5 v6 M := by
  intro hf
  unfold w_Model_checkOne_j355
  exact (mf_ite (mt_w_Model_checkOne_j387 hQ hf) (mf_ite (mt_w_Model_checkOne_j387 hQ hf) (Exists.imp fun i66 => (mf_and fun _ => (Exists.imp fun i67 => (mf_and fun _ => (mf_and fun _ => (mf_w_Model_goesTo (fun r70 M69 f1 => (mt_w_Model_checkOne_j458 hQ (K2.trans hf (K2.fr f1 rfl))))))))))))
set_option maxRecDepth 20000 in
theorem mt_w_Model_checkOne_j219 {this : Nat} {Q Q' : Int32 → Mem → Prop} {v1 : Int32} {v2 : Int32} {v3 : Int32} {M : Mem} {M0 : Mem} (hQ : ∀ z0 z1, K2 this M0 z1 → Q z0 z1 → Q' z0 z1) : K2 this M0 M → w_Model_checkOne_j219 this Q v1 v2 v3 M → w_Model_checkOne_j219 this Q' v1 v2 v3 M := by
  intro hf
  unfold w_Model_checkOne_j219
  exact (mf_w_Model_askHandlers (fun r11 M10 f1 => (mf_ite (Exists.imp fun i13 => (mf_and fun _ => (Exists.imp fun i14 => (mf_and fun _ => (mf_and fun _ => (mf_w_Model_checkTaken (fun r17 M16 f2 => (mf_ite (mf_w_Model_checkOwn (fun r20 M19 f3 => (mf_ite (mf_w_Model_act (fun M22 f4 => (Exists.imp fun i23 => (mf_and fun _ => (mf_and fun _ => (mf_ite (mf_ite (mt_w_Model_checkOne_j345 hQ (K2.trans (K2.trans (K2.trans (K2.trans hf (K2.fr f1 rfl)) (K2.fr f2 rfl)) (K2.fr f3 rfl)) (K2.fr f4 rfl))) (mf_ite (mt_w_Model_checkOne_j345 hQ (K2.trans (K2.trans (K2.trans (K2.trans hf (K2.fr f1 rfl)) (K2.fr f2 rfl)) (K2.fr f3 rfl)) (K2.fr f4 rfl))) (mf_ite (Exists.imp fun i41 => (mf_and fun _ => (Exists.imp fun i42 => (mf_and fun _ => (mf_and fun _ => (mf_ite (mt_w_Model_checkOne_j345 hQ (K2.trans (K2.trans (K2.trans (K2.trans hf (K2.fr f1 rfl)) (K2.fr f2 rfl)) (K2.fr f3 rfl)) (K2.fr f4 rfl))) (mt_w_Model_checkOne_j355 hQ (K2.trans (K2.trans (K2.trans (K2.trans hf (K2.fr f1 rfl)) (K2.fr f2 rfl)) (K2.fr f3 rfl)) (K2.fr f4 rfl))))))))) (mt_w_Model_checkOne_j355 hQ (K2.trans (K2.trans (K2.trans (K2.trans hf (K2.fr f1 rfl)) (K2.fr f2 rfl)) (K2.fr f3 rfl)) (K2.fr f4 rfl)))))) (hQ _ _ (K2.trans (K2.trans (K2.trans (K2.trans hf (K2.fr f1 rfl)) (K2.fr f2 rfl)) (K2.fr f3 rfl)) (K2.fr f4 rfl))))))))) (hQ _ _ (K2.trans (K2.trans (K2.trans hf (K2.fr f1 rfl)) (K2.fr f2 rfl)) (K2.fr f3 rfl)))))) (hQ _ _ (K2.trans (K2.trans hf (K2.fr f1 rfl)) (K2.fr f2 rfl))))))))))) (hQ _ _ (K2.trans hf (K2.fr f1 rfl))))))
set_option maxRecDepth 20000 in
theorem mt_w_Model_checkOne_j197 {this : Nat} {Q Q' : Int32 → Mem → Prop} {v1 : Int32} {v2 : Int32} {v3 : Int32} {M : Mem} {M0 : Mem} (hQ : ∀ z0 z1, K2 this M0 z1 → Q z0 z1 → Q' z0 z1) : K2 this M0 M → w_Model_checkOne_j197 this Q v1 v2 v3 M → w_Model_checkOne_j197 this Q' v1 v2 v3 M := by
  intro hf
  unfold w_Model_checkOne_j197
  exact (mf_ite (hQ _ _ hf) (mf_itn (mt_w_Model_checkOne_j219 hQ hf) (fun q1 => (mf_w_Model_record (fun M71 f2 => (mt_w_Model_checkOne_j219 hQ (K2.off q1 hf)))))))
set_option maxRecDepth 20000 in
theorem mt_w_Model_checkOne_L151 {this : Nat} {Q Q' : Int32 → Mem → Prop} {M0 : Mem} (hQ : ∀ z0 z1, K2 this M0 z1 → Q z0 z1 → Q' z0 z1) : ∀ (n : Nat) (v1 : Int32) (v2 : Int32) (v3 : Int32) (v4 : Int32) (v6 : Int32) (M : Mem), K2 this M0 M → w_Model_checkOne_L151 this Q n v1 v2 v3 v4 v6 M → w_Model_checkOne_L151 this Q' n v1 v2 v3 v4 v6 M
  | 0, _, _, _, _, _, _ => fun _ h => h
  | n + 1, v1, v2, v3, v4, v6, M => fun hf => by
    unfold w_Model_checkOne_L151
    exact (mf_ite (mf_and fun _ => (mt_w_Model_checkOne_j197 hQ (K2.wI0 rfl hf))) (Exists.imp fun i85 => (mf_and fun _ => (Exists.imp fun i86 => (mf_and fun _ => (mf_and fun _ => (mf_w_Model_frameKind (fun r89 M88 f1 => (mf_and fun _ => (mt_w_Model_checkOne_L151 hQ _ _ _ _ _ _ _ (K2.wI0a rfl (K2.trans hf (K2.fr f1 rfl)))))))))))))
set_option maxRecDepth 20000 in
theorem mt_w_Model_checkOne_j127 {this : Nat} {Q Q' : Int32 → Mem → Prop} {k77 k77' : Int32 → Int32 → Int32 → Int32 → Int32 → Mem → Prop} {v1 : Int32} {v2 : Int32} {v3 : Int32} {v4 : Int32} {v6 : Int32} {s0 : Int32} {s1 : Int32} {M : Mem} {M0 : Mem} (hQ : ∀ z0 z1, K2 this M0 z1 → Q z0 z1 → Q' z0 z1) (hk77 : ∀ z0 z1 z2 z3 z4 z5, K2 this M0 z5 → k77 z0 z1 z2 z3 z4 z5 → k77' z0 z1 z2 z3 z4 z5) : K2 this M0 M → w_Model_checkOne_j127 this Q k77 v1 v2 v3 v4 v6 s0 s1 M → w_Model_checkOne_j127 this Q' k77' v1 v2 v3 v4 v6 s0 s1 M := by
  intro hf
  unfold w_Model_checkOne_j127
  exact (mf_and fun _ => (hk77 _ _ _ _ _ _ (K2.wI0a rfl hf)))
set_option maxRecDepth 20000 in
theorem mt_w_Model_checkOne_L77 {this : Nat} {Q Q' : Int32 → Mem → Prop} {M0 : Mem} (hQ : ∀ z0 z1, K2 this M0 z1 → Q z0 z1 → Q' z0 z1) : ∀ (n : Nat) (v1 : Int32) (v2 : Int32) (v3 : Int32) (v4 : Int32) (v6 : Int32) (M : Mem), K2 this M0 M → w_Model_checkOne_L77 this Q n v1 v2 v3 v4 v6 M → w_Model_checkOne_L77 this Q' n v1 v2 v3 v4 v6 M
  | 0, _, _, _, _, _, _ => fun _ h => h
  | n + 1, v1, v2, v3, v4, v6, M => fun hf => by
    unfold w_Model_checkOne_L77
    exact (Exists.imp fun i77 => (mf_and fun _ => (mf_and fun _ => (mf_ite (Exists.imp fun i80 => (mf_and fun _ => (Exists.imp fun i81 => (mf_and fun _ => (mf_and fun _ => (Exists.imp fun n91 => (mt_w_Model_checkOne_L151 hQ _ _ _ _ _ _ _ (K2.wI0 rfl hf)))))))) (Exists.imp fun i92 => (mf_and fun _ => (Exists.imp fun i93 => (mf_and fun _ => (mf_and fun _ => (mf_ite (mt_w_Model_checkOne_j127 hQ (mt_w_Model_checkOne_L77 hQ n) hf) (mf_w_Model_frameKind (fun r98 M97 f1 => (mt_w_Model_checkOne_j127 hQ (mt_w_Model_checkOne_L77 hQ n) (K2.trans hf (K2.fr f1 rfl)))))))))))))))
set_option maxRecDepth 20000 in
theorem mt_w_Model_checkOne_j64 {this : Nat} {Q Q' : Int32 → Mem → Prop} {v1 : Int32} {v2 : Int32} {v3 : Int32} {v4 : Int32} {s0 : Int32} {M : Mem} {M0 : Mem} (hQ : ∀ z0 z1, K2 this M0 z1 → Q z0 z1 → Q' z0 z1) : K2 this M0 M → w_Model_checkOne_j64 this Q v1 v2 v3 v4 s0 M → w_Model_checkOne_j64 this Q' v1 v2 v3 v4 s0 M := by
  intro hf
  unfold w_Model_checkOne_j64
  exact (mf_ite (Exists.imp fun n99 => (mt_w_Model_checkOne_L77 hQ _ _ _ _ _ _ _ hf)) (hQ _ _ hf))
set_option maxRecDepth 20000 in
theorem mt_w_Model_checkOne {this : Nat} {a1 : Int32} {a2 : Int32} {Q Q' : Int32 → Mem → Prop} {M : Mem} (hQ : ∀ z0 z1, K2 this M z1 → Q z0 z1 → Q' z0 z1) : w_Model_checkOne this a1 a2 Q M → w_Model_checkOne this a1 a2 Q' M := by
  unfold w_Model_checkOne
  exact (Exists.imp fun i1 => (mf_and fun _ => (mf_and fun _ => (Exists.imp fun i3 => (mf_and fun _ => (Exists.imp fun i4 => (mf_and fun _ => (mf_and fun _ => (Exists.imp fun x6 => (mf_and fun _ => (mf_ite (mt_w_Model_checkOne_j197 hQ (K2.rf this M)) (mf_w_Model_isWrongFrame (fun r73 M72 f1 => (mf_ite (mf_ite (mt_w_Model_checkOne_j64 hQ (K2.trans (K2.rf this M) (K2.fr f1 rfl))) (mf_w_Model_fitState (fun r101 M100 f2 => (mt_w_Model_checkOne_j64 hQ (K2.trans (K2.trans (K2.rf this M) (K2.fr f1 rfl)) (K2.fr f2 rfl)))))) (mt_w_Model_checkOne_j64 hQ (K2.trans (K2.rf this M) (K2.fr f1 rfl)))))))))))))))))
set_option maxRecDepth 20000 in
theorem mt_w_Model_check_j57 {this : Nat} {Q Q' : Int32 → Mem → Prop} {k22 k22' : Int32 → Int32 → Mem → Prop} {v2 : Int32} {v3 : Int32} {s0 : Int32} {s1 : Int32} {M : Mem} {M0 : Mem} (hQ : ∀ z0 z1, K2 this M0 z1 → Q z0 z1 → Q' z0 z1) (hk22 : ∀ z0 z1 z2, K2 this M0 z2 → k22 z0 z1 z2 → k22' z0 z1 z2) : K2 this M0 M → w_Model_check_j57 this Q k22 v2 v3 s0 s1 M → w_Model_check_j57 this Q' k22' v2 v3 s0 s1 M := by
  intro hf
  unfold w_Model_check_j57
  exact (mt_w_Model_checkOne (fun r12 M11 f1 => (mf_ite (hk22 _ _ _ (K2.trans hf f1)) (hQ _ _ (K2.wI0 rfl (K2.trans hf f1))))))
set_option maxRecDepth 20000 in
theorem mt_w_Model_check_L22 {this : Nat} {Q Q' : Int32 → Mem → Prop} {M0 : Mem} (hQ : ∀ z0 z1, K2 this M0 z1 → Q z0 z1 → Q' z0 z1) : ∀ (n : Nat) (v2 : Int32) (v3 : Int32) (M : Mem), K2 this M0 M → w_Model_check_L22 this Q n v2 v3 M → w_Model_check_L22 this Q' n v2 v3 M
  | 0, _, _, _ => fun _ h => h
  | n + 1, v2, v3, M => fun hf => by
    unfold w_Model_check_L22
    exact (Exists.imp fun i5 => (mf_and fun _ => (mf_and fun _ => (mf_ite (hQ _ _ hf) (Exists.imp fun i8 => (mf_and fun _ => (mf_and fun _ => (mf_ite (mt_w_Model_check_j57 hQ (mt_w_Model_check_L22 hQ n) hf) (mt_w_Model_check_j57 hQ (mt_w_Model_check_L22 hQ n) hf)))))))))
set_option maxRecDepth 20000 in
theorem mt_w_Model_check {this : Nat} {a1 : Int32} {a2 : Int32} {Q Q' : Int32 → Mem → Prop} {M : Mem} (hQ : ∀ z0 z1, K2 this M z1 → Q z0 z1 → Q' z0 z1) : w_Model_check this a1 a2 Q M → w_Model_check this a1 a2 Q' M := by
  unfold w_Model_check
  exact (Exists.imp fun i1 => (mf_and fun _ => (mf_and fun _ => (mf_ite (hQ _ _ (K2.rf this M)) (mf_w_Model_begin (fun M4 f1 => (Exists.imp fun n14 => (mt_w_Model_check_L22 hQ _ _ _ _ (K2.trans (K2.rf this M) (K2.fr f1 rfl))))))))))
set_option maxRecDepth 20000 in
theorem mt_wk_Model_linkCode_L395 {K K' : Nat → Int32 → (Int32 → Mem → Prop) → Mem → Prop} {this : Nat} {Q Q' : Int32 → Mem → Prop} {M0 : Mem} (hK : ∀ {x0 : Nat} {x1 : Int32} {x3 : Mem} {q q' : Int32 → Mem → Prop}, (∀ z0 z1, K2 x0 x3 z1 → q z0 z1 → q' z0 z1) → K x0 x1 q x3 → K' x0 x1 q' x3) (hQ : ∀ z0 z1, K2 this M0 z1 → Q z0 z1 → Q' z0 z1) : ∀ (n : Nat) (v1 : Int32) (v3 : Int32) (M : Mem), K2 this M0 M → wk_Model_linkCode_L395 K this Q n v1 v3 M → wk_Model_linkCode_L395 K' this Q' n v1 v3 M
  | 0, _, _, _ => fun _ h => h
  | n + 1, v1, v3, M => fun hf => by
    unfold wk_Model_linkCode_L395
    exact (Exists.imp fun i31 => (mf_and fun _ => (mf_and fun _ => (mf_ite (hQ _ _ hf) (mt_w_Model_check (fun r35 M34 f1 => (mf_ite (mt_wk_Model_linkCode_L395 @hK hQ _ _ _ _ (K2.trans hf f1)) (Exists.imp fun i37 => (mf_and fun _ => (mf_and fun _ => (Exists.imp fun i39 => (mf_and fun _ => (mf_and fun _ => (Exists.imp fun M41 => (mf_and fun e2 => (Exists.imp fun i42 => (mf_and fun _ => (mf_and fun _ => (hQ _ _ (K2.wI0a rfl (K2.of e2 (K2.wI0a rfl (K2.wI0a rfl (K2.trans hf f1))))))))))))))))))))))))
set_option maxRecDepth 20000 in
theorem mt_wk_Model_linkCode_j387 {K K' : Nat → Int32 → (Int32 → Mem → Prop) → Mem → Prop} {this : Nat} {Q Q' : Int32 → Mem → Prop} {k220 k220' : Int32 → Int32 → Mem → Prop} {v1 : Int32} {v3 : Int32} {M : Mem} {M0 : Mem} (hK : ∀ {x0 : Nat} {x1 : Int32} {x3 : Mem} {q q' : Int32 → Mem → Prop}, (∀ z0 z1, K2 x0 x3 z1 → q z0 z1 → q' z0 z1) → K x0 x1 q x3 → K' x0 x1 q' x3) (hQ : ∀ z0 z1, K2 this M0 z1 → Q z0 z1 → Q' z0 z1) (hk220 : ∀ z0 z1 z2, K2 this M0 z2 → k220 z0 z1 z2 → k220' z0 z1 z2) : K2 this M0 M → wk_Model_linkCode_j387 K this Q k220 v1 v3 M → wk_Model_linkCode_j387 K' this Q' k220' v1 v3 M := by
  intro hf
  unfold wk_Model_linkCode_j387
  exact (hk220 _ _ _ hf)
set_option maxRecDepth 20000 in
theorem mt_wk_Model_linkCode_j376 {K K' : Nat → Int32 → (Int32 → Mem → Prop) → Mem → Prop} {this : Nat} {Q Q' : Int32 → Mem → Prop} {k220 k220' : Int32 → Int32 → Mem → Prop} {k304 k304' : Int32 → Int32 → Int32 → Int32 → Int32 → Mem → Prop} {v1 : Int32} {v3 : Int32} {v4 : Int32} {v5 : Int32} {v6 : Int32} {M : Mem} {M0 : Mem} (hK : ∀ {x0 : Nat} {x1 : Int32} {x3 : Mem} {q q' : Int32 → Mem → Prop}, (∀ z0 z1, K2 x0 x3 z1 → q z0 z1 → q' z0 z1) → K x0 x1 q x3 → K' x0 x1 q' x3) (hQ : ∀ z0 z1, K2 this M0 z1 → Q z0 z1 → Q' z0 z1) (hk220 : ∀ z0 z1 z2, K2 this M0 z2 → k220 z0 z1 z2 → k220' z0 z1 z2) (hk304 : ∀ z0 z1 z2 z3 z4 z5, K2 this M0 z5 → k304 z0 z1 z2 z3 z4 z5 → k304' z0 z1 z2 z3 z4 z5) : K2 this M0 M → wk_Model_linkCode_j376 K this Q k220 k304 v1 v3 v4 v5 v6 M → wk_Model_linkCode_j376 K' this Q' k220' k304' v1 v3 v4 v5 v6 M := by
  intro hf
  unfold wk_Model_linkCode_j376
  exact (mf_w_Model_parentOf (fun r63 M62 f1 => (hk304 _ _ _ _ _ _ (K2.trans hf (K2.fr f1 rfl)))))
set_option maxRecDepth 20000 in
theorem mt_wk_Model_linkCode_L304 {K K' : Nat → Int32 → (Int32 → Mem → Prop) → Mem → Prop} {this : Nat} {Q Q' : Int32 → Mem → Prop} {k220 k220' : Int32 → Int32 → Mem → Prop} {M0 : Mem} (hK : ∀ {x0 : Nat} {x1 : Int32} {x3 : Mem} {q q' : Int32 → Mem → Prop}, (∀ z0 z1, K2 x0 x3 z1 → q z0 z1 → q' z0 z1) → K x0 x1 q x3 → K' x0 x1 q' x3) (hQ : ∀ z0 z1, K2 this M0 z1 → Q z0 z1 → Q' z0 z1) (hk220 : ∀ z0 z1 z2, K2 this M0 z2 → k220 z0 z1 z2 → k220' z0 z1 z2) : ∀ (n : Nat) (v1 : Int32) (v3 : Int32) (v4 : Int32) (v5 : Int32) (v6 : Int32) (M : Mem), K2 this M0 M → wk_Model_linkCode_L304 K this Q k220 n v1 v3 v4 v5 v6 M → wk_Model_linkCode_L304 K' this Q' k220' n v1 v3 v4 v5 v6 M
  | 0, _, _, _, _, _, _ => fun _ h => h
  | n + 1, v1, v3, v4, v5, v6, M => fun hf => by
    unfold wk_Model_linkCode_L304
    exact (mf_ite (mt_wk_Model_linkCode_j387 @hK hQ hk220 hf) (mf_w_Model_isOff (fun r52 M51 f1 => (mf_ite (mf_ite (mt_wk_Model_linkCode_j387 @hK hQ hk220 (K2.trans hf (K2.fr f1 rfl))) (Exists.imp fun i55 => (mf_and fun _ => (mf_and fun _ => (Exists.imp fun i57 => (mf_and fun _ => (mf_and fun _ => (mf_w_Model_methodIn (fun r60 M59 f2 => (mf_ite (mt_wk_Model_linkCode_j376 @hK hQ hk220 (mt_wk_Model_linkCode_L304 @hK hQ hk220 n) (K2.trans (K2.trans hf (K2.fr f1 rfl)) (K2.fr f2 rfl))) (Exists.imp fun i64 => (mf_and fun _ => (mf_and fun _ => (mf_ite (hQ _ _ (K2.trans (K2.trans hf (K2.fr f1 rfl)) (K2.fr f2 rfl))) (mt_wk_Model_linkCode_j376 @hK hQ hk220 (mt_wk_Model_linkCode_L304 @hK hQ hk220 n) (K2.trans (K2.trans hf (K2.fr f1 rfl)) (K2.fr f2 rfl))))))))))))))))) (mt_wk_Model_linkCode_j387 @hK hQ hk220 (K2.trans hf (K2.fr f1 rfl)))))))
set_option maxRecDepth 20000 in
theorem mt_wk_Model_linkCode_j295 {K K' : Nat → Int32 → (Int32 → Mem → Prop) → Mem → Prop} {this : Nat} {Q Q' : Int32 → Mem → Prop} {k220 k220' : Int32 → Int32 → Mem → Prop} {v1 : Int32} {v3 : Int32} {v4 : Int32} {s0 : Int32} {M : Mem} {M0 : Mem} (hK : ∀ {x0 : Nat} {x1 : Int32} {x3 : Mem} {q q' : Int32 → Mem → Prop}, (∀ z0 z1, K2 x0 x3 z1 → q z0 z1 → q' z0 z1) → K x0 x1 q x3 → K' x0 x1 q' x3) (hQ : ∀ z0 z1, K2 this M0 z1 → Q z0 z1 → Q' z0 z1) (hk220 : ∀ z0 z1 z2, K2 this M0 z2 → k220 z0 z1 z2 → k220' z0 z1 z2) : K2 this M0 M → wk_Model_linkCode_j295 K this Q k220 v1 v3 v4 s0 M → wk_Model_linkCode_j295 K' this Q' k220' v1 v3 v4 s0 M := by
  intro hf
  unfold wk_Model_linkCode_j295
  exact (mf_w_Model_parentOf (fun r49 M48 f1 => (Exists.imp fun n67 => (mt_wk_Model_linkCode_L304 @hK hQ hk220 _ _ _ _ _ _ _ (K2.trans hf (K2.fr f1 rfl))))))
set_option maxRecDepth 20000 in
theorem mt_wk_Model_linkCode_j294 {K K' : Nat → Int32 → (Int32 → Mem → Prop) → Mem → Prop} {this : Nat} {Q Q' : Int32 → Mem → Prop} {k220 k220' : Int32 → Int32 → Mem → Prop} {v1 : Int32} {v3 : Int32} {v4 : Int32} {M : Mem} {M0 : Mem} (hK : ∀ {x0 : Nat} {x1 : Int32} {x3 : Mem} {q q' : Int32 → Mem → Prop}, (∀ z0 z1, K2 x0 x3 z1 → q z0 z1 → q' z0 z1) → K x0 x1 q x3 → K' x0 x1 q' x3) (hQ : ∀ z0 z1, K2 this M0 z1 → Q z0 z1 → Q' z0 z1) (hk220 : ∀ z0 z1 z2, K2 this M0 z2 → k220 z0 z1 z2 → k220' z0 z1 z2) : K2 this M0 M → wk_Model_linkCode_j294 K this Q k220 v1 v3 v4 M → wk_Model_linkCode_j294 K' this Q' k220' v1 v3 v4 M := by
  intro hf
  unfold wk_Model_linkCode_j294
  exact (mt_wk_Model_linkCode_j295 @hK hQ hk220 hf)
set_option maxRecDepth 20000 in
theorem mt_wk_Model_linkCode_L220 {K K' : Nat → Int32 → (Int32 → Mem → Prop) → Mem → Prop} {this : Nat} {Q Q' : Int32 → Mem → Prop} {M0 : Mem} (hK : ∀ {x0 : Nat} {x1 : Int32} {x3 : Mem} {q q' : Int32 → Mem → Prop}, (∀ z0 z1, K2 x0 x3 z1 → q z0 z1 → q' z0 z1) → K x0 x1 q x3 → K' x0 x1 q' x3) (hQ : ∀ z0 z1, K2 this M0 z1 → Q z0 z1 → Q' z0 z1) : ∀ (n : Nat) (v1 : Int32) (v3 : Int32) (M : Mem), K2 this M0 M → wk_Model_linkCode_L220 K this Q n v1 v3 M → wk_Model_linkCode_L220 K' this Q' n v1 v3 M
  | 0, _, _, _ => fun _ h => h
  | n + 1, v1, v3, M => fun hf => by
    unfold wk_Model_linkCode_L220
    exact (Exists.imp fun i28 => (mf_and fun _ => (mf_and fun _ => (mf_ite (Exists.imp fun n44 => (mt_wk_Model_linkCode_L395 @hK hQ _ _ _ _ hf)) (Exists.imp fun i45 => (mf_and fun _ => (mf_and fun _ => (mf_ite (mt_wk_Model_linkCode_j294 @hK hQ (mt_wk_Model_linkCode_L220 @hK hQ n) hf) (Exists.imp fun i68 => (mf_and fun _ => (mf_and fun _ => (mf_ite (mt_wk_Model_linkCode_j294 @hK hQ (mt_wk_Model_linkCode_L220 @hK hQ n) hf) (Exists.imp fun i71 => (mf_and fun _ => (mf_and fun _ => (mf_ite (mt_wk_Model_linkCode_j295 @hK hQ (mt_wk_Model_linkCode_L220 @hK hQ n) hf) (mt_wk_Model_linkCode_j294 @hK hQ (mt_wk_Model_linkCode_L220 @hK hQ n) hf)))))))))))))))))
set_option maxRecDepth 20000 in
theorem mt_wk_Model_linkCode_L160 {K K' : Nat → Int32 → (Int32 → Mem → Prop) → Mem → Prop} {this : Nat} {Q Q' : Int32 → Mem → Prop} {M0 : Mem} (hK : ∀ {x0 : Nat} {x1 : Int32} {x3 : Mem} {q q' : Int32 → Mem → Prop}, (∀ z0 z1, K2 x0 x3 z1 → q z0 z1 → q' z0 z1) → K x0 x1 q x3 → K' x0 x1 q' x3) (hQ : ∀ z0 z1, K2 this M0 z1 → Q z0 z1 → Q' z0 z1) : ∀ (n : Nat) (v1 : Int32) (v3 : Int32) (M : Mem), K2 this M0 M → wk_Model_linkCode_L160 K this Q n v1 v3 M → wk_Model_linkCode_L160 K' this Q' n v1 v3 M
  | 0, _, _, _ => fun _ h => h
  | n + 1, v1, v3, M => fun hf => by
    unfold wk_Model_linkCode_L160
    exact (Exists.imp fun i25 => (mf_and fun _ => (mf_and fun _ => (mf_ite (Exists.imp fun n74 => (mt_wk_Model_linkCode_L220 @hK hQ _ _ _ _ hf)) (Exists.imp fun i75 => (mf_and fun _ => (mf_and fun _ => (mf_w_Model_classOf (fun r78 M77 f1 => (hK (fun r80 M79 f2 => (mf_ite (Exists.imp fun i82 => (mf_and fun _ => (mf_and fun _ => (hQ _ _ (K2.trans (K2.trans hf (K2.fr f1 rfl)) f2))))) (mt_wk_Model_linkCode_L160 @hK hQ _ _ _ _ (K2.trans (K2.trans hf (K2.fr f1 rfl)) f2))))))))))))))
set_option maxRecDepth 20000 in
theorem mt_wk_Model_linkCode_L74 {K K' : Nat → Int32 → (Int32 → Mem → Prop) → Mem → Prop} {this : Nat} {Q Q' : Int32 → Mem → Prop} {M0 : Mem} (hK : ∀ {x0 : Nat} {x1 : Int32} {x3 : Mem} {q q' : Int32 → Mem → Prop}, (∀ z0 z1, K2 x0 x3 z1 → q z0 z1 → q' z0 z1) → K x0 x1 q x3 → K' x0 x1 q' x3) (hQ : ∀ z0 z1, K2 this M0 z1 → Q z0 z1 → Q' z0 z1) : ∀ (n : Nat) (v1 : Int32) (v2 : Int32) (v3 : Int32) (M : Mem), K2 this M0 M → wk_Model_linkCode_L74 K this Q n v1 v2 v3 M → wk_Model_linkCode_L74 K' this Q' n v1 v2 v3 M
  | 0, _, _, _, _ => fun _ h => h
  | n + 1, v1, v2, v3, M => fun hf => by
    unfold wk_Model_linkCode_L74
    exact (Exists.imp fun i17 => (mf_and fun _ => (mf_and fun _ => (mf_ite (hK (fun r21 M20 f1 => (mf_ite (Exists.imp fun i23 => (mf_and fun _ => (mf_and fun _ => (hQ _ _ (K2.trans hf f1))))) (Exists.imp fun n84 => (mt_wk_Model_linkCode_L160 @hK hQ _ _ _ _ (K2.trans hf f1)))))) (Exists.imp fun i85 => (mf_and fun _ => (mf_and fun _ => (mf_w_Model_classOf (fun r88 M87 f2 => (mf_ite (Exists.imp fun i90 => (mf_and fun _ => (mf_and fun _ => (mf_ite (hQ _ _ (K2.trans hf (K2.fr f2 rfl))) (mt_wk_Model_linkCode_L74 @hK hQ _ _ _ _ _ (K2.trans hf (K2.fr f2 rfl))))))) (hQ _ _ (K2.trans hf (K2.fr f2 rfl)))))))))))))
set_option maxRecDepth 20000 in
theorem mt_wk_Model_linkCode_j72 {K K' : Nat → Int32 → (Int32 → Mem → Prop) → Mem → Prop} {this : Nat} {Q Q' : Int32 → Mem → Prop} {v1 : Int32} {v2 : Int32} {M : Mem} {M0 : Mem} (hK : ∀ {x0 : Nat} {x1 : Int32} {x3 : Mem} {q q' : Int32 → Mem → Prop}, (∀ z0 z1, K2 x0 x3 z1 → q z0 z1 → q' z0 z1) → K x0 x1 q x3 → K' x0 x1 q' x3) (hQ : ∀ z0 z1, K2 this M0 z1 → Q z0 z1 → Q' z0 z1) : K2 this M0 M → wk_Model_linkCode_j72 K this Q v1 v2 M → wk_Model_linkCode_j72 K' this Q' v1 v2 M := by
  intro hf
  unfold wk_Model_linkCode_j72
  exact (Exists.imp fun n93 => (mt_wk_Model_linkCode_L74 @hK hQ _ _ _ _ _ hf))
set_option maxRecDepth 20000 in
theorem mt_wk_Model_linkCode {K K' : Nat → Int32 → (Int32 → Mem → Prop) → Mem → Prop} {this : Nat} {a1 : Int32} {Q Q' : Int32 → Mem → Prop} {M : Mem} (hK : ∀ {x0 : Nat} {x1 : Int32} {x3 : Mem} {q q' : Int32 → Mem → Prop}, (∀ z0 z1, K2 x0 x3 z1 → q z0 z1 → q' z0 z1) → K x0 x1 q x3 → K' x0 x1 q' x3) (hQ : ∀ z0 z1, K2 this M z1 → Q z0 z1 → Q' z0 z1) : wk_Model_linkCode K this a1 Q M → wk_Model_linkCode K' this a1 Q' M := by
  unfold wk_Model_linkCode
  exact (mf_w_Model_directs (fun r2 M1 f1 => (mf_w_Model_upFrom (fun r4 M3 f2 => (mf_ite (hQ _ _ (K2.trans (K2.trans (K2.rf this M) (K2.fr f1 rfl)) (K2.fr f2 rfl))) (Exists.imp fun i6 => (mf_and fun _ => (mf_and fun _ => (mf_w_Model_classOf (fun r9 M8 f3 => (mf_ite (mf_w_Model_isOff (fun r12 M11 f4 => (mf_ite (Exists.imp fun i14 => (mf_and fun _ => (mf_and fun _ => (mf_ite (mt_wk_Model_linkCode_j72 @hK hQ (K2.trans (K2.trans (K2.trans (K2.trans (K2.rf this M) (K2.fr f1 rfl)) (K2.fr f2 rfl)) (K2.fr f3 rfl)) (K2.fr f4 rfl))) (hQ _ _ (K2.trans (K2.trans (K2.trans (K2.trans (K2.rf this M) (K2.fr f1 rfl)) (K2.fr f2 rfl)) (K2.fr f3 rfl)) (K2.fr f4 rfl))))))) (mt_wk_Model_linkCode_j72 @hK hQ (K2.trans (K2.trans (K2.trans (K2.trans (K2.rf this M) (K2.fr f1 rfl)) (K2.fr f2 rfl)) (K2.fr f3 rfl)) (K2.fr f4 rfl)))))) (hQ _ _ (K2.trans (K2.trans (K2.trans (K2.rf this M) (K2.fr f1 rfl)) (K2.fr f2 rfl)) (K2.fr f3 rfl))))))))))))))
set_option maxRecDepth 20000 in
theorem mt_wk_Model_isLinked_j36 {K K' : Nat → Int32 → (Int32 → Mem → Prop) → Mem → Prop} {this : Nat} {Q Q' : Int32 → Mem → Prop} {v1 : Int32} {M : Mem} {M0 : Mem} (hK : ∀ {x0 : Nat} {x1 : Int32} {x3 : Mem} {q q' : Int32 → Mem → Prop}, (∀ z0 z1, K2 x0 x3 z1 → q z0 z1 → q' z0 z1) → K x0 x1 q x3 → K' x0 x1 q' x3) (hQ : ∀ z0 z1, K2 this M0 z1 → Q z0 z1 → Q' z0 z1) : K2 this M0 M → wk_Model_isLinked_j36 K this Q v1 M → wk_Model_isLinked_j36 K' this Q' v1 M := by
  intro hf
  unfold wk_Model_isLinked_j36
  exact (Exists.imp fun i9 => (mf_and fun _ => (mf_and fun _ => (mf_ite (hQ _ _ hf) (hQ _ _ hf)))))
set_option maxRecDepth 20000 in
theorem mt_wk_Model_isLinked_j35 {K K' : Nat → Int32 → (Int32 → Mem → Prop) → Mem → Prop} {this : Nat} {Q Q' : Int32 → Mem → Prop} {v1 : Int32} {s0 : Int32} {s1 : Int32} {s2 : Nat} {M : Mem} {M0 : Mem} (hK : ∀ {x0 : Nat} {x1 : Int32} {x3 : Mem} {q q' : Int32 → Mem → Prop}, (∀ z0 z1, K2 x0 x3 z1 → q z0 z1 → q' z0 z1) → K x0 x1 q x3 → K' x0 x1 q' x3) (hQ : ∀ z0 z1, K2 this M0 z1 → Q z0 z1 → Q' z0 z1) : K2 this M0 M → wk_Model_isLinked_j35 K this Q v1 s0 s1 s2 M → wk_Model_isLinked_j35 K' this Q' v1 s0 s1 s2 M := by
  intro hf
  unfold wk_Model_isLinked_j35
  exact (mf_and fun _ => (mt_wk_Model_isLinked_j36 @hK hQ (K2.wI0a rfl hf)))
set_option maxRecDepth 20000 in
theorem mt_wk_Model_isLinked {K K' : Nat → Int32 → (Int32 → Mem → Prop) → Mem → Prop} {this : Nat} {a1 : Int32} {Q Q' : Int32 → Mem → Prop} {M : Mem} (hK : ∀ {x0 : Nat} {x1 : Int32} {x3 : Mem} {q q' : Int32 → Mem → Prop}, (∀ z0 z1, K2 x0 x3 z1 → q z0 z1 → q' z0 z1) → K x0 x1 q x3 → K' x0 x1 q' x3) (hQ : ∀ z0 z1, K2 this M z1 → Q z0 z1 → Q' z0 z1) : wk_Model_isLinked K this a1 Q M → wk_Model_isLinked K' this a1 Q' M := by
  unfold wk_Model_isLinked
  exact (Exists.imp fun i1 => (mf_and fun _ => (mf_and fun _ => (mf_ite (mt_wk_Model_linkCode @hK (fun r5 M4 f1 => (Exists.imp fun i6 => (mf_and fun _ => (mf_ite (mt_wk_Model_isLinked_j35 @hK hQ (K2.trans (K2.rf this M) f1)) (mt_wk_Model_isLinked_j35 @hK hQ (K2.trans (K2.rf this M) f1))))))) (mt_wk_Model_isLinked_j36 @hK hQ (K2.rf this M))))))
set_option maxRecDepth 20000 in
theorem mt_wr_Model_isLinked : ∀ (n : Nat) {x0 : Nat} {x1 : Int32} {x3 : Mem} {Q Q' : Int32 → Mem → Prop}, (∀ z0 z1, K2 x0 x3 z1 → Q z0 z1 → Q' z0 z1) → wr_Model_isLinked n x0 x1 Q x3 → wr_Model_isLinked n x0 x1 Q' x3
  | 0 => fun _ h => h
  | n + 1 => fun hq => mt_wk_Model_isLinked (fun hq => mt_wr_Model_isLinked n hq) hq
set_option maxRecDepth 20000 in
theorem mt_w_Model_isLinked {this : Nat} {a1 : Int32} {Q Q' : Int32 → Mem → Prop} {M : Mem} (hQ : ∀ z0 z1, K2 this M z1 → Q z0 z1 → Q' z0 z1) : w_Model_isLinked this a1 Q M → w_Model_isLinked this a1 Q' M := by
  unfold w_Model_isLinked
  exact (Exists.imp fun n => (mf_and fun _ => (mt_wr_Model_isLinked _ (fun z2 z3 f1 => hQ z2 z3 (K2.trans (K2.rf this M) f1)))))
set_option maxRecDepth 20000 in
theorem mt_w_Model_findLinked {this : Nat} {a1 : Int32} {Q Q' : Int32 → Mem → Prop} {M : Mem} (hQ : ∀ z0 z1, K2 this M z1 → Q z0 z1 → Q' z0 z1) : w_Model_findLinked this a1 Q M → w_Model_findLinked this a1 Q' M := by
  unfold w_Model_findLinked
  exact (mf_w_Model_classOf (fun r2 M1 f1 => (mf_ite (mt_w_Model_isLinked (fun r5 M4 f2 => (mf_ite (Exists.imp fun i7 => (mf_and fun _ => (mf_and fun _ => (mf_and fun _ => (Exists.imp fun i10 => (mf_and fun _ => (mf_and fun _ => (mf_and fun _ => (mf_w_Model_fails (fun r14 M13 f3 => (hQ _ _ (K2.trans (K2.trans (K2.trans (K2.rf this M) (K2.fr f1 rfl)) f2) (K2.fr f3 rfl))))))))))))) (hQ _ _ (K2.trans (K2.trans (K2.rf this M) (K2.fr f1 rfl)) f2))))) (mf_w_Model_fails (fun r16 M15 f4 => (hQ _ _ (K2.trans (K2.trans (K2.rf this M) (K2.fr f1 rfl)) (K2.fr f4 rfl))))))))
set_option maxRecDepth 20000 in
theorem mt_w_Model_findField_j297 {this : Nat} {Q Q' : Int32 → Mem → Prop} {M : Mem} {M0 : Mem} (hQ : ∀ z0 z1, K2 this M0 z1 → Q z0 z1 → Q' z0 z1) : K2 this M0 M → w_Model_findField_j297 this Q M → w_Model_findField_j297 this Q' M := by
  intro hf
  unfold w_Model_findField_j297
  exact (mf_w_Model_fails (fun r37 M36 f1 => (hQ _ _ (K2.trans hf (K2.fr f1 rfl)))))
set_option maxRecDepth 20000 in
theorem mt_w_Model_findField_j294 {this : Nat} {Q Q' : Int32 → Mem → Prop} {v5 : Int32} {s0 : Int32} {s1 : Int32} {M : Mem} {M0 : Mem} (hQ : ∀ z0 z1, K2 this M0 z1 → Q z0 z1 → Q' z0 z1) : K2 this M0 M → w_Model_findField_j294 this Q v5 s0 s1 M → w_Model_findField_j294 this Q' v5 s0 s1 M := by
  intro hf
  unfold w_Model_findField_j294
  exact (mf_ite (hQ _ _ hf) (mt_w_Model_findField_j297 hQ hf))
set_option maxRecDepth 20000 in
theorem mt_w_Model_findField_j241 {this : Nat} {Q Q' : Int32 → Mem → Prop} {v3 : Int32} {v5 : Int32} {v7 : Int32} {v8 : Int32} {v9 : Int32} {s0 : Int32} {M : Mem} {M0 : Mem} (hQ : ∀ z0 z1, K2 this M0 z1 → Q z0 z1 → Q' z0 z1) : K2 this M0 M → w_Model_findField_j241 this Q v3 v5 v7 v8 v9 s0 M → w_Model_findField_j241 this Q' v3 v5 v7 v8 v9 s0 M := by
  intro hf
  unfold w_Model_findField_j241
  exact (mf_w_Model_isOff (fun r27 M26 f1 => (mf_ite (mf_ite (hQ _ _ (K2.trans hf (K2.fr f1 rfl))) (mf_ite (hQ _ _ (K2.trans hf (K2.fr f1 rfl))) (mf_ite (Exists.imp fun i32 => (mf_and fun _ => (mf_and fun _ => (mf_ite (mt_w_Model_findField_j294 hQ (K2.trans hf (K2.fr f1 rfl))) (mt_w_Model_findField_j294 hQ (K2.trans hf (K2.fr f1 rfl))))))) (mt_w_Model_findField_j297 hQ (K2.trans hf (K2.fr f1 rfl)))))) (hQ _ _ (K2.trans hf (K2.fr f1 rfl))))))
set_option maxRecDepth 20000 in
theorem mt_w_Model_findField_j236 {this : Nat} {Q Q' : Int32 → Mem → Prop} {v3 : Int32} {v5 : Int32} {v7 : Int32} {v8 : Int32} {v9 : Int32} {M : Mem} {M0 : Mem} (hQ : ∀ z0 z1, K2 this M0 z1 → Q z0 z1 → Q' z0 z1) : K2 this M0 M → w_Model_findField_j236 this Q v3 v5 v7 v8 v9 M → w_Model_findField_j236 this Q' v3 v5 v7 v8 v9 M := by
  intro hf
  unfold w_Model_findField_j236
  exact (mt_w_Model_findField_j241 hQ hf)
set_option maxRecDepth 20000 in
theorem mt_w_Model_findField_j224 {this : Nat} {Q Q' : Int32 → Mem → Prop} {v1 : Int32} {v3 : Int32} {v5 : Int32} {v7 : Int32} {v8 : Int32} {v9 : Int32} {M : Mem} {M0 : Mem} (hQ : ∀ z0 z1, K2 this M0 z1 → Q z0 z1 → Q' z0 z1) : K2 this M0 M → w_Model_findField_j224 this Q v1 v3 v5 v7 v8 v9 M → w_Model_findField_j224 this Q' v1 v3 v5 v7 v8 v9 M := by
  intro hf
  unfold w_Model_findField_j224
  exact (mf_ite (mt_w_Model_findField_j236 hQ hf) (mf_ite (mt_w_Model_findField_j236 hQ hf) (mt_w_Model_findField_j241 hQ hf)))
set_option maxRecDepth 20000 in
theorem mt_w_Model_findField_j215 {this : Nat} {Q Q' : Int32 → Mem → Prop} {M : Mem} {M0 : Mem} (hQ : ∀ z0 z1, K2 this M0 z1 → Q z0 z1 → Q' z0 z1) : K2 this M0 M → w_Model_findField_j215 this Q M → w_Model_findField_j215 this Q' M := by
  intro hf
  unfold w_Model_findField_j215
  exact (mf_w_Model_fails (fun r40 M39 f1 => (hQ _ _ (K2.trans hf (K2.fr f1 rfl)))))
set_option maxRecDepth 20000 in
theorem mt_w_Model_findField_j190 {this : Nat} {Q Q' : Int32 → Mem → Prop} {v1 : Int32} {v3 : Int32} {v5 : Int32} {v6 : Int32} {v7 : Int32} {v8 : Int32} {v9 : Int32} {s0 : Int32} {M : Mem} {M0 : Mem} (hQ : ∀ z0 z1, K2 this M0 z1 → Q z0 z1 → Q' z0 z1) : K2 this M0 M → w_Model_findField_j190 this Q v1 v3 v5 v6 v7 v8 v9 s0 M → w_Model_findField_j190 this Q' v1 v3 v5 v6 v7 v8 v9 s0 M := by
  intro hf
  unfold w_Model_findField_j190
  exact (mf_ite (mf_ite (Exists.imp fun i22 => (mf_and fun _ => (mf_and fun _ => (mf_ite (mt_w_Model_findField_j224 hQ hf) (mt_w_Model_findField_j215 hQ hf))))) (mt_w_Model_findField_j224 hQ hf)) (mt_w_Model_findField_j215 hQ hf))
set_option maxRecDepth 20000 in
theorem mt_w_Model_findField_j178 {this : Nat} {Q Q' : Int32 → Mem → Prop} {v1 : Int32} {v3 : Int32} {v5 : Int32} {v6 : Int32} {v7 : Int32} {v8 : Int32} {v9 : Int32} {M : Mem} {M0 : Mem} (hQ : ∀ z0 z1, K2 this M0 z1 → Q z0 z1 → Q' z0 z1) : K2 this M0 M → w_Model_findField_j178 this Q v1 v3 v5 v6 v7 v8 v9 M → w_Model_findField_j178 this Q' v1 v3 v5 v6 v7 v8 v9 M := by
  intro hf
  unfold w_Model_findField_j178
  exact (mf_ite (mt_w_Model_findField_j190 hQ hf) (mt_w_Model_findField_j190 hQ hf))
set_option maxRecDepth 20000 in
theorem mt_w_Model_findField_j147 {this : Nat} {Q Q' : Int32 → Mem → Prop} {v1 : Int32} {v3 : Int32} {v5 : Int32} {v6 : Int32} {v7 : Int32} {v8 : Int32} {s0 : Int32} {M : Mem} {M0 : Mem} (hQ : ∀ z0 z1, K2 this M0 z1 → Q z0 z1 → Q' z0 z1) : K2 this M0 M → w_Model_findField_j147 this Q v1 v3 v5 v6 v7 v8 s0 M → w_Model_findField_j147 this Q' v1 v3 v5 v6 v7 v8 s0 M := by
  intro hf
  unfold w_Model_findField_j147
  exact (mf_w_Model_isOff (fun r16 M15 f1 => (mf_ite (mf_ite (mt_w_Model_findField_j178 hQ (K2.trans hf (K2.fr f1 rfl))) (mf_ite (mt_w_Model_findField_j178 hQ (K2.trans hf (K2.fr f1 rfl))) (mf_w_Model_fails (fun r43 M42 f2 => (hQ _ _ (K2.trans (K2.trans hf (K2.fr f1 rfl)) (K2.fr f2 rfl))))))) (mt_w_Model_findField_j178 hQ (K2.trans hf (K2.fr f1 rfl))))))
set_option maxRecDepth 20000 in
theorem mt_w_Model_findField_j131 {this : Nat} {Q Q' : Int32 → Mem → Prop} {v1 : Int32} {v3 : Int32} {v5 : Int32} {v6 : Int32} {v7 : Int32} {s0 : Int32} {M : Mem} {M0 : Mem} (hQ : ∀ z0 z1, K2 this M0 z1 → Q z0 z1 → Q' z0 z1) : K2 this M0 M → w_Model_findField_j131 this Q v1 v3 v5 v6 v7 s0 M → w_Model_findField_j131 this Q' v1 v3 v5 v6 v7 s0 M := by
  intro hf
  unfold w_Model_findField_j131
  exact (mf_and fun _ => (mf_ite (mt_w_Model_findField_j147 hQ hf) (mt_w_Model_findField_j147 hQ hf)))
set_option maxRecDepth 20000 in
theorem mt_w_Model_findField_j126 {this : Nat} {Q Q' : Int32 → Mem → Prop} {v1 : Int32} {v3 : Int32} {v5 : Int32} {v6 : Int32} {v7 : Int32} {M : Mem} {M0 : Mem} (hQ : ∀ z0 z1, K2 this M0 z1 → Q z0 z1 → Q' z0 z1) : K2 this M0 M → w_Model_findField_j126 this Q v1 v3 v5 v6 v7 M → w_Model_findField_j126 this Q' v1 v3 v5 v6 v7 M := by
  intro hf
  unfold w_Model_findField_j126
  exact (mt_w_Model_findField_j131 hQ hf)
set_option maxRecDepth 20000 in
theorem mt_w_Model_findField_j81 {this : Nat} {Q Q' : Int32 → Mem → Prop} {v1 : Int32} {v3 : Int32} {v5 : Int32} {M : Mem} {M0 : Mem} (hQ : ∀ z0 z1, K2 this M0 z1 → Q z0 z1 → Q' z0 z1) : K2 this M0 M → w_Model_findField_j81 this Q v1 v3 v5 M → w_Model_findField_j81 this Q' v1 v3 v5 M := by
  intro hf
  unfold w_Model_findField_j81
  exact (mf_ite (mf_and fun _ => (Exists.imp fun i10 => (mf_and fun _ => (mf_and fun _ => (mf_ite (mt_w_Model_findField_j126 hQ hf) (mf_ite (mt_w_Model_findField_j126 hQ hf) (mt_w_Model_findField_j131 hQ hf))))))) (mf_w_Model_fails (fun r46 M45 f1 => (hQ _ _ (K2.trans hf (K2.fr f1 rfl))))))
set_option maxRecDepth 20000 in
theorem mt_w_Model_findField_L34 {this : Nat} {Q Q' : Int32 → Mem → Prop} {M0 : Mem} (hQ : ∀ z0 z1, K2 this M0 z1 → Q z0 z1 → Q' z0 z1) : ∀ (n : Nat) (v1 : Int32) (v2 : Int32) (v3 : Int32) (v5 : Int32) (v6 : Int32) (M : Mem), K2 this M0 M → w_Model_findField_L34 this Q n v1 v2 v3 v5 v6 M → w_Model_findField_L34 this Q' n v1 v2 v3 v5 v6 M
  | 0, _, _, _, _, _, _ => fun _ h => h
  | n + 1, v1, v2, v3, v5, v6, M => fun hf => by
    unfold w_Model_findField_L34
    exact (mf_ite (mt_w_Model_findField_j81 hQ hf) (mf_ite (mt_w_Model_findField_j81 hQ hf) (Exists.imp fun i48 => (mf_and fun _ => (Exists.imp fun i49 => (mf_and fun _ => (mf_and fun _ => (Exists.imp fun i51 => (mf_and fun _ => (Exists.imp fun i52 => (mf_and fun _ => (mf_and fun _ => (mf_w_Model_fieldByFaces (fun r55 M54 f1 => (mf_w_Model_parentOf (fun r57 M56 f2 => (mt_w_Model_findField_L34 hQ _ _ _ _ _ _ _ (K2.trans (K2.trans hf (K2.fr f1 rfl)) (K2.fr f2 rfl)))))))))))))))))))
set_option maxRecDepth 20000 in
theorem mt_w_Model_findField {this : Nat} {a1 : Int32} {a2 : Int32} {a3 : Int32} {Q Q' : Int32 → Mem → Prop} {M : Mem} (hQ : ∀ z0 z1, K2 this M z1 → Q z0 z1 → Q' z0 z1) : w_Model_findField this a1 a2 a3 Q M → w_Model_findField this a1 a2 a3 Q' M := by
  unfold w_Model_findField
  exact (Exists.imp fun i1 => (mf_and fun _ => (Exists.imp fun i2 => (mf_and fun _ => (mf_and fun _ => (mt_w_Model_findLinked (fun r5 M4 f1 => (mf_ite (Exists.imp fun n58 => (mt_w_Model_findField_L34 hQ _ _ _ _ _ _ _ (K2.wJ (K2.trans (K2.rf this M) f1)))) (hQ _ _ (K2.trans (K2.rf this M) f1))))))))))
set_option maxRecDepth 20000 in
theorem mt_w_Model_findMethod_j58 {this : Nat} {Q Q' : Int32 → Mem → Prop} {M : Mem} {M0 : Mem} (hQ : ∀ z0 z1, K2 this M0 z1 → Q z0 z1 → Q' z0 z1) : K2 this M0 M → w_Model_findMethod_j58 this Q M → w_Model_findMethod_j58 this Q' M := by
  intro hf
  unfold w_Model_findMethod_j58
  exact (mf_w_Model_fails (fun r12 M11 f1 => (hQ _ _ (K2.trans hf (K2.fr f1 rfl)))))
set_option maxRecDepth 20000 in
theorem mt_w_Model_findMethod_j282 {this : Nat} {Q Q' : Int32 → Mem → Prop} {v8 : Int32} {v9 : Int32} {M : Mem} {M0 : Mem} (hQ : ∀ z0 z1, K2 this M0 z1 → Q z0 z1 → Q' z0 z1) : K2 this M0 M → w_Model_findMethod_j282 this Q v8 v9 M → w_Model_findMethod_j282 this Q' v8 v9 M := by
  intro hf
  unfold w_Model_findMethod_j282
  exact (mf_ite (hQ _ _ hf) (mf_w_Model_fails (fun r28 M27 f1 => (hQ _ _ (K2.trans hf (K2.fr f1 rfl))))))
set_option maxRecDepth 20000 in
theorem mt_w_Model_findMethod_j251 {this : Nat} {Q Q' : Int32 → Mem → Prop} {v1 : Int32} {v8 : Int32} {v9 : Int32} {s0 : Int32} {s1 : Int32} {M : Mem} {M0 : Mem} (hQ : ∀ z0 z1, K2 this M0 z1 → Q z0 z1 → Q' z0 z1) : K2 this M0 M → w_Model_findMethod_j251 this Q v1 v8 v9 s0 s1 M → w_Model_findMethod_j251 this Q' v1 v8 v9 s0 s1 M := by
  intro hf
  unfold w_Model_findMethod_j251
  exact (mf_ite (mf_ite (mt_w_Model_findMethod_j282 hQ hf) (mf_ite (mt_w_Model_findMethod_j282 hQ hf) (mf_ite (hQ _ _ hf) (mt_w_Model_findMethod_j282 hQ hf)))) (mf_w_Model_fails (fun r32 M31 f1 => (hQ _ _ (K2.trans hf (K2.fr f1 rfl))))))
set_option maxRecDepth 20000 in
theorem mt_w_Model_findMethod_j240 {this : Nat} {Q Q' : Int32 → Mem → Prop} {v1 : Int32} {v8 : Int32} {v9 : Int32} {s0 : Int32} {M : Mem} {M0 : Mem} (hQ : ∀ z0 z1, K2 this M0 z1 → Q z0 z1 → Q' z0 z1) : K2 this M0 M → w_Model_findMethod_j240 this Q v1 v8 v9 s0 M → w_Model_findMethod_j240 this Q' v1 v8 v9 s0 M := by
  intro hf
  unfold w_Model_findMethod_j240
  exact (mf_ite (mt_w_Model_findMethod_j251 hQ hf) (mt_w_Model_findMethod_j251 hQ hf))
set_option maxRecDepth 20000 in
theorem mt_w_Model_findMethod_j228 {this : Nat} {Q Q' : Int32 → Mem → Prop} {v1 : Int32} {v8 : Int32} {v9 : Int32} {M : Mem} {M0 : Mem} (hQ : ∀ z0 z1, K2 this M0 z1 → Q z0 z1 → Q' z0 z1) : K2 this M0 M → w_Model_findMethod_j228 this Q v1 v8 v9 M → w_Model_findMethod_j228 this Q' v1 v8 v9 M := by
  intro hf
  unfold w_Model_findMethod_j228
  exact (mf_ite (mt_w_Model_findMethod_j240 hQ hf) (mt_w_Model_findMethod_j240 hQ hf))
set_option maxRecDepth 20000 in
theorem mt_w_Model_findMethod_j161 {this : Nat} {Q Q' : Int32 → Mem → Prop} {v1 : Int32} {v5 : Int32} {v8 : Int32} {M : Mem} {M0 : Mem} (hQ : ∀ z0 z1, K2 this M0 z1 → Q z0 z1 → Q' z0 z1) : K2 this M0 M → w_Model_findMethod_j161 this Q v1 v5 v8 M → w_Model_findMethod_j161 this Q' v1 v5 v8 M := by
  intro hf
  unfold w_Model_findMethod_j161
  exact (mf_ite (Exists.imp fun i16 => (mf_and fun _ => (mf_and fun _ => (mf_w_Model_isOff (fun r19 M18 f1 => (mf_ite (mf_ite (mt_w_Model_findMethod_j228 hQ (K2.trans hf (K2.fr f1 rfl))) (mf_ite (mt_w_Model_findMethod_j228 hQ (K2.trans hf (K2.fr f1 rfl))) (mf_and fun _ => (mf_ite (mt_w_Model_findMethod_j228 hQ (K2.trans hf (K2.fr f1 rfl))) (mf_w_Model_fails (fun r37 M36 f2 => (hQ _ _ (K2.trans (K2.trans hf (K2.fr f1 rfl)) (K2.fr f2 rfl))))))))) (mt_w_Model_findMethod_j228 hQ (K2.trans hf (K2.fr f1 rfl))))))))) (mf_w_Model_fails (fun r39 M38 f3 => (hQ _ _ (K2.trans hf (K2.fr f3 rfl))))))
set_option maxRecDepth 20000 in
theorem mt_w_Model_findMethod_j128 {this : Nat} {Q Q' : Int32 → Mem → Prop} {v1 : Int32} {v3 : Int32} {v4 : Int32} {v5 : Int32} {v6 : Int32} {v8 : Int32} {M : Mem} {M0 : Mem} (hQ : ∀ z0 z1, K2 this M0 z1 → Q z0 z1 → Q' z0 z1) : K2 this M0 M → w_Model_findMethod_j128 this Q v1 v3 v4 v5 v6 v8 M → w_Model_findMethod_j128 this Q' v1 v3 v4 v5 v6 v8 M := by
  intro hf
  unfold w_Model_findMethod_j128
  exact (mf_ite (mt_w_Model_findMethod_j161 hQ hf) (mf_ite (mt_w_Model_findMethod_j161 hQ hf) (mf_ite (mt_w_Model_findMethod_j161 hQ hf) (mf_w_Model_inFaces (fun r43 M42 f1 => (mt_w_Model_findMethod_j161 hQ (K2.trans hf (K2.fr f1 rfl))))))))
set_option maxRecDepth 20000 in
theorem mt_w_Model_findMethod_j123 {this : Nat} {Q Q' : Int32 → Mem → Prop} {k75 k75' : Int32 → Int32 → Int32 → Int32 → Int32 → Int32 → Int32 → Mem → Prop} {v1 : Int32} {v3 : Int32} {v4 : Int32} {v5 : Int32} {v6 : Int32} {v8 : Int32} {s0 : Int32} {M : Mem} {M0 : Mem} (hQ : ∀ z0 z1, K2 this M0 z1 → Q z0 z1 → Q' z0 z1) (hk75 : ∀ z0 z1 z2 z3 z4 z5 z6 z7, K2 this M0 z7 → k75 z0 z1 z2 z3 z4 z5 z6 z7 → k75' z0 z1 z2 z3 z4 z5 z6 z7) : K2 this M0 M → w_Model_findMethod_j123 this Q k75 v1 v3 v4 v5 v6 v8 s0 M → w_Model_findMethod_j123 this Q' k75' v1 v3 v4 v5 v6 v8 s0 M := by
  intro hf
  unfold w_Model_findMethod_j123
  exact (hk75 _ _ _ _ _ _ _ _ hf)
set_option maxRecDepth 20000 in
theorem mt_w_Model_findMethod_L75 {this : Nat} {Q Q' : Int32 → Mem → Prop} {M0 : Mem} (hQ : ∀ z0 z1, K2 this M0 z1 → Q z0 z1 → Q' z0 z1) : ∀ (n : Nat) (v1 : Int32) (v3 : Int32) (v4 : Int32) (v5 : Int32) (v6 : Int32) (v8 : Int32) (v9 : Int32) (M : Mem), K2 this M0 M → w_Model_findMethod_L75 this Q n v1 v3 v4 v5 v6 v8 v9 M → w_Model_findMethod_L75 this Q' n v1 v3 v4 v5 v6 v8 v9 M
  | 0, _, _, _, _, _, _, _, _ => fun _ h => h
  | n + 1, v1, v3, v4, v5, v6, v8, v9, M => fun hf => by
    unfold w_Model_findMethod_L75
    exact (mf_ite (mt_w_Model_findMethod_j128 hQ hf) (mf_ite (mt_w_Model_findMethod_j128 hQ hf) (mf_ite (mt_w_Model_findMethod_j128 hQ hf) (mf_w_Model_methodIn (fun r47 M46 f1 => (mf_ite (mt_w_Model_findMethod_j123 hQ (mt_w_Model_findMethod_L75 hQ n) (K2.trans hf (K2.fr f1 rfl))) (mf_w_Model_parentOf (fun r50 M49 f2 => (mt_w_Model_findMethod_j123 hQ (mt_w_Model_findMethod_L75 hQ n) (K2.trans (K2.trans hf (K2.fr f1 rfl)) (K2.fr f2 rfl)))))))))))
set_option maxRecDepth 20000 in
theorem mt_w_Model_findMethod_j67 {this : Nat} {Q Q' : Int32 → Mem → Prop} {v1 : Int32} {v3 : Int32} {v4 : Int32} {v5 : Int32} {v6 : Int32} {M : Mem} {M0 : Mem} (hQ : ∀ z0 z1, K2 this M0 z1 → Q z0 z1 → Q' z0 z1) : K2 this M0 M → w_Model_findMethod_j67 this Q v1 v3 v4 v5 v6 M → w_Model_findMethod_j67 this Q' v1 v3 v4 v5 v6 M := by
  intro hf
  unfold w_Model_findMethod_j67
  exact (Exists.imp fun n51 => (mt_w_Model_findMethod_L75 hQ _ _ _ _ _ _ _ _ _ hf))
set_option maxRecDepth 20000 in
theorem mt_w_Model_findMethod_j47 {this : Nat} {Q Q' : Int32 → Mem → Prop} {v1 : Int32} {v3 : Int32} {v4 : Int32} {v5 : Int32} {v6 : Int32} {v7 : Int32} {M : Mem} {M0 : Mem} (hQ : ∀ z0 z1, K2 this M0 z1 → Q z0 z1 → Q' z0 z1) : K2 this M0 M → w_Model_findMethod_j47 this Q v1 v3 v4 v5 v6 v7 M → w_Model_findMethod_j47 this Q' v1 v3 v4 v5 v6 v7 M := by
  intro hf
  unfold w_Model_findMethod_j47
  exact (mf_ite (mf_ite (mt_w_Model_findMethod_j58 hQ hf) (mt_w_Model_findMethod_j67 hQ hf)) (mt_w_Model_findMethod_j67 hQ hf))
set_option maxRecDepth 20000 in
theorem mt_w_Model_findMethod_j34 {this : Nat} {Q Q' : Int32 → Mem → Prop} {v1 : Int32} {v3 : Int32} {v4 : Int32} {v5 : Int32} {v6 : Int32} {s0 : Int32} {M : Mem} {M0 : Mem} (hQ : ∀ z0 z1, K2 this M0 z1 → Q z0 z1 → Q' z0 z1) : K2 this M0 M → w_Model_findMethod_j34 this Q v1 v3 v4 v5 v6 s0 M → w_Model_findMethod_j34 this Q' v1 v3 v4 v5 v6 s0 M := by
  intro hf
  unfold w_Model_findMethod_j34
  exact (mf_ite (mf_ite (mt_w_Model_findMethod_j47 hQ hf) (mt_w_Model_findMethod_j58 hQ hf)) (mt_w_Model_findMethod_j47 hQ hf))
set_option maxRecDepth 20000 in
theorem mt_w_Model_findMethod {this : Nat} {a1 : Int32} {a2 : Int32} {a3 : Int32} {a4 : Int32} {a5 : Int32} {Q Q' : Int32 → Mem → Prop} {M : Mem} (hQ : ∀ z0 z1, K2 this M z1 → Q z0 z1 → Q' z0 z1) : w_Model_findMethod this a1 a2 a3 a4 a5 Q M → w_Model_findMethod this a1 a2 a3 a4 a5 Q' M := by
  unfold w_Model_findMethod
  exact (mt_w_Model_findLinked (fun r2 M1 f1 => (mf_ite (Exists.imp fun i4 => (mf_and fun _ => (mf_and fun _ => (mf_ite (mt_w_Model_findMethod_j34 hQ (K2.trans (K2.rf this M) f1)) (mt_w_Model_findMethod_j34 hQ (K2.trans (K2.rf this M) f1)))))) (hQ _ _ (K2.trans (K2.rf this M) f1)))))
set_option maxRecDepth 20000 in
theorem mt_w_Model_startOf_j228 {this : Nat} {Q Q' : Int32 → Mem → Prop} {k180 k180' : Int32 → Int32 → Mem → Prop} {v1 : Int32} {v2 : Int32} {M : Mem} {M0 : Mem} (hQ : ∀ z0 z1, K2 this M0 z1 → Q z0 z1 → Q' z0 z1) (hk180 : ∀ z0 z1 z2, K2 this M0 z2 → k180 z0 z1 z2 → k180' z0 z1 z2) : K2 this M0 M → w_Model_startOf_j228 this Q k180 v1 v2 M → w_Model_startOf_j228 this Q' k180' v1 v2 M := by
  intro hf
  unfold w_Model_startOf_j228
  exact (hk180 _ _ _ hf)
set_option maxRecDepth 20000 in
theorem mt_w_Model_startOf_L180 {this : Nat} {Q Q' : Int32 → Mem → Prop} {M0 : Mem} (hQ : ∀ z0 z1, K2 this M0 z1 → Q z0 z1 → Q' z0 z1) : ∀ (n : Nat) (v1 : Int32) (v2 : Int32) (M : Mem), K2 this M0 M → w_Model_startOf_L180 this Q n v1 v2 M → w_Model_startOf_L180 this Q' n v1 v2 M
  | 0, _, _, _ => fun _ h => h
  | n + 1, v1, v2, M => fun hf => by
    unfold w_Model_startOf_L180
    exact (Exists.imp fun i23 => (mf_and fun _ => (mf_and fun _ => (mf_ite (Exists.imp fun i26 => (mf_and fun _ => (Exists.imp fun i27 => (mf_and fun _ => (mf_and fun _ => (Exists.imp fun i29 => (mf_and fun _ => (Exists.imp fun i30 => (mf_and fun _ => (mf_and fun _ => (Exists.imp fun M32 => (mf_and fun e1 => (Exists.imp fun i33 => (mf_and fun _ => (mf_w_Model_note (fun M34 f2 => (hQ _ _ (K2.trans (K2.wI0 rfl (K2.of e1 (K2.wI0a rfl (K2.wI0a rfl hf)))) (K2.fr f2 rfl))))))))))))))))))) (Exists.imp fun i35 => (mf_and fun _ => (mf_and fun _ => (mf_ite (mt_w_Model_startOf_j228 hQ (mt_w_Model_startOf_L180 hQ n) hf) (Exists.imp fun i38 => (mf_and fun _ => (Exists.imp fun i39 => (mf_and fun _ => (mf_and fun _ => (mf_and fun _ => (mt_w_Model_startOf_j228 hQ (mt_w_Model_startOf_L180 hQ n) (K2.wI0a rfl hf))))))))))))))))
set_option maxRecDepth 20000 in
theorem mt_w_Model_startOf {this : Nat} {a1 : Int32} {Q Q' : Int32 → Mem → Prop} {M : Mem} (hQ : ∀ z0 z1, K2 this M z1 → Q z0 z1 → Q' z0 z1) : w_Model_startOf this a1 Q M → w_Model_startOf this a1 Q' M := by
  unfold w_Model_startOf
  exact (Exists.imp fun i1 => (mf_and fun _ => (mf_and fun _ => (mf_ite (Exists.imp fun i46 => (mf_and fun _ => (mf_and fun _ => (mf_ite (hQ _ _ (K2.rf this M)) (Exists.imp fun i49 => (mf_and fun _ => (hQ _ _ (K2.wI0 rfl (K2.rf this M))))))))) (mf_ite (hQ _ _ (K2.rf this M)) (mf_ite (hQ _ _ (K2.wI0 rfl (K2.wI0 rfl (K2.rf this M)))) (mt_w_Model_isLinked (fun r4 M3 f1 => (mf_ite (Exists.imp fun i6 => (mf_and fun _ => (mf_and fun _ => (mf_and fun _ => (Exists.imp fun i9 => (mf_and fun _ => (mf_and fun _ => (mf_and fun _ => (Exists.imp fun M12 => (mf_and fun e2 => (hQ _ _ (K2.of e2 (K2.wI0 rfl (K2.wI0 rfl (K2.trans (K2.rf this M) f1))))))))))))))) (Exists.imp fun i13 => (mf_and fun _ => (mf_and fun _ => (Exists.imp fun i15 => (mf_and fun _ => (mf_and fun _ => (Exists.imp fun M17 => (mf_and fun e3 => (Exists.imp fun i18 => (mf_and fun _ => (Exists.imp fun i19 => (mf_and fun _ => (mf_and fun _ => (Exists.imp fun i21 => (mf_and fun _ => (Exists.imp fun M22 => (mf_and fun e4 => (Exists.imp fun n42 => (mt_w_Model_startOf_L180 hQ _ _ _ _ (K2.of e4 (K2.wI0 rfl (K2.wI0a rfl (K2.of e3 (K2.wI0a rfl (K2.wI0a rfl (K2.trans (K2.rf this M) f1)))))))))))))))))))))))))))))))))))
set_option maxRecDepth 20000 in
theorem mt_w_Model_startOn_j78 {this : Nat} {Q Q' : Int32 → Mem → Prop} {v1 : Int32} {v2 : Int32} {M : Mem} {M0 : Mem} (hQ : ∀ z0 z1, K2 this M0 z1 → Q z0 z1 → Q' z0 z1) : K2 this M0 M → w_Model_startOn_j78 this Q v1 v2 M → w_Model_startOn_j78 this Q' v1 v2 M := by
  intro hf
  unfold w_Model_startOn_j78
  exact (mf_w_Model_methodIn (fun r16 M15 f1 => (mf_ite (Exists.imp fun i18 => (mf_and fun _ => (mf_and fun _ => (Exists.imp fun i20 => (mf_and fun _ => (mf_ite (mf_w_Model_throwNew (fun M22 f2 => (hQ _ _ (K2.trans (K2.wI0a rfl (K2.trans hf (K2.fr f1 rfl))) (K2.fr f2 rfl))))) (mf_w_Model_newFrame (fun M23 f3 => (hQ _ _ (K2.trans (K2.wI0a rfl (K2.trans hf (K2.fr f1 rfl))) (K2.fr f3 rfl))))))))))) (mf_w_Model_endStart (fun M24 f4 => (hQ _ _ (K2.trans (K2.trans hf (K2.fr f1 rfl)) (K2.fr f4 rfl))))))))
set_option maxRecDepth 20000 in
theorem mt_w_Model_startOn_j63 {this : Nat} {Q Q' : Int32 → Mem → Prop} {v1 : Int32} {v2 : Int32} {v3 : Int32} {M : Mem} {M0 : Mem} (hQ : ∀ z0 z1, K2 this M0 z1 → Q z0 z1 → Q' z0 z1) : K2 this M0 M → w_Model_startOn_j63 this Q v1 v2 v3 M → w_Model_startOn_j63 this Q' v1 v2 v3 M := by
  intro hf
  unfold w_Model_startOn_j63
  exact (mf_ite (mt_w_Model_startOn_j78 hQ hf) (mf_ite (hQ _ _ hf) (hQ _ _ hf)))
set_option maxRecDepth 20000 in
theorem mt_w_Model_startOn {this : Nat} {Q Q' : Int32 → Mem → Prop} {M : Mem} (hQ : ∀ z0 z1, K2 this M z1 → Q z0 z1 → Q' z0 z1) : w_Model_startOn this Q M → w_Model_startOn this Q' M := by
  unfold w_Model_startOn
  exact (Exists.imp fun i1 => (mf_and fun _ => (Exists.imp fun i2 => (mf_and fun _ => (mf_and fun _ => (Exists.imp fun x4 => (mf_and fun _ => (Exists.imp fun i5 => (mf_and fun _ => (mf_and fun _ => (mf_ite (mf_w_Model_parentOf (fun r9 M8 f1 => (mt_w_Model_startOf (fun r11 M10 f2 => (mf_ite (mf_w_Model_throwNew (fun M13 f3 => (mt_w_Model_startOn_j63 hQ (K2.trans (K2.trans (K2.trans (K2.rf this M) (K2.fr f1 rfl)) f2) (K2.fr f3 rfl))))) (mt_w_Model_startOn_j63 hQ (K2.trans (K2.trans (K2.rf this M) (K2.fr f1 rfl)) f2))))))) (mt_w_Model_startOn_j78 hQ (K2.rf this M)))))))))))))
set_option maxRecDepth 20000 in
theorem mt_w_Model_fieldStep_j164 {this : Nat} {Q Q' : Int32 → Mem → Prop} {v1 : Int32} {M : Mem} {M0 : Mem} (hQ : ∀ z0 z1, K2 this M0 z1 → Q z0 z1 → Q' z0 z1) : K2 this M0 M → w_Model_fieldStep_j164 this Q v1 M → w_Model_fieldStep_j164 this Q' v1 M := by
  intro hf
  unfold w_Model_fieldStep_j164
  exact (Exists.imp fun i17 => (mf_and fun _ => (mf_and fun _ => (mf_and fun _ => (Exists.imp fun M20 => (mf_and fun e1 => (hQ _ _ (K2.of e1 (K2.wI0a rfl hf)))))))))
set_option maxRecDepth 20000 in
theorem mt_w_Model_fieldStep_j65 {this : Nat} {Q Q' : Int32 → Mem → Prop} {v1 : Int32} {v4 : Int32} {v5 : Int32} {v6 : Int32} {M : Mem} {M0 : Mem} (hQ : ∀ z0 z1, K2 this M0 z1 → Q z0 z1 → Q' z0 z1) : K2 this M0 M → w_Model_fieldStep_j65 this Q v1 v4 v5 v6 M → w_Model_fieldStep_j65 this Q' v1 v4 v5 v6 M := by
  intro hf
  unfold w_Model_fieldStep_j65
  exact (mf_and fun _ => (mt_w_Model_startOf (fun r10 M9 f1 => (mf_ite (mf_w_Model_tally (fun M12 f2 => (mf_ite (Exists.imp fun i14 => (mf_and fun _ => (mf_and fun _ => (mf_w_Model_push (fun M16 f3 => (mt_w_Model_fieldStep_j164 hQ (K2.trans (K2.trans (K2.trans hf f1) (K2.fr f2 rfl)) (K2.fr f3 rfl)))))))) (Exists.imp fun i21 => (mf_and fun _ => (mf_w_Model_pop (fun r23 M22 f4 => (mf_and fun _ => (mt_w_Model_fieldStep_j164 hQ (K2.wI0a rfl (K2.trans (K2.trans (K2.trans hf f1) (K2.fr f2 rfl)) (K2.fr f4 rfl)))))))))))) (mf_ite (mf_w_Model_throwsAt (fun r27 M26 f5 => (hQ _ _ (K2.trans (K2.trans hf f1) (K2.fr f5 rfl))))) (mf_ite (hQ _ _ (K2.trans hf f1)) (hQ _ _ (K2.trans hf f1))))))))
set_option maxRecDepth 20000 in
theorem mt_w_Model_fieldStep_j281 {this : Nat} {Q Q' : Int32 → Mem → Prop} {v1 : Int32} {M : Mem} {M0 : Mem} (hQ : ∀ z0 z1, K2 this M0 z1 → Q z0 z1 → Q' z0 z1) : K2 this M0 M → w_Model_fieldStep_j281 this Q v1 M → w_Model_fieldStep_j281 this Q' v1 M := by
  intro hf
  unfold w_Model_fieldStep_j281
  exact (Exists.imp fun i46 => (mf_and fun _ => (mf_and fun _ => (mf_and fun _ => (Exists.imp fun M49 => (mf_and fun e1 => (hQ _ _ (K2.of e1 (K2.wI0a rfl hf)))))))))
set_option maxRecDepth 20000 in
theorem mt_w_Model_fieldStep_j201 {this : Nat} {Q Q' : Int32 → Mem → Prop} {v1 : Int32} {v4 : Int32} {v5 : Int32} {v6 : Int32} {s0 : Int32} {M : Mem} {M0 : Mem} (hQ : ∀ z0 z1, K2 this M0 z1 → Q z0 z1 → Q' z0 z1) : K2 this M0 M → w_Model_fieldStep_j201 this Q v1 v4 v5 v6 s0 M → w_Model_fieldStep_j201 this Q' v1 v4 v5 v6 s0 M := by
  intro hf
  unfold w_Model_fieldStep_j201
  exact (mf_w_Model_pop (fun r35 M34 f1 => (mf_ite (mf_w_Model_throwNew (fun M37 f2 => (hQ _ _ (K2.trans (K2.trans hf (K2.fr f1 rfl)) (K2.fr f2 rfl))))) (Exists.imp fun i38 => (mf_and fun _ => (mf_and fun _ => (mf_w_Model_slotOf (fun r41 M40 f3 => (mf_ite (Exists.imp fun i43 => (mf_and fun _ => (mf_and fun _ => (Exists.imp fun M45 => (mf_and fun e4 => (mt_w_Model_fieldStep_j281 hQ (K2.of e4 (K2.wI0a rfl (K2.trans (K2.trans hf (K2.fr f1 rfl)) (K2.fr f3 rfl)))))))))) (Exists.imp fun i50 => (mf_and fun _ => (mf_and fun _ => (mf_w_Model_push (fun M52 f5 => (mt_w_Model_fieldStep_j281 hQ (K2.trans (K2.trans (K2.trans hf (K2.fr f1 rfl)) (K2.fr f3 rfl)) (K2.fr f5 rfl)))))))))))))))))
set_option maxRecDepth 20000 in
theorem mt_w_Model_fieldStep_j49 {this : Nat} {Q Q' : Int32 → Mem → Prop} {v1 : Int32} {v4 : Int32} {v5 : Int32} {s0 : Int32} {M : Mem} {M0 : Mem} (hQ : ∀ z0 z1, K2 this M0 z1 → Q z0 z1 → Q' z0 z1) : K2 this M0 M → w_Model_fieldStep_j49 this Q v1 v4 v5 s0 M → w_Model_fieldStep_j49 this Q' v1 v4 v5 s0 M := by
  intro hf
  unfold w_Model_fieldStep_j49
  exact (mf_ite (mt_w_Model_fieldStep_j65 hQ hf) (mf_ite (mt_w_Model_fieldStep_j65 hQ hf) (mf_w_Model_tally (fun M30 f1 => (mf_ite (mf_w_Model_pop (fun r33 M32 f2 => (mt_w_Model_fieldStep_j201 hQ (K2.trans (K2.trans hf (K2.fr f1 rfl)) (K2.fr f2 rfl))))) (mt_w_Model_fieldStep_j201 hQ (K2.trans hf (K2.fr f1 rfl))))))))
set_option maxRecDepth 20000 in
theorem mt_w_Model_fieldStep {this : Nat} {a1 : Int32} {a2 : Int32} {a3 : Int32} {a4 : Int32} {Q Q' : Int32 → Mem → Prop} {M : Mem} (hQ : ∀ z0 z1, K2 this M z1 → Q z0 z1 → Q' z0 z1) : w_Model_fieldStep this a1 a2 a3 a4 Q M → w_Model_fieldStep this a1 a2 a3 a4 Q' M := by
  unfold w_Model_fieldStep
  exact (mt_w_Model_findField (fun r2 M1 f1 => (mf_ite (Exists.imp fun i4 => (mf_and fun _ => (mf_and fun _ => (mf_ite (mt_w_Model_fieldStep_j49 hQ (K2.trans (K2.rf this M) f1)) (mt_w_Model_fieldStep_j49 hQ (K2.trans (K2.rf this M) f1)))))) (mf_w_Model_throwsAt (fun r54 M53 f2 => (hQ _ _ (K2.trans (K2.trans (K2.rf this M) f1) (K2.fr f2 rfl))))))))
set_option maxRecDepth 20000 in
theorem mt_w_Model_callStep_L402 {this : Nat} {Q Q' : Int32 → Mem → Prop} {M0 : Mem} (hQ : ∀ z0 z1, K2 this M0 z1 → Q z0 z1 → Q' z0 z1) : ∀ (n : Nat) (v9 : Int32) (v10 : Int32) (v11 : Int32) (v12 : Int32) (M : Mem), K2 this M0 M → w_Model_callStep_L402 this Q n v9 v10 v11 v12 M → w_Model_callStep_L402 this Q' n v9 v10 v11 v12 M
  | 0, _, _, _, _, _ => fun _ h => h
  | n + 1, v9, v10, v11, v12, M => fun hf => by
    unfold w_Model_callStep_L402
    exact (mf_ite (hQ _ _ hf) (Exists.imp fun i38 => (mf_and fun _ => (Exists.imp fun i39 => (mf_and fun _ => (mf_and fun _ => (mf_and fun _ => (Exists.imp fun M42 => (mf_and fun e1 => (Exists.imp fun i43 => (mf_and fun _ => (Exists.imp fun i44 => (mf_and fun _ => (mf_and fun _ => (mf_and fun _ => (Exists.imp fun M47 => (mf_and fun e2 => (mt_w_Model_callStep_L402 hQ _ _ _ _ _ _ (K2.of e2 (K2.wI0a rfl (K2.of e1 (K2.wI0a rfl hf))))))))))))))))))))))
set_option maxRecDepth 20000 in
theorem mt_w_Model_callStep_j311 {this : Nat} {Q Q' : Int32 → Mem → Prop} {v1 : Int32} {v7 : Int32} {v9 : Int32} {v10 : Int32} {M : Mem} {M0 : Mem} (hQ : ∀ z0 z1, K2 this M0 z1 → Q z0 z1 → Q' z0 z1) : K2 this M0 M → w_Model_callStep_j311 this Q v1 v7 v9 v10 M → w_Model_callStep_j311 this Q' v1 v7 v9 v10 M := by
  intro hf
  unfold w_Model_callStep_j311
  exact (mf_and fun _ => (mf_ite (Exists.imp fun i30 => (mf_and fun _ => (mf_ite (mf_w_Model_throwNew (fun M32 f1 => (hQ _ _ (K2.trans hf (K2.fr f1 rfl))))) (Exists.imp fun i33 => (mf_and fun _ => (mf_and fun _ => (mf_and fun _ => (mf_w_Model_newFrame (fun M36 f2 => (Exists.imp fun n48 => (mt_w_Model_callStep_L402 hQ _ _ _ _ _ _ (K2.trans (K2.wI0a rfl hf) (K2.fr f2 rfl))))))))))))) (Exists.imp fun i49 => (mf_and fun _ => (mf_and fun _ => (mf_and fun _ => (Exists.imp fun i52 => (mf_and fun _ => (mf_and fun _ => (mf_and fun _ => (Exists.imp fun M55 => (mf_and fun e3 => (hQ _ _ (K2.of e3 (K2.wI0a rfl (K2.wI0a rfl hf))))))))))))))))
set_option maxRecDepth 20000 in
theorem mt_w_Model_callStep_j276 {this : Nat} {Q Q' : Int32 → Mem → Prop} {v1 : Int32} {v5 : Int32} {v6 : Int32} {v9 : Int32} {v10 : Int32} {v11 : Int32} {M : Mem} {M0 : Mem} (hQ : ∀ z0 z1, K2 this M0 z1 → Q z0 z1 → Q' z0 z1) : K2 this M0 M → w_Model_callStep_j276 this Q v1 v5 v6 v9 v10 v11 M → w_Model_callStep_j276 this Q' v1 v5 v6 v9 v10 v11 M := by
  intro hf
  unfold w_Model_callStep_j276
  exact (mf_w_Model_classOfRef (fun r77 M76 f1 => (mf_w_Model_dispatch (fun r79 M78 f2 => (mf_ite (mt_w_Model_callStep_j311 hQ (K2.trans (K2.trans hf (K2.fr f1 rfl)) (K2.fr f2 rfl))) (mf_w_Model_throwNew (fun M81 f3 => (hQ _ _ (K2.trans (K2.trans (K2.trans hf (K2.fr f1 rfl)) (K2.fr f2 rfl)) (K2.fr f3 rfl))))))))))
set_option maxRecDepth 20000 in
theorem mt_w_Model_callStep_j154 {this : Nat} {Q Q' : Int32 → Mem → Prop} {v1 : Int32} {v3 : Int32} {v4 : Int32} {v5 : Int32} {v6 : Int32} {v7 : Int32} {s0 : Int32} {s1 : Int32} {M : Mem} {M0 : Mem} (hQ : ∀ z0 z1, K2 this M0 z1 → Q z0 z1 → Q' z0 z1) : K2 this M0 M → w_Model_callStep_j154 this Q v1 v3 v4 v5 v6 v7 s0 s1 M → w_Model_callStep_j154 this Q' v1 v3 v4 v5 v6 v7 s0 s1 M := by
  intro hf
  unfold w_Model_callStep_j154
  exact (Exists.imp fun i24 => (mf_and fun _ => (mf_and fun _ => (Exists.imp fun x26 => (mf_and fun _ => (mf_ite (mt_w_Model_callStep_j311 hQ hf) (Exists.imp fun i56 => (mf_and fun _ => (mf_and fun _ => (mf_ite (mf_w_Model_throwNew (fun M59 f1 => (hQ _ _ (K2.trans hf (K2.fr f1 rfl))))) (mf_ite (mt_w_Model_callStep_j311 hQ hf) (Exists.imp fun i61 => (mf_and fun _ => (mf_and fun _ => (mf_ite (mf_ite (mf_w_Model_classOfRef (fun r66 M65 f2 => (Exists.imp fun i67 => (mf_and fun _ => (Exists.imp fun i68 => (mf_and fun _ => (mf_and fun _ => (mf_w_Model_classOf (fun r71 M70 f3 => (mf_w_Model_isBelow (fun r73 M72 f4 => (mf_ite (mf_w_Model_throwNew (fun M75 f5 => (hQ _ _ (K2.trans (K2.trans (K2.trans (K2.trans hf (K2.fr f2 rfl)) (K2.fr f3 rfl)) (K2.fr f4 rfl)) (K2.fr f5 rfl))))) (mt_w_Model_callStep_j276 hQ (K2.trans (K2.trans (K2.trans hf (K2.fr f2 rfl)) (K2.fr f3 rfl)) (K2.fr f4 rfl))))))))))))))) (mt_w_Model_callStep_j276 hQ hf)) (mt_w_Model_callStep_j311 hQ hf))))))))))))))))
set_option maxRecDepth 20000 in
theorem mt_w_Model_callStep_j134 {this : Nat} {Q Q' : Int32 → Mem → Prop} {v1 : Int32} {v3 : Int32} {v4 : Int32} {v5 : Int32} {v6 : Int32} {v7 : Int32} {v8 : Int32} {M : Mem} {M0 : Mem} (hQ : ∀ z0 z1, K2 this M0 z1 → Q z0 z1 → Q' z0 z1) : K2 this M0 M → w_Model_callStep_j134 this Q v1 v3 v4 v5 v6 v7 v8 M → w_Model_callStep_j134 this Q' v1 v3 v4 v5 v6 v7 v8 M := by
  intro hf
  unfold w_Model_callStep_j134
  exact (mf_w_Model_tally (fun M22 f1 => (mf_ite (mt_w_Model_callStep_j154 hQ (K2.trans hf (K2.fr f1 rfl))) (mt_w_Model_callStep_j154 hQ (K2.trans hf (K2.fr f1 rfl))))))
set_option maxRecDepth 20000 in
theorem mt_w_Model_callStep {this : Nat} {a1 : Int32} {a2 : Int32} {a3 : Int32} {a4 : Int32} {Q Q' : Int32 → Mem → Prop} {M : Mem} (hQ : ∀ z0 z1, K2 this M z1 → Q z0 z1 → Q' z0 z1) : w_Model_callStep this a1 a2 a3 a4 Q M → w_Model_callStep this a1 a2 a3 a4 Q' M := by
  unfold w_Model_callStep
  exact (Exists.imp fun i1 => (mf_and fun _ => (Exists.imp fun i2 => (mf_and fun _ => (mf_and fun _ => (Exists.imp fun i4 => (mf_and fun _ => (Exists.imp fun i5 => (mf_and fun _ => (mf_and fun _ => (Exists.imp fun i7 => (mf_and fun _ => (Exists.imp fun i8 => (mf_and fun _ => (mf_and fun _ => (mf_and fun _ => (mt_w_Model_findMethod (fun r12 M11 f1 => (mf_ite (Exists.imp fun i14 => (mf_and fun _ => (mf_and fun _ => (Exists.imp fun x16 => (mf_and fun _ => (mf_ite (mf_and fun _ => (mt_w_Model_startOf (fun r20 M19 f2 => (mf_ite (mt_w_Model_callStep_j134 hQ (K2.trans (K2.trans (K2.rf this M) f1) f2)) (mf_ite (mf_w_Model_throwsAt (fun r84 M83 f3 => (hQ _ _ (K2.trans (K2.trans (K2.trans (K2.rf this M) f1) f2) (K2.fr f3 rfl))))) (mf_ite (hQ _ _ (K2.trans (K2.trans (K2.rf this M) f1) f2)) (hQ _ _ (K2.trans (K2.trans (K2.rf this M) f1) f2)))))))) (mt_w_Model_callStep_j134 hQ (K2.trans (K2.rf this M) f1)))))))) (mf_w_Model_throwsAt (fun r87 M86 f4 => (hQ _ _ (K2.trans (K2.trans (K2.rf this M) f1) (K2.fr f4 rfl))))))))))))))))))))))))
set_option maxRecDepth 20000 in
theorem mt_w_Model_newStep_j51 {this : Nat} {Q Q' : Int32 → Mem → Prop} {v1 : Int32} {v3 : Int32} {M : Mem} {M0 : Mem} (hQ : ∀ z0 z1, K2 this M0 z1 → Q z0 z1 → Q' z0 z1) : K2 this M0 M → w_Model_newStep_j51 this Q v1 v3 M → w_Model_newStep_j51 this Q' v1 v3 M := by
  intro hf
  unfold w_Model_newStep_j51
  exact (mf_ite (mt_w_Model_startOf (fun r9 M8 f1 => (mf_ite (mf_w_Model_tally (fun M11 f2 => (mf_w_Model_fieldsOf (fun r13 M12 f3 => (mf_w_Model_newThing (fun r15 M14 f4 => (mf_ite (mf_w_Model_push (fun M17 f5 => (Exists.imp fun i18 => (mf_and fun _ => (mf_and fun _ => (mf_and fun _ => (Exists.imp fun M21 => (mf_and fun e6 => (hQ _ _ (K2.of e6 (K2.wI0a rfl (K2.trans (K2.trans (K2.trans (K2.trans (K2.trans hf f1) (K2.fr f2 rfl)) (K2.fr f3 rfl)) (K2.fr f4 rfl)) (K2.fr f5 rfl))))))))))))) (mf_w_Model_throwNew (fun M22 f7 => (hQ _ _ (K2.trans (K2.trans (K2.trans (K2.trans (K2.trans hf f1) (K2.fr f2 rfl)) (K2.fr f3 rfl)) (K2.fr f4 rfl)) (K2.fr f7 rfl)))))))))))) (mf_ite (mf_w_Model_throwsAt (fun r25 M24 f8 => (hQ _ _ (K2.trans (K2.trans hf f1) (K2.fr f8 rfl))))) (mf_ite (hQ _ _ (K2.trans hf f1)) (hQ _ _ (K2.trans hf f1))))))) (mf_w_Model_throwsAt (fun r28 M27 f9 => (hQ _ _ (K2.trans hf (K2.fr f9 rfl))))))
set_option maxRecDepth 20000 in
theorem mt_w_Model_newStep {this : Nat} {a1 : Int32} {a2 : Int32} {Q Q' : Int32 → Mem → Prop} {M : Mem} (hQ : ∀ z0 z1, K2 this M z1 → Q z0 z1 → Q' z0 z1) : w_Model_newStep this a1 a2 Q M → w_Model_newStep this a1 a2 Q' M := by
  unfold w_Model_newStep
  exact (Exists.imp fun i1 => (mf_and fun _ => (Exists.imp fun i2 => (mf_and fun _ => (mf_and fun _ => (mt_w_Model_findLinked (fun r5 M4 f1 => (mf_ite (mt_w_Model_newStep_j51 hQ (K2.trans (K2.rf this M) f1)) (mf_w_Model_isOff (fun r30 M29 f2 => (mf_ite (Exists.imp fun i32 => (mf_and fun _ => (mf_and fun _ => (mf_ite (mt_w_Model_newStep_j51 hQ (K2.trans (K2.trans (K2.rf this M) f1) (K2.fr f2 rfl))) (mf_w_Model_fails (fun r36 M35 f3 => (mt_w_Model_newStep_j51 hQ (K2.trans (K2.trans (K2.trans (K2.rf this M) f1) (K2.fr f2 rfl)) (K2.fr f3 rfl))))))))) (mt_w_Model_newStep_j51 hQ (K2.trans (K2.trans (K2.rf this M) f1) (K2.fr f2 rfl))))))))))))))
set_option maxRecDepth 20000 in
theorem mt_w_Model_instruction_j135 {this : Nat} {Q Q' : Int32 → Mem → Prop} {v1 : Int32} {v3 : Int32} {v4 : Int32} {M : Mem} {M0 : Mem} (hQ : ∀ z0 z1, K2 this M0 z1 → Q z0 z1 → Q' z0 z1) : K2 this M0 M → w_Model_instruction_j135 this Q v1 v3 v4 M → w_Model_instruction_j135 this Q' v1 v3 v4 M := by
  intro hf
  unfold w_Model_instruction_j135
  exact (mf_w_Model_classStep (fun r22 M21 f1 => (hQ _ _ (K2.trans hf (K2.fr f1 rfl)))))
set_option maxRecDepth 20000 in
theorem mt_w_Model_instruction_j158 {this : Nat} {Q Q' : Int32 → Mem → Prop} {v1 : Int32} {v4 : Int32} {M : Mem} {M0 : Mem} (hQ : ∀ z0 z1, K2 this M0 z1 → Q z0 z1 → Q' z0 z1) : K2 this M0 M → w_Model_instruction_j158 this Q v1 v4 M → w_Model_instruction_j158 this Q' v1 v4 M := by
  intro hf
  unfold w_Model_instruction_j158
  exact (mf_w_Model_lockStep (fun r26 M25 f1 => (hQ _ _ (K2.trans hf (K2.fr f1 rfl)))))
set_option maxRecDepth 20000 in
theorem mt_w_Model_instruction_j726 {this : Nat} {Q Q' : Int32 → Mem → Prop} {v1 : Int32} {M : Mem} {M0 : Mem} (hQ : ∀ z0 z1, K2 this M0 z1 → Q z0 z1 → Q' z0 z1) : K2 this M0 M → w_Model_instruction_j726 this Q v1 M → w_Model_instruction_j726 this Q' v1 M := by
  intro hf
  unfold w_Model_instruction_j726
  exact (Exists.imp fun i34 => (mf_and fun _ => (mf_and fun _ => (mf_and fun _ => (Exists.imp fun M37 => (mf_and fun e1 => (hQ _ _ (K2.of e1 (K2.wI0a rfl hf)))))))))
set_option maxRecDepth 20000 in
theorem mt_w_Model_instruction_j219 {this : Nat} {Q Q' : Int32 → Mem → Prop} {v1 : Int32} {v3 : Int32} {v4 : Int32} {M : Mem} {M0 : Mem} (hQ : ∀ z0 z1, K2 this M0 z1 → Q z0 z1 → Q' z0 z1) : K2 this M0 M → w_Model_instruction_j219 this Q v1 v3 v4 M → w_Model_instruction_j219 this Q' v1 v3 v4 M := by
  intro hf
  unfold w_Model_instruction_j219
  exact (Exists.imp fun i31 => (mf_and fun _ => (Exists.imp fun i32 => (mf_and fun _ => (mf_and fun _ => (mf_ite (mf_w_Model_push (fun M148 f1 => (mt_w_Model_instruction_j726 hQ (K2.trans hf (K2.fr f1 rfl))))) (mf_ite (mf_w_Model_push (fun M147 f2 => (mt_w_Model_instruction_j726 hQ (K2.trans hf (K2.fr f2 rfl))))) (mf_ite (Exists.imp fun i144 => (mf_and fun _ => (mf_and fun _ => (mf_w_Model_push (fun M146 f3 => (mt_w_Model_instruction_j726 hQ (K2.trans hf (K2.fr f3 rfl)))))))) (mf_ite (Exists.imp fun i141 => (mf_and fun _ => (mf_and fun _ => (mf_w_Model_push (fun M143 f4 => (mt_w_Model_instruction_j726 hQ (K2.trans hf (K2.fr f4 rfl)))))))) (mf_ite (Exists.imp fun i133 => (mf_and fun _ => (mf_w_Model_pop (fun r135 M134 f5 => (mf_and fun _ => (Exists.imp fun M137 => (mf_and fun e6 => (Exists.imp fun i138 => (mf_and fun _ => (mf_and fun _ => (Exists.imp fun M140 => (mf_and fun e7 => (mt_w_Model_instruction_j726 hQ (K2.of e7 (K2.wI0a rfl (K2.of e6 (K2.wI0a rfl (K2.trans hf (K2.fr f5 rfl))))))))))))))))))) (mf_ite (Exists.imp fun i125 => (mf_and fun _ => (mf_w_Model_pop (fun r127 M126 f8 => (mf_and fun _ => (Exists.imp fun M129 => (mf_and fun e9 => (Exists.imp fun i130 => (mf_and fun _ => (mf_and fun _ => (Exists.imp fun M132 => (mf_and fun e10 => (mt_w_Model_instruction_j726 hQ (K2.of e10 (K2.wI0a rfl (K2.of e9 (K2.wI0a rfl (K2.trans hf (K2.fr f8 rfl))))))))))))))))))) (mf_ite (Exists.imp fun i118 => (mf_and fun _ => (mf_and fun _ => (Exists.imp fun i120 => (mf_and fun _ => (Exists.imp fun i121 => (mf_and fun _ => (mf_and fun _ => (mf_and fun _ => (Exists.imp fun M124 => (mf_and fun e11 => (mt_w_Model_instruction_j726 hQ (K2.of e11 (K2.wI0a rfl hf)))))))))))))) (mf_ite (mt_w_Model_instruction_j726 hQ hf) (mf_ite (mt_w_Model_instruction_j726 hQ hf) (mf_ite (mt_w_Model_instruction_j726 hQ hf) (mf_ite (mt_w_Model_instruction_j726 hQ hf) (mf_ite (mt_w_Model_instruction_j726 hQ hf) (mf_ite (mt_w_Model_instruction_j726 hQ hf) (mf_ite (mt_w_Model_instruction_j726 hQ hf) (mf_ite (mt_w_Model_instruction_j726 hQ hf) (mf_ite (mt_w_Model_instruction_j726 hQ hf) (mf_ite (mt_w_Model_instruction_j726 hQ hf) (mf_ite (mt_w_Model_instruction_j726 hQ hf) (mf_ite (mf_w_Model_pop (fun r117 M116 f12 => (mt_w_Model_instruction_j726 hQ (K2.trans hf (K2.fr f12 rfl))))) (mf_ite (mf_w_Model_turnStep (fun M115 f13 => (mt_w_Model_instruction_j726 hQ (K2.trans hf (K2.fr f13 rfl))))) (mf_ite (mf_w_Model_turnStep (fun M114 f14 => (mt_w_Model_instruction_j726 hQ (K2.trans hf (K2.fr f14 rfl))))) (mf_ite (mf_w_Model_turnStep (fun M113 f15 => (mt_w_Model_instruction_j726 hQ (K2.trans hf (K2.fr f15 rfl))))) (mf_ite (mt_w_Model_instruction_j726 hQ hf) (mf_ite (mt_w_Model_instruction_j726 hQ hf) (mf_ite (mt_w_Model_instruction_j726 hQ hf) (mf_ite (mt_w_Model_instruction_j726 hQ hf) (mf_ite (mt_w_Model_instruction_j726 hQ hf) (mf_ite (mt_w_Model_instruction_j726 hQ hf) (mf_ite (mt_w_Model_instruction_j726 hQ hf) (mf_ite (mt_w_Model_instruction_j726 hQ hf) (mf_ite (mt_w_Model_instruction_j726 hQ hf) (mf_ite (mt_w_Model_instruction_j726 hQ hf) (mf_ite (mt_w_Model_instruction_j726 hQ hf) (mf_ite (mt_w_Model_instruction_j726 hQ hf) (mf_ite (mt_w_Model_instruction_j726 hQ hf) (mf_ite (mt_w_Model_instruction_j726 hQ hf) (mf_ite (mt_w_Model_instruction_j726 hQ hf) (mf_ite (mt_w_Model_instruction_j726 hQ hf) (mf_ite (mt_w_Model_instruction_j726 hQ hf) (mf_ite (mt_w_Model_instruction_j726 hQ hf) (mf_ite (mt_w_Model_instruction_j726 hQ hf) (mf_ite (mf_w_Model_rowStep (fun M112 f16 => (hQ _ _ (K2.trans hf (K2.fr f16 rfl))))) (mf_ite (mf_w_Model_rowStep (fun M111 f17 => (hQ _ _ (K2.trans hf (K2.fr f17 rfl))))) (mf_ite (mf_w_Model_rowStep (fun M110 f18 => (hQ _ _ (K2.trans hf (K2.fr f18 rfl))))) (mf_ite (mf_w_Model_rowStep (fun M109 f19 => (hQ _ _ (K2.trans hf (K2.fr f19 rfl))))) (mf_ite (mt_w_Model_instruction_j726 hQ hf) (mf_ite (mt_w_Model_instruction_j726 hQ hf) (mf_ite (mt_w_Model_instruction_j726 hQ hf) (mf_ite (mt_w_Model_instruction_j726 hQ hf) (mf_ite (mt_w_Model_instruction_j726 hQ hf) (mf_ite (mt_w_Model_instruction_j726 hQ hf) (mf_ite (mt_w_Model_instruction_j726 hQ hf) (mf_ite (mt_w_Model_instruction_j726 hQ hf) (mf_ite (mt_w_Model_instruction_j726 hQ hf) (mf_ite (mt_w_Model_instruction_j726 hQ hf) (mf_ite (mf_w_Model_pop (fun r105 M104 f20 => (mf_ite (mf_w_Model_throwNew (fun M107 f21 => (hQ _ _ (K2.trans (K2.trans hf (K2.fr f20 rfl)) (K2.fr f21 rfl))))) (mf_w_Model_unwind (fun M108 f22 => (hQ _ _ (K2.trans (K2.trans hf (K2.fr f20 rfl)) (K2.fr f22 rfl)))))))) (mf_ite (mf_w_Model_endFrame (fun M103 f23 => (hQ _ _ (K2.trans hf (K2.fr f23 rfl))))) (mf_ite (mf_w_Model_pop (fun r101 M100 f24 => (mf_w_Model_endFrame (fun M102 f25 => (hQ _ _ (K2.trans (K2.trans hf (K2.fr f24 rfl)) (K2.fr f25 rfl))))))) (mf_ite (mf_w_Model_pop (fun r98 M97 f26 => (mf_w_Model_endFrame (fun M99 f27 => (hQ _ _ (K2.trans (K2.trans hf (K2.fr f26 rfl)) (K2.fr f27 rfl))))))) (mt_w_Model_instruction_j726 hQ hf)))))))))))))))))))))))))))))))))))))))))))))))))))))))))))))))))
set_option maxRecDepth 20000 in
theorem mt_w_Model_instruction_j196 {this : Nat} {Q Q' : Int32 → Mem → Prop} {v1 : Int32} {v3 : Int32} {v4 : Int32} {M : Mem} {M0 : Mem} (hQ : ∀ z0 z1, K2 this M0 z1 → Q z0 z1 → Q' z0 z1) : K2 this M0 M → w_Model_instruction_j196 this Q v1 v3 v4 M → w_Model_instruction_j196 this Q' v1 v3 v4 M := by
  intro hf
  unfold w_Model_instruction_j196
  exact (mf_ite (mt_w_Model_instruction_j219 hQ hf) (mf_ite (mt_w_Model_instruction_j219 hQ hf) (mf_w_Model_reckon (fun M150 f1 => (hQ _ _ (K2.trans hf (K2.fr f1 rfl)))))))
set_option maxRecDepth 20000 in
theorem mt_w_Model_instruction_j107 {this : Nat} {Q Q' : Int32 → Mem → Prop} {v1 : Int32} {v3 : Int32} {v4 : Int32} {M : Mem} {M0 : Mem} (hQ : ∀ z0 z1, K2 this M0 z1 → Q z0 z1 → Q' z0 z1) : K2 this M0 M → w_Model_instruction_j107 this Q v1 v3 v4 M → w_Model_instruction_j107 this Q' v1 v3 v4 M := by
  intro hf
  unfold w_Model_instruction_j107
  exact (mf_ite (mt_w_Model_newStep (fun r19 M18 f1 => (hQ _ _ (K2.trans hf f1)))) (mf_ite (mt_w_Model_instruction_j135 hQ hf) (mf_ite (mt_w_Model_instruction_j135 hQ hf) (mf_ite (mt_w_Model_instruction_j158 hQ hf) (mf_ite (mt_w_Model_instruction_j158 hQ hf) (mf_w_Model_tally (fun M28 f2 => (mf_ite (mt_w_Model_instruction_j196 hQ (K2.trans hf (K2.fr f2 rfl))) (mf_ite (mt_w_Model_instruction_j196 hQ (K2.trans hf (K2.fr f2 rfl))) (mf_w_Model_goStep (fun M152 f3 => (hQ _ _ (K2.trans (K2.trans hf (K2.fr f2 rfl)) (K2.fr f3 rfl))))))))))))))
set_option maxRecDepth 20000 in
theorem mt_w_Model_instruction_j83 {this : Nat} {Q Q' : Int32 → Mem → Prop} {v1 : Int32} {v2 : Int32} {v3 : Int32} {v4 : Int32} {M : Mem} {M0 : Mem} (hQ : ∀ z0 z1, K2 this M0 z1 → Q z0 z1 → Q' z0 z1) : K2 this M0 M → w_Model_instruction_j83 this Q v1 v2 v3 v4 M → w_Model_instruction_j83 this Q' v1 v2 v3 v4 M := by
  intro hf
  unfold w_Model_instruction_j83
  exact (mf_ite (mt_w_Model_instruction_j107 hQ hf) (mf_ite (mt_w_Model_instruction_j107 hQ hf) (mt_w_Model_callStep (fun r155 M154 f1 => (hQ _ _ (K2.trans hf f1))))))
set_option maxRecDepth 20000 in
theorem mt_w_Model_instruction {this : Nat} {Q Q' : Int32 → Mem → Prop} {M : Mem} (hQ : ∀ z0 z1, K2 this M z1 → Q z0 z1 → Q' z0 z1) : w_Model_instruction this Q M → w_Model_instruction this Q' M := by
  unfold w_Model_instruction
  exact (Exists.imp fun i1 => (mf_and fun _ => (Exists.imp fun i2 => (mf_and fun _ => (mf_and fun _ => (Exists.imp fun i4 => (mf_and fun _ => (mf_and fun _ => (Exists.imp fun x6 => (mf_and fun _ => (Exists.imp fun i7 => (mf_and fun _ => (mf_and fun _ => (Exists.imp fun i9 => (mf_and fun _ => (mf_and fun _ => (Exists.imp fun x11 => (mf_and fun _ => (Exists.imp fun i12 => (mf_and fun _ => (Exists.imp fun i13 => (mf_and fun _ => (mf_and fun _ => (mf_ite (mt_w_Model_instruction_j83 hQ (K2.rf this M)) (mf_ite (mt_w_Model_instruction_j83 hQ (K2.rf this M)) (mt_w_Model_fieldStep (fun r158 M157 f1 => (hQ _ _ (K2.trans (K2.rf this M) f1)))))))))))))))))))))))))))))
set_option maxRecDepth 20000 in
theorem mt_w_Model_advance_L114 {this : Nat} {Q Q' : Int32 → Mem → Prop} {M0 : Mem} (hQ : ∀ z0 z1, K2 this M0 z1 → Q z0 z1 → Q' z0 z1) : ∀ (n : Nat) (v3 : Int32) (M : Mem), K2 this M0 M → w_Model_advance_L114 this Q n v3 M → w_Model_advance_L114 this Q' n v3 M
  | 0, _, _ => fun _ h => h
  | n + 1, v3, M => fun hf => by
    unfold w_Model_advance_L114
    exact (Exists.imp fun i19 => (mf_and fun _ => (Exists.imp fun i20 => (mf_and fun _ => (mf_and fun _ => (mf_ite (hQ _ _ hf) (Exists.imp fun i23 => (mf_and fun _ => (Exists.imp fun i24 => (mf_and fun _ => (mf_and fun _ => (mf_and fun _ => (mt_w_Model_advance_L114 hQ _ _ _ (K2.wI0a rfl hf))))))))))))))
set_option maxRecDepth 20000 in
theorem mt_w_Model_advance_j84 {this : Nat} {Q Q' : Int32 → Mem → Prop} {v1 : Int32} {v2 : Int32} {M : Mem} {M0 : Mem} (hQ : ∀ z0 z1, K2 this M0 z1 → Q z0 z1 → Q' z0 z1) : K2 this M0 M → w_Model_advance_j84 this Q v1 v2 M → w_Model_advance_j84 this Q' v1 v2 M := by
  intro hf
  unfold w_Model_advance_j84
  exact (mf_ite (Exists.imp fun i17 => (mf_and fun _ => (mf_w_Model_newFrame (fun M18 f1 => (Exists.imp fun n27 => (mt_w_Model_advance_L114 hQ _ _ _ (K2.trans (K2.wI0 rfl hf) (K2.fr f1 rfl)))))))) (mf_ite (hQ _ _ hf) (hQ _ _ hf)))
set_option maxRecDepth 20000 in
theorem mt_w_Model_advance_j66 {this : Nat} {Q Q' : Int32 → Mem → Prop} {v1 : Int32} {s0 : Int32} {M : Mem} {M0 : Mem} (hQ : ∀ z0 z1, K2 this M0 z1 → Q z0 z1 → Q' z0 z1) : K2 this M0 M → w_Model_advance_j66 this Q v1 s0 M → w_Model_advance_j66 this Q' v1 s0 M := by
  intro hf
  unfold w_Model_advance_j66
  exact (mf_ite (mf_w_Model_throwNew (fun M15 f1 => (mt_w_Model_advance_j84 hQ (K2.trans hf (K2.fr f1 rfl))))) (mt_w_Model_advance_j84 hQ hf))
set_option maxRecDepth 20000 in
theorem mt_w_Model_advance_j156 {this : Nat} {Q Q' : Int32 → Mem → Prop} {M : Mem} {M0 : Mem} (hQ : ∀ z0 z1, K2 this M0 z1 → Q z0 z1 → Q' z0 z1) : K2 this M0 M → w_Model_advance_j156 this Q M → w_Model_advance_j156 this Q' M := by
  intro hf
  unfold w_Model_advance_j156
  exact (Exists.imp fun i29 => (mf_and fun _ => (Exists.imp fun i30 => (mf_and fun _ => (mf_and fun _ => (mf_ite (mt_w_Model_instruction (fun r34 M33 f1 => (hQ _ _ (K2.trans hf f1)))) (mt_w_Model_startOn (fun r36 M35 f2 => (hQ _ _ (K2.trans hf f2))))))))))
set_option maxRecDepth 20000 in
theorem mt_w_Model_advance {this : Nat} {Q Q' : Int32 → Mem → Prop} {M : Mem} (hQ : ∀ z0 z1, K2 this M z1 → Q z0 z1 → Q' z0 z1) : w_Model_advance this Q M → w_Model_advance this Q' M := by
  unfold w_Model_advance
  exact (Exists.imp fun i1 => (mf_and fun _ => (mf_ite (Exists.imp fun i3 => (mf_and fun _ => (mf_ite (Exists.imp fun i5 => (mf_and fun _ => (Exists.imp fun i6 => (mf_and fun _ => (Exists.imp fun i7 => (mf_and fun _ => (mt_w_Model_findMethod (fun r9 M8 f1 => (mf_ite (mf_and fun _ => (mt_w_Model_startOf (fun r13 M12 f2 => (mt_w_Model_advance_j66 hQ (K2.trans (K2.trans (K2.rf this M) f1) f2))))) (mt_w_Model_advance_j66 hQ (K2.trans (K2.rf this M) f1))))))))))) (mt_w_Model_advance_j156 hQ (K2.rf this M))))) (mt_w_Model_advance_j156 hQ (K2.rf this M)))))
set_option maxRecDepth 20000 in
theorem mt_w_Model_goOn_j263 {this : Nat} {Q Q' : Int32 → Mem → Prop} {k5 k5' : Int32 → Mem → Prop} {v1 : Int32} {M : Mem} {M0 : Mem} (hQ : ∀ z0 z1, K2 this M0 z1 → Q z0 z1 → Q' z0 z1) (hk5 : ∀ z0 z1, K2 this M0 z1 → k5 z0 z1 → k5' z0 z1) : K2 this M0 M → w_Model_goOn_j263 this Q k5 v1 M → w_Model_goOn_j263 this Q' k5' v1 M := by
  intro hf
  unfold w_Model_goOn_j263
  exact (hk5 _ _ hf)
set_option maxRecDepth 20000 in
theorem mt_w_Model_goOn_j241 {this : Nat} {Q Q' : Int32 → Mem → Prop} {k5 k5' : Int32 → Mem → Prop} {v1 : Int32} {s0 : Int32} {s1 : Nat} {M : Mem} {M0 : Mem} (hQ : ∀ z0 z1, K2 this M0 z1 → Q z0 z1 → Q' z0 z1) (hk5 : ∀ z0 z1, K2 this M0 z1 → k5 z0 z1 → k5' z0 z1) : K2 this M0 M → w_Model_goOn_j241 this Q k5 v1 s0 s1 M → w_Model_goOn_j241 this Q' k5' v1 s0 s1 M := by
  intro hf
  unfold w_Model_goOn_j241
  exact (mf_and fun _ => (Exists.imp fun i34 => (mf_and fun _ => (mf_ite (mt_w_Model_goOn_j263 hQ hk5 (K2.wI0 rfl hf)) (Exists.imp fun i36 => (mf_and fun _ => (mt_w_Model_goOn_j263 hQ hk5 (K2.wI0 rfl (K2.wI0 rfl hf)))))))))
set_option maxRecDepth 20000 in
theorem mt_w_Model_goOn_j227 {this : Nat} {Q Q' : Int32 → Mem → Prop} {k5 k5' : Int32 → Mem → Prop} {v1 : Int32} {v3 : Int32} {M : Mem} {M0 : Mem} (hQ : ∀ z0 z1, K2 this M0 z1 → Q z0 z1 → Q' z0 z1) (hk5 : ∀ z0 z1, K2 this M0 z1 → k5 z0 z1 → k5' z0 z1) : K2 this M0 M → w_Model_goOn_j227 this Q k5 v1 v3 M → w_Model_goOn_j227 this Q' k5' v1 v3 M := by
  intro hf
  unfold w_Model_goOn_j227
  exact (Exists.imp fun i31 => (mf_and fun _ => (mf_ite (mt_w_Model_goOn_j241 hQ hk5 hf) (mt_w_Model_goOn_j241 hQ hk5 hf))))
set_option maxRecDepth 20000 in
theorem mt_w_Model_goOn_j167 {this : Nat} {Q Q' : Int32 → Mem → Prop} {k5 k5' : Int32 → Mem → Prop} {v1 : Int32} {M : Mem} {M0 : Mem} (hQ : ∀ z0 z1, K2 this M0 z1 → Q z0 z1 → Q' z0 z1) (hk5 : ∀ z0 z1, K2 this M0 z1 → k5 z0 z1 → k5' z0 z1) : K2 this M0 M → w_Model_goOn_j167 this Q k5 v1 M → w_Model_goOn_j167 this Q' k5' v1 M := by
  intro hf
  unfold w_Model_goOn_j167
  exact (Exists.imp fun i22 => (mf_and fun _ => (Exists.imp fun i23 => (mf_and fun _ => (mf_and fun _ => (Exists.imp fun i25 => (mf_and fun _ => (mt_w_Model_advance (fun r27 M26 f1 => (mf_ite (Exists.imp fun i29 => (mf_and fun _ => (Exists.imp fun M30 => (mf_and fun e2 => (mt_w_Model_goOn_j227 hQ hk5 (K2.of e2 (K2.wI0 rfl (K2.wI0 rfl (K2.trans (K2.wR (K2.wI0 rfl hf)) f1))))))))) (mt_w_Model_goOn_j227 hQ hk5 (K2.trans (K2.wR (K2.wI0 rfl hf)) f1))))))))))))
set_option maxRecDepth 20000 in
theorem mt_w_Model_goOn_j126 {this : Nat} {Q Q' : Int32 → Mem → Prop} {k5 k5' : Int32 → Mem → Prop} {v1 : Int32} {v3 : Int32} {M : Mem} {M0 : Mem} (hQ : ∀ z0 z1, K2 this M0 z1 → Q z0 z1 → Q' z0 z1) (hk5 : ∀ z0 z1, K2 this M0 z1 → k5 z0 z1 → k5' z0 z1) : K2 this M0 M → w_Model_goOn_j126 this Q k5 v1 v3 M → w_Model_goOn_j126 this Q' k5' v1 v3 M := by
  intro hf
  unfold w_Model_goOn_j126
  exact (mf_ite (Exists.imp fun i14 => (mf_and fun _ => (Exists.imp fun i15 => (mf_and fun _ => (Exists.imp fun i16 => (mf_and fun _ => (Exists.imp fun i17 => (mf_and fun _ => (mf_and fun _ => (Exists.imp fun i19 => (mf_and fun _ => (mf_and fun _ => (Exists.imp fun M21 => (mf_and fun e1 => (mt_w_Model_goOn_j167 hQ hk5 (K2.of e1 (K2.wI0 rfl (K2.wI0 rfl (K2.wI0 rfl hf))))))))))))))))))) (hQ _ _ hf))
set_option maxRecDepth 20000 in
theorem mt_w_Model_goOn_j119 {this : Nat} {Q Q' : Int32 → Mem → Prop} {k5 k5' : Int32 → Mem → Prop} {k73 k73' : Int32 → Int32 → Int32 → Mem → Prop} {v1 : Int32} {v4 : Int32} {s0 : Int32} {M : Mem} {M0 : Mem} (hQ : ∀ z0 z1, K2 this M0 z1 → Q z0 z1 → Q' z0 z1) (hk5 : ∀ z0 z1, K2 this M0 z1 → k5 z0 z1 → k5' z0 z1) (hk73 : ∀ z0 z1 z2 z3, K2 this M0 z3 → k73 z0 z1 z2 z3 → k73' z0 z1 z2 z3) : K2 this M0 M → w_Model_goOn_j119 this Q k5 k73 v1 v4 s0 M → w_Model_goOn_j119 this Q' k5' k73' v1 v4 s0 M := by
  intro hf
  unfold w_Model_goOn_j119
  exact (hk73 _ _ _ _ hf)
set_option maxRecDepth 20000 in
theorem mt_w_Model_goOn_L73 {this : Nat} {Q Q' : Int32 → Mem → Prop} {k5 k5' : Int32 → Mem → Prop} {M0 : Mem} (hQ : ∀ z0 z1, K2 this M0 z1 → Q z0 z1 → Q' z0 z1) (hk5 : ∀ z0 z1, K2 this M0 z1 → k5 z0 z1 → k5' z0 z1) : ∀ (n : Nat) (v1 : Int32) (v3 : Int32) (v4 : Int32) (M : Mem), K2 this M0 M → w_Model_goOn_L73 this Q k5 n v1 v3 v4 M → w_Model_goOn_L73 this Q' k5' n v1 v3 v4 M
  | 0, _, _, _, _ => fun _ h => h
  | n + 1, v1, v3, v4, M => fun hf => by
    unfold w_Model_goOn_L73
    exact (mf_ite (mt_w_Model_goOn_j126 hQ hk5 hf) (mf_ite (mt_w_Model_goOn_j126 hQ hk5 hf) (Exists.imp fun i38 => (mf_and fun _ => (mf_and fun _ => (mf_w_Model_canGo (fun r41 M40 f1 => (mf_ite (mt_w_Model_goOn_j119 hQ hk5 (mt_w_Model_goOn_L73 hQ hk5 n) (K2.trans hf (K2.fr f1 rfl))) (Exists.imp fun i43 => (mf_and fun _ => (mf_and fun _ => (mt_w_Model_goOn_j119 hQ hk5 (mt_w_Model_goOn_L73 hQ hk5 n) (K2.trans hf (K2.fr f1 rfl))))))))))))))
set_option maxRecDepth 20000 in
theorem mt_w_Model_goOn_j67 {this : Nat} {Q Q' : Int32 → Mem → Prop} {k5 k5' : Int32 → Mem → Prop} {v1 : Int32} {M : Mem} {M0 : Mem} (hQ : ∀ z0 z1, K2 this M0 z1 → Q z0 z1 → Q' z0 z1) (hk5 : ∀ z0 z1, K2 this M0 z1 → k5 z0 z1 → k5' z0 z1) : K2 this M0 M → w_Model_goOn_j67 this Q k5 v1 M → w_Model_goOn_j67 this Q' k5' v1 M := by
  intro hf
  unfold w_Model_goOn_j67
  exact (Exists.imp fun n45 => (mt_w_Model_goOn_L73 hQ hk5 _ _ _ _ _ hf))
set_option maxRecDepth 20000 in
theorem mt_w_Model_goOn_L5 {this : Nat} {Q Q' : Int32 → Mem → Prop} {M0 : Mem} (hQ : ∀ z0 z1, K2 this M0 z1 → Q z0 z1 → Q' z0 z1) : ∀ (n : Nat) (v1 : Int32) (M : Mem), K2 this M0 M → w_Model_goOn_L5 this Q n v1 M → w_Model_goOn_L5 this Q' n v1 M
  | 0, _, _ => fun _ h => h
  | n + 1, v1, M => fun hf => by
    unfold w_Model_goOn_L5
    exact (Exists.imp fun i1 => (mf_and fun _ => (mf_w_Model_isAnyOn (fun r3 M2 f1 => (mf_ite (hQ _ _ (K2.trans hf (K2.fr f1 rfl))) (mf_ite (hQ _ _ (K2.trans hf (K2.fr f1 rfl))) (Exists.imp fun i6 => (mf_and fun _ => (Exists.imp fun i7 => (mf_and fun _ => (mf_and fun _ => (Exists.imp fun i9 => (mf_and fun _ => (Exists.imp fun i10 => (mf_and fun _ => (mf_ite (mt_w_Model_goOn_j67 hQ (mt_w_Model_goOn_L5 hQ n) (K2.trans hf (K2.fr f1 rfl))) (mf_ite (mf_ite (mt_w_Model_goOn_j167 hQ (mt_w_Model_goOn_L5 hQ n) (K2.trans hf (K2.fr f1 rfl))) (mt_w_Model_goOn_j67 hQ (mt_w_Model_goOn_L5 hQ n) (K2.trans hf (K2.fr f1 rfl)))) (mt_w_Model_goOn_j67 hQ (mt_w_Model_goOn_L5 hQ n) (K2.trans hf (K2.fr f1 rfl))))))))))))))))))))
set_option maxRecDepth 20000 in
theorem mt_w_Model_goOn {this : Nat} {a1 : Int32} {Q Q' : Int32 → Mem → Prop} {M : Mem} (hQ : ∀ z0 z1, K2 this M z1 → Q z0 z1 → Q' z0 z1) : w_Model_goOn this a1 Q M → w_Model_goOn this a1 Q' M := by
  unfold w_Model_goOn
  exact (Exists.imp fun n48 => (mt_w_Model_goOn_L5 hQ _ _ _ (K2.wI0 rfl (K2.rf this M))))
set_option maxRecDepth 20000 in
theorem mt_w_Model_link {this : Nat} {a1 : Int32} {a2 : Int32} {Q Q' : Int32 → Mem → Prop} {M : Mem} (hQ : ∀ z0 z1, K2 this M z1 → Q z0 z1 → Q' z0 z1) : w_Model_link this a1 a2 Q M → w_Model_link this a1 a2 Q' M := by
  unfold w_Model_link
  exact (mf_w_Model_isClass (fun r2 M1 f1 => (mf_ite (hQ _ _ (K2.trans (K2.rf this M) (K2.fr f1 rfl))) (mf_and fun _ => (Exists.imp fun i5 => (mf_and fun _ => (mt_w_Model_isLinked (fun r7 M6 f2 => (mf_ite (Exists.imp fun i9 => (mf_and fun _ => (mf_and fun _ => (hQ _ _ (K2.trans (K2.wR (K2.trans (K2.rf this M) (K2.fr f1 rfl))) f2))))) (hQ _ _ (K2.trans (K2.wR (K2.trans (K2.rf this M) (K2.fr f1 rfl))) f2)))))))))))
set_option maxRecDepth 20000 in
theorem mt_w_Model_step_j86 {this : Nat} {Q Q' : Int32 → Mem → Prop} {v2 : Int32} {M : Mem} {M0 : Mem} (hQ : ∀ z0 z1, K2 this M0 z1 → Q z0 z1 → Q' z0 z1) : K2 this M0 M → w_Model_step_j86 this Q v2 M → w_Model_step_j86 this Q' v2 M := by
  intro hf
  unfold w_Model_step_j86
  generalize (60000 : Int32) = zz
  exact (Exists.imp fun i20 => (mf_and fun _ => (mf_w_Model_isAnyOn (fun r22 M21 f1 => (mf_ite (hQ _ _ (K2.trans hf (K2.fr f1 rfl))) (mf_ite (mt_w_Model_goOn (fun r26 M25 f2 => (hQ _ _ (K2.wI0 rfl (K2.trans (K2.trans hf (K2.fr f1 rfl)) f2))))) (hQ _ _ (K2.trans hf (K2.fr f1 rfl)))))))))
set_option maxRecDepth 20000 in
theorem mt_w_Model_step {this : Nat} {a1 : Int32} {a2 : Int32} {Q Q' : Int32 → Mem → Prop} {M : Mem} (hQ : ∀ z0 z1, K2 this M z1 → Q z0 z1 → Q' z0 z1) : w_Model_step this a1 a2 Q M → w_Model_step this a1 a2 Q' M := by
  unfold w_Model_step
  exact (mf_w_Model_isWorld (fun r2 M1 f1 => (mf_ite (hQ _ _ (K2.trans (K2.rf this M) (K2.fr f1 rfl))) (mf_ite (hQ _ _ (K2.trans (K2.rf this M) (K2.fr f1 rfl))) (mf_ite (mf_and fun _ => (Exists.imp fun i7 => (mf_and fun _ => (Exists.imp fun i8 => (mf_and fun _ => (mf_and fun _ => (Exists.imp fun i10 => (mf_and fun _ => (mf_ite (Exists.imp fun i12 => (mf_and fun _ => (mf_and fun _ => (Exists.imp fun i14 => (mf_and fun _ => (mf_ite (Exists.imp fun i16 => (mf_and fun _ => (mf_and fun _ => (Exists.imp fun i18 => (mf_and fun _ => (mf_ite (hQ _ _ (K2.wR (K2.trans (K2.rf this M) (K2.fr f1 rfl)))) (mt_w_Model_step_j86 hQ (K2.wR (K2.trans (K2.rf this M) (K2.fr f1 rfl)))))))))) (mt_w_Model_step_j86 hQ (K2.wR (K2.trans (K2.rf this M) (K2.fr f1 rfl)))))))))) (mt_w_Model_step_j86 hQ (K2.wR (K2.trans (K2.rf this M) (K2.fr f1 rfl))))))))))))) (hQ _ _ (K2.trans (K2.rf this M) (K2.fr f1 rfl))))))))
set_option maxRecDepth 20000 in
theorem mt_w_Model_foretold_j113 {this : Nat} {Q Q' : Int32 → Mem → Prop} {v2 : Int32} {M : Mem} {M0 : Mem} (hQ : ∀ z0 z1, K2 this M0 z1 → Q z0 z1 → Q' z0 z1) : K2 this M0 M → w_Model_foretold_j113 this Q v2 M → w_Model_foretold_j113 this Q' v2 M := by
  intro hf
  unfold w_Model_foretold_j113
  exact (Exists.imp fun i7 => (mf_and fun _ => (Exists.imp fun i8 => (mf_and fun _ => (mf_and fun _ => (mf_w_Model_classOf (fun r11 M10 f1 => (mf_ite (hQ _ _ (K2.trans hf (K2.fr f1 rfl))) (hQ _ _ (K2.trans hf (K2.fr f1 rfl)))))))))))
set_option maxRecDepth 20000 in
theorem mt_w_Model_foretold_j101 {this : Nat} {Q Q' : Int32 → Mem → Prop} {v2 : Int32} {v3 : Int32} {M : Mem} {M0 : Mem} (hQ : ∀ z0 z1, K2 this M0 z1 → Q z0 z1 → Q' z0 z1) : K2 this M0 M → w_Model_foretold_j101 this Q v2 v3 M → w_Model_foretold_j101 this Q' v2 v3 M := by
  intro hf
  unfold w_Model_foretold_j101
  exact (mf_ite (mt_w_Model_foretold_j113 hQ hf) (mf_ite (mt_w_Model_foretold_j113 hQ hf) (mf_ite (Exists.imp fun i15 => (mf_and fun _ => (Exists.imp fun i16 => (mf_and fun _ => (mf_and fun _ => (mt_w_Model_findLinked (fun r19 M18 f1 => (mf_ite (mf_w_Model_isOff (fun r22 M21 f2 => (mf_ite (Exists.imp fun i24 => (mf_and fun _ => (mf_and fun _ => (mf_ite (hQ _ _ (K2.trans (K2.trans hf f1) (K2.fr f2 rfl))) (hQ _ _ (K2.trans (K2.trans hf f1) (K2.fr f2 rfl))))))) (hQ _ _ (K2.trans (K2.trans hf f1) (K2.fr f2 rfl)))))) (hQ _ _ (K2.trans hf f1)))))))))) (hQ _ _ hf))))
set_option maxRecDepth 20000 in
theorem mt_w_Model_foretold_j41 {this : Nat} {Q Q' : Int32 → Mem → Prop} {v1 : Int32} {v2 : Int32} {v3 : Int32} {M : Mem} {M0 : Mem} (hQ : ∀ z0 z1, K2 this M0 z1 → Q z0 z1 → Q' z0 z1) : K2 this M0 M → w_Model_foretold_j41 this Q v1 v2 v3 M → w_Model_foretold_j41 this Q' v1 v2 v3 M := by
  intro hf
  unfold w_Model_foretold_j41
  exact (mf_ite (mt_w_Model_foretold_j101 hQ hf) (mf_ite (mt_w_Model_foretold_j101 hQ hf) (Exists.imp fun i28 => (mf_and fun _ => (Exists.imp fun i29 => (mf_and fun _ => (mf_and fun _ => (Exists.imp fun i31 => (mf_and fun _ => (Exists.imp fun i32 => (mf_and fun _ => (mf_and fun _ => (Exists.imp fun i34 => (mf_and fun _ => (Exists.imp fun i35 => (mf_and fun _ => (mf_and fun _ => (mf_and fun _ => (mt_w_Model_findMethod (fun r39 M38 f1 => (mf_ite (hQ _ _ (K2.trans hf f1)) (hQ _ _ (K2.trans hf f1)))))))))))))))))))))))
set_option maxRecDepth 20000 in
theorem mt_w_Model_foretold {this : Nat} {a1 : Int32} {a2 : Int32} {Q Q' : Int32 → Mem → Prop} {M : Mem} (hQ : ∀ z0 z1, K2 this M z1 → Q z0 z1 → Q' z0 z1) : w_Model_foretold this a1 a2 Q M → w_Model_foretold this a1 a2 Q' M := by
  unfold w_Model_foretold
  exact (Exists.imp fun i1 => (mf_and fun _ => (Exists.imp fun i2 => (mf_and fun _ => (mf_and fun _ => (mf_ite (mt_w_Model_foretold_j41 hQ (K2.rf this M)) (mf_ite (mt_w_Model_foretold_j41 hQ (K2.rf this M)) (mt_w_Model_findField (fun r43 M42 f1 => (mf_ite (hQ _ _ (K2.trans (K2.rf this M) f1)) (hQ _ _ (K2.trans (K2.rf this M) f1))))))))))))
set_option maxRecDepth 20000 in
theorem mt_w_Model_foretell_j150 {this : Nat} {Q Q' : Int32 → Mem → Prop} {k42 k42' : Int32 → Int32 → Int32 → Int32 → Mem → Prop} {k68 k68' : Int32 → Int32 → Int32 → Int32 → Int32 → Int32 → Mem → Prop} {v2 : Int32} {v4 : Int32} {v6 : Int32} {v7 : Int32} {v8 : Int32} {s0 : Int32} {s1 : Int32} {M : Mem} {M0 : Mem} (hQ : ∀ z0 z1, K2 this M0 z1 → Q z0 z1 → Q' z0 z1) (hk42 : ∀ z0 z1 z2 z3 z4, K2 this M0 z4 → k42 z0 z1 z2 z3 z4 → k42' z0 z1 z2 z3 z4) (hk68 : ∀ z0 z1 z2 z3 z4 z5 z6, K2 this M0 z6 → k68 z0 z1 z2 z3 z4 z5 z6 → k68' z0 z1 z2 z3 z4 z5 z6) : K2 this M0 M → w_Model_foretell_j150 this Q k42 k68 v2 v4 v6 v7 v8 s0 s1 M → w_Model_foretell_j150 this Q' k42' k68' v2 v4 v6 v7 v8 s0 s1 M := by
  intro hf
  unfold w_Model_foretell_j150
  exact (hk68 _ _ _ _ _ _ _ hf)
set_option maxRecDepth 20000 in
theorem mt_w_Model_foretell_j138 {this : Nat} {Q Q' : Int32 → Mem → Prop} {k42 k42' : Int32 → Int32 → Int32 → Int32 → Mem → Prop} {k68 k68' : Int32 → Int32 → Int32 → Int32 → Int32 → Int32 → Mem → Prop} {v2 : Int32} {v4 : Int32} {v5 : Int32} {v6 : Int32} {v7 : Int32} {v8 : Int32} {v9 : Int32} {M : Mem} {M0 : Mem} (hQ : ∀ z0 z1, K2 this M0 z1 → Q z0 z1 → Q' z0 z1) (hk42 : ∀ z0 z1 z2 z3 z4, K2 this M0 z4 → k42 z0 z1 z2 z3 z4 → k42' z0 z1 z2 z3 z4) (hk68 : ∀ z0 z1 z2 z3 z4 z5 z6, K2 this M0 z6 → k68 z0 z1 z2 z3 z4 z5 z6 → k68' z0 z1 z2 z3 z4 z5 z6) : K2 this M0 M → w_Model_foretell_j138 this Q k42 k68 v2 v4 v5 v6 v7 v8 v9 M → w_Model_foretell_j138 this Q' k42' k68' v2 v4 v5 v6 v7 v8 v9 M := by
  intro hf
  unfold w_Model_foretell_j138
  exact (mf_ite (mt_w_Model_foretell_j150 hQ hk42 hk68 hf) (mt_w_Model_foretell_j150 hQ hk42 hk68 hf))
set_option maxRecDepth 20000 in
theorem mt_w_Model_foretell_L68 {this : Nat} {Q Q' : Int32 → Mem → Prop} {k42 k42' : Int32 → Int32 → Int32 → Int32 → Mem → Prop} {M0 : Mem} (hQ : ∀ z0 z1, K2 this M0 z1 → Q z0 z1 → Q' z0 z1) (hk42 : ∀ z0 z1 z2 z3 z4, K2 this M0 z4 → k42 z0 z1 z2 z3 z4 → k42' z0 z1 z2 z3 z4) : ∀ (n : Nat) (v2 : Int32) (v4 : Int32) (v5 : Int32) (v6 : Int32) (v7 : Int32) (v8 : Int32) (M : Mem), K2 this M0 M → w_Model_foretell_L68 this Q k42 n v2 v4 v5 v6 v7 v8 M → w_Model_foretell_L68 this Q' k42' n v2 v4 v5 v6 v7 v8 M
  | 0, _, _, _, _, _, _, _ => fun _ h => h
  | n + 1, v2, v4, v5, v6, v7, v8, M => fun hf => by
    unfold w_Model_foretell_L68
    exact (Exists.imp fun i12 => (mf_and fun _ => (mf_and fun _ => (mf_ite (hk42 _ _ _ _ _ hf) (Exists.imp fun i15 => (mf_and fun _ => (mf_and fun _ => (mt_w_Model_foretold (fun r18 M17 f1 => (mf_ite (mt_w_Model_foretell_j138 hQ hk42 (mt_w_Model_foretell_L68 hQ hk42 n) (K2.trans hf f1)) (mf_ite (mf_ite (hQ _ _ (K2.trans hf f1)) (mf_ite (hQ _ _ (K2.trans hf f1)) (hQ _ _ (K2.trans hf f1)))) (mt_w_Model_foretell_j138 hQ hk42 (mt_w_Model_foretell_L68 hQ hk42 n) (K2.trans hf f1)))))))))))))
set_option maxRecDepth 20000 in
theorem mt_w_Model_foretell_L42 {this : Nat} {Q Q' : Int32 → Mem → Prop} {M0 : Mem} (hQ : ∀ z0 z1, K2 this M0 z1 → Q z0 z1 → Q' z0 z1) : ∀ (n : Nat) (v2 : Int32) (v4 : Int32) (v5 : Int32) (v6 : Int32) (M : Mem), K2 this M0 M → w_Model_foretell_L42 this Q n v2 v4 v5 v6 M → w_Model_foretell_L42 this Q' n v2 v4 v5 v6 M
  | 0, _, _, _, _, _ => fun _ h => h
  | n + 1, v2, v4, v5, v6, M => fun hf => by
    unfold w_Model_foretell_L42
    exact (Exists.imp fun i9 => (mf_and fun _ => (mf_and fun _ => (mf_ite (hQ _ _ hf) (Exists.imp fun n24 => (mt_w_Model_foretell_L68 hQ (mt_w_Model_foretell_L42 hQ n) _ _ _ _ _ _ _ _ hf))))))
set_option maxRecDepth 20000 in
theorem mt_w_Model_foretell {this : Nat} {a1 : Int32} {a2 : Int32} {a3 : Int32} {a4 : Int32} {Q Q' : Int32 → Mem → Prop} {M : Mem} (hQ : ∀ z0 z1, K2 this M z1 → Q z0 z1 → Q' z0 z1) : w_Model_foretell this a1 a2 a3 a4 Q M → w_Model_foretell this a1 a2 a3 a4 Q' M := by
  unfold w_Model_foretell
  exact (mf_w_Model_isClass (fun r2 M1 f1 => (mf_ite (hQ _ _ (K2.trans (K2.rf this M) (K2.fr f1 rfl))) (mf_ite (hQ _ _ (K2.trans (K2.rf this M) (K2.fr f1 rfl))) (mf_ite (hQ _ _ (K2.trans (K2.rf this M) (K2.fr f1 rfl))) (mf_ite (mf_and fun _ => (Exists.imp fun i8 => (mf_and fun _ => (Exists.imp fun n25 => (mt_w_Model_foretell_L42 hQ _ _ _ _ _ _ (K2.wR (K2.trans (K2.rf this M) (K2.fr f1 rfl)))))))) (hQ _ _ (K2.trans (K2.rf this M) (K2.fr f1 rfl)))))))))
set_option maxRecDepth 20000 in
theorem mt_w_Model_asked_j126 {this : Nat} {Q Q' : Int32 → Mem → Prop} {v3 : Int32} {M : Mem} {M0 : Mem} (hQ : ∀ z0 z1, K2 this M0 z1 → Q z0 z1 → Q' z0 z1) : K2 this M0 M → w_Model_asked_j126 this Q v3 M → w_Model_asked_j126 this Q' v3 M := by
  intro hf
  unfold w_Model_asked_j126
  exact (mf_ite (mf_and fun _ => (mf_and fun _ => (hQ _ _ hf))) (hQ _ _ hf))
set_option maxRecDepth 20000 in
theorem mt_w_Model_asked_j94 {this : Nat} {Q Q' : Int32 → Mem → Prop} {v2 : Int32} {v3 : Int32} {M : Mem} {M0 : Mem} (hQ : ∀ z0 z1, K2 this M0 z1 → Q z0 z1 → Q' z0 z1) : K2 this M0 M → w_Model_asked_j94 this Q v2 v3 M → w_Model_asked_j94 this Q' v2 v3 M := by
  intro hf
  unfold w_Model_asked_j94
  exact (mf_ite (mt_w_Model_asked_j126 hQ hf) (Exists.imp fun i16 => (mf_and fun _ => (mf_and fun _ => (mf_ite (mf_w_Model_dispatch (fun r20 M19 f1 => (mt_w_Model_asked_j126 hQ (K2.trans hf (K2.fr f1 rfl))))) (mt_w_Model_asked_j126 hQ hf))))))
set_option maxRecDepth 20000 in
theorem mt_w_Model_asked {this : Nat} {a1 : Int32} {a2 : Int32} {Q Q' : Int32 → Mem → Prop} {M : Mem} (hQ : ∀ z0 z1, K2 this M z1 → Q z0 z1 → Q' z0 z1) : w_Model_asked this a1 a2 Q M → w_Model_asked this a1 a2 Q' M := by
  unfold w_Model_asked
  exact (mf_w_Model_isClass (fun r2 M1 f1 => (mf_ite (hQ _ _ (K2.trans (K2.rf this M) (K2.fr f1 rfl))) (mf_w_Model_takesLine (fun r5 M4 f2 => (mf_ite (hQ _ _ (K2.trans (K2.trans (K2.rf this M) (K2.fr f1 rfl)) (K2.fr f2 rfl))) (mf_and fun _ => (Exists.imp fun i8 => (mf_and fun _ => (mt_w_Model_findMethod (fun r10 M9 f3 => (mf_ite (mt_w_Model_asked_j94 hQ (K2.trans (K2.wR (K2.trans (K2.trans (K2.rf this M) (K2.fr f1 rfl)) (K2.fr f2 rfl))) f3)) (mt_w_Model_isLinked (fun r22 M21 f4 => (mf_ite (Exists.imp fun i24 => (mf_and fun _ => (mf_and fun _ => (mf_and fun _ => (Exists.imp fun i27 => (mf_and fun _ => (mf_and fun _ => (mf_and fun _ => (mf_w_Model_fails (fun r31 M30 f5 => (mt_w_Model_asked_j94 hQ (K2.trans (K2.trans (K2.trans (K2.wR (K2.trans (K2.trans (K2.rf this M) (K2.fr f1 rfl)) (K2.fr f2 rfl))) f3) f4) (K2.fr f5 rfl))))))))))))) (mt_w_Model_asked_j94 hQ (K2.trans (K2.trans (K2.wR (K2.trans (K2.trans (K2.rf this M) (K2.fr f1 rfl)) (K2.fr f2 rfl))) f3) f4)))))))))))))))))
set_option maxRecDepth 20000 in
theorem mt_w_Model_reachFrom_j55 {this : Nat} {Q Q' : Mem → Prop} {v1 : Int32} {v2 : Int32} {v3 : Int32} {M : Mem} {M0 : Mem} (hQ : ∀ z0, K2 this M0 z0 → Q z0 → Q' z0) : K2 this M0 M → w_Model_reachFrom_j55 this Q v1 v2 v3 M → w_Model_reachFrom_j55 this Q' v1 v2 v3 M := by
  intro hf
  unfold w_Model_reachFrom_j55
  exact (mt_w_Model_findField (fun r16 M15 f1 => (mf_ite (hQ _ (K2.trans hf f1)) (mf_and fun _ => (mf_w_Model_addStarts (fun M19 f2 => (hQ _ (K2.trans (K2.trans hf f1) (K2.fr f2 rfl)))))))))
set_option maxRecDepth 20000 in
theorem mt_w_Model_reachFrom_j163 {this : Nat} {Q Q' : Mem → Prop} {v3 : Int32} {v4 : Int32} {M : Mem} {M0 : Mem} (hQ : ∀ z0, K2 this M0 z0 → Q z0 → Q' z0) : K2 this M0 M → w_Model_reachFrom_j163 this Q v3 v4 M → w_Model_reachFrom_j163 this Q' v3 v4 M := by
  intro hf
  unfold w_Model_reachFrom_j163
  exact (mf_w_Model_addReached (fun M37 f1 => (mf_ite (mf_and fun _ => (mf_w_Model_addStarts (fun M40 f2 => (hQ _ (K2.trans (K2.trans hf (K2.fr f1 rfl)) (K2.fr f2 rfl)))))) (hQ _ (K2.trans hf (K2.fr f1 rfl))))))
set_option maxRecDepth 20000 in
theorem mt_w_Model_reachFrom_j288 {this : Nat} {Q Q' : Mem → Prop} {k203 k203' : Int32 → Int32 → Int32 → Mem → Prop} {v2 : Int32} {v5 : Int32} {v6 : Int32} {M : Mem} {M0 : Mem} (hQ : ∀ z0, K2 this M0 z0 → Q z0 → Q' z0) (hk203 : ∀ z0 z1 z2 z3, K2 this M0 z3 → k203 z0 z1 z2 z3 → k203' z0 z1 z2 z3) : K2 this M0 M → w_Model_reachFrom_j288 this Q k203 v2 v5 v6 M → w_Model_reachFrom_j288 this Q' k203' v2 v5 v6 M := by
  intro hf
  unfold w_Model_reachFrom_j288
  exact (hk203 _ _ _ _ hf)
set_option maxRecDepth 20000 in
theorem mt_w_Model_reachFrom_L203 {this : Nat} {Q Q' : Mem → Prop} {M0 : Mem} (hQ : ∀ z0, K2 this M0 z0 → Q z0 → Q' z0) : ∀ (n : Nat) (v2 : Int32) (v5 : Int32) (v6 : Int32) (M : Mem), K2 this M0 M → w_Model_reachFrom_L203 this Q n v2 v5 v6 M → w_Model_reachFrom_L203 this Q' n v2 v5 v6 M
  | 0, _, _, _, _ => fun _ h => h
  | n + 1, v2, v5, v6, M => fun hf => by
    unfold w_Model_reachFrom_L203
    exact (Exists.imp fun i50 => (mf_and fun _ => (mf_ite (hQ _ hf) (Exists.imp fun i52 => (mf_and fun _ => (mf_and fun _ => (mf_ite (mf_w_Model_isBelow (fun r56 M55 f1 => (mf_ite (mt_w_Model_reachFrom_j288 hQ (mt_w_Model_reachFrom_L203 hQ n) (K2.trans hf (K2.fr f1 rfl))) (mt_w_Model_isLinked (fun r59 M58 f2 => (mf_ite (mt_w_Model_reachFrom_j288 hQ (mt_w_Model_reachFrom_L203 hQ n) (K2.trans (K2.trans hf (K2.fr f1 rfl)) f2)) (Exists.imp fun i61 => (mf_and fun _ => (Exists.imp fun i62 => (mf_and fun _ => (mf_and fun _ => (Exists.imp fun i64 => (mf_and fun _ => (Exists.imp fun i65 => (mf_and fun _ => (mf_and fun _ => (mf_w_Model_dispatch (fun r68 M67 f3 => (mf_ite (mt_w_Model_reachFrom_j288 hQ (mt_w_Model_reachFrom_L203 hQ n) (K2.trans (K2.trans (K2.trans hf (K2.fr f1 rfl)) f2) (K2.fr f3 rfl))) (mf_w_Model_addReached (fun M70 f4 => (mt_w_Model_reachFrom_j288 hQ (mt_w_Model_reachFrom_L203 hQ n) (K2.trans (K2.trans (K2.trans (K2.trans hf (K2.fr f1 rfl)) f2) (K2.fr f3 rfl)) (K2.fr f4 rfl)))))))))))))))))))))))) (mt_w_Model_reachFrom_j288 hQ (mt_w_Model_reachFrom_L203 hQ n) hf))))))))
set_option maxRecDepth 20000 in
theorem mt_w_Model_reachFrom {this : Nat} {a1 : Int32} {a2 : Int32} {Q Q' : Mem → Prop} {M : Mem} (hQ : ∀ z0, K2 this M z0 → Q z0 → Q' z0) : w_Model_reachFrom this a1 a2 Q M → w_Model_reachFrom this a1 a2 Q' M := by
  unfold w_Model_reachFrom
  exact (Exists.imp fun i1 => (mf_and fun _ => (Exists.imp fun i2 => (mf_and fun _ => (mf_and fun _ => (mf_ite (mt_w_Model_foretold (fun r6 M5 f1 => (mf_ite (Exists.imp fun i8 => (mf_and fun _ => (Exists.imp fun i9 => (mf_and fun _ => (mf_and fun _ => (mf_w_Model_classOf (fun r12 M11 f2 => (mf_w_Model_addStarts (fun M13 f3 => (hQ _ (K2.trans (K2.trans (K2.trans (K2.rf this M) f1) (K2.fr f2 rfl)) (K2.fr f3 rfl)))))))))))) (hQ _ (K2.trans (K2.rf this M) f1))))) (mf_ite (mt_w_Model_reachFrom_j55 hQ (K2.rf this M)) (mf_ite (mt_w_Model_reachFrom_j55 hQ (K2.rf this M)) (mf_ite (hQ _ (K2.rf this M)) (mf_ite (Exists.imp fun i23 => (mf_and fun _ => (Exists.imp fun i24 => (mf_and fun _ => (mf_and fun _ => (Exists.imp fun i26 => (mf_and fun _ => (Exists.imp fun i27 => (mf_and fun _ => (mf_and fun _ => (Exists.imp fun i29 => (mf_and fun _ => (Exists.imp fun i30 => (mf_and fun _ => (mf_and fun _ => (mf_and fun _ => (mt_w_Model_findMethod (fun r34 M33 f4 => (mf_ite (mf_ite (mt_w_Model_reachFrom_j163 hQ (K2.trans (K2.rf this M) f4)) (mf_ite (mt_w_Model_reachFrom_j163 hQ (K2.trans (K2.rf this M) f4)) (Exists.imp fun i42 => (mf_and fun _ => (mf_and fun _ => (mf_ite (Exists.imp fun i45 => (mf_and fun _ => (Exists.imp fun i46 => (mf_and fun _ => (mf_and fun _ => (mf_w_Model_classOf (fun r49 M48 f5 => (Exists.imp fun n71 => (mt_w_Model_reachFrom_L203 hQ _ _ _ _ _ (K2.trans (K2.trans (K2.rf this M) f4) (K2.fr f5 rfl))))))))))) (mt_w_Model_reachFrom_j163 hQ (K2.trans (K2.rf this M) f4)))))))) (hQ _ (K2.trans (K2.rf this M) f4))))))))))))))))))))) (hQ _ (K2.rf this M))))))))))))
set_option maxRecDepth 20000 in
theorem mt_w_Model_reach_L118 {this : Nat} {Q Q' : Int32 → Mem → Prop} {k97 k97' : Int32 → Mem → Prop} {M0 : Mem} (hQ : ∀ z0 z1, K2 this M0 z1 → Q z0 z1 → Q' z0 z1) (hk97 : ∀ z0 z1, K2 this M0 z1 → k97 z0 z1 → k97' z0 z1) : ∀ (n : Nat) (v4 : Int32) (v5 : Int32) (v6 : Int32) (M : Mem), K2 this M0 M → w_Model_reach_L118 this Q k97 n v4 v5 v6 M → w_Model_reach_L118 this Q' k97' n v4 v5 v6 M
  | 0, _, _, _, _ => fun _ h => h
  | n + 1, v4, v5, v6, M => fun hf => by
    unfold w_Model_reach_L118
    exact (Exists.imp fun i17 => (mf_and fun _ => (mf_and fun _ => (mf_ite (hk97 _ _ hf) (Exists.imp fun i20 => (mf_and fun _ => (mf_and fun _ => (mt_w_Model_reachFrom (fun M22 f1 => (mt_w_Model_reach_L118 hQ hk97 _ _ _ _ _ (K2.trans hf f1)))))))))))
set_option maxRecDepth 20000 in
theorem mt_w_Model_reach_L97 {this : Nat} {Q Q' : Int32 → Mem → Prop} {M0 : Mem} (hQ : ∀ z0 z1, K2 this M0 z1 → Q z0 z1 → Q' z0 z1) : ∀ (n : Nat) (v4 : Int32) (M : Mem), K2 this M0 M → w_Model_reach_L97 this Q n v4 M → w_Model_reach_L97 this Q' n v4 M
  | 0, _, _ => fun _ h => h
  | n + 1, v4, M => fun hf => by
    unfold w_Model_reach_L97
    exact (mf_ite (hQ _ _ hf) (mf_and fun _ => (Exists.imp fun n23 => (mt_w_Model_reach_L118 hQ (mt_w_Model_reach_L97 hQ n) _ _ _ _ _ hf))))
set_option maxRecDepth 20000 in
theorem mt_w_Model_reach_L43 {this : Nat} {Q Q' : Int32 → Mem → Prop} {M0 : Mem} (hQ : ∀ z0 z1, K2 this M0 z1 → Q z0 z1 → Q' z0 z1) : ∀ (n : Nat) (v2 : Int32) (v3 : Int32) (v4 : Int32) (M : Mem), K2 this M0 M → w_Model_reach_L43 this Q n v2 v3 v4 M → w_Model_reach_L43 this Q' n v2 v3 v4 M
  | 0, _, _, _, _ => fun _ h => h
  | n + 1, v2, v3, v4, M => fun hf => by
    unfold w_Model_reach_L43
    exact (mf_ite (mf_and fun _ => (mf_and fun _ => (Exists.imp fun M14 => (mf_and fun e1 => (Exists.imp fun n24 => (mt_w_Model_reach_L97 hQ _ _ _ (K2.wI0 rfl (K2.of e1 (K2.wI0a rfl (K2.wI0a rfl hf)))))))))) (mf_and fun _ => (mt_w_Model_reach_L43 hQ _ _ _ _ _ (K2.wI0a rfl hf))))
set_option maxRecDepth 20000 in
theorem mt_w_Model_reach {this : Nat} {a1 : Int32} {a2 : Int32} {a3 : Int32} {Q Q' : Int32 → Mem → Prop} {M : Mem} (hQ : ∀ z0 z1, K2 this M z1 → Q z0 z1 → Q' z0 z1) : w_Model_reach this a1 a2 a3 Q M → w_Model_reach this a1 a2 a3 Q' M := by
  unfold w_Model_reach
  exact (mf_w_Model_isClass (fun r2 M1 f1 => (mf_ite (hQ _ _ (K2.trans (K2.rf this M) (K2.fr f1 rfl))) (mf_ite (hQ _ _ (K2.trans (K2.rf this M) (K2.fr f1 rfl))) (mf_and fun _ => (Exists.imp fun i6 => (mf_and fun _ => (mf_and fun _ => (mf_ite (mf_and fun _ => (Exists.imp fun i10 => (mf_and fun _ => (Exists.imp fun n26 => (mt_w_Model_reach_L43 hQ _ _ _ _ _ (K2.wR (K2.trans (K2.rf this M) (K2.fr f1 rfl)))))))) (hQ _ _ (K2.trans (K2.rf this M) (K2.fr f1 rfl))))))))))))
set_option maxRecDepth 20000 in
theorem mt_w_Model_tryDraft_j196 {this : Nat} {Q Q' : Mem → Prop} {X X' : Mem → Prop} {s0 : Int32} {M : Mem} {M0 : Mem} (hQ : ∀ z0, K2 this M0 z0 → Q z0 → Q' z0) (hX : ∀ z0, K2 this M0 z0 → X z0 → X' z0) : K2 this M0 M → w_Model_tryDraft_j196 this Q X s0 M → w_Model_tryDraft_j196 this Q' X' s0 M := by
  intro hf
  unfold w_Model_tryDraft_j196
  exact (hQ _ (K2.wI0 rfl hf))
set_option maxRecDepth 20000 in
theorem mt_w_Model_tryDraft_j152 {this : Nat} {Q Q' : Mem → Prop} {X X' : Mem → Prop} {v3 : Nat} {s0 : Int32} {M : Mem} {M0 : Mem} (hQ : ∀ z0, K2 this M0 z0 → Q z0 → Q' z0) (hX : ∀ z0, K2 this M0 z0 → X z0 → X' z0) : K2 this M0 M → w_Model_tryDraft_j152 this Q X v3 s0 M → w_Model_tryDraft_j152 this Q' X' v3 s0 M := by
  intro hf
  unfold w_Model_tryDraft_j152
  exact (mf_ite (mt_w_Model_tryDraft_j196 hQ hX (K2.wI0 rfl hf)) (mf_ite (mt_w_Model_tryDraft_j196 hQ hX (K2.wI0 rfl hf)) (mf_ite (mt_w_Model_tryDraft_j196 hQ hX (K2.wI0 rfl hf)) (mt_w_Model_tryDraft_j196 hQ hX (K2.wI0 rfl hf)))))
set_option maxRecDepth 20000 in
theorem mt_w_Model_tryDraft_j241 {this : Nat} {Q Q' : Mem → Prop} {X X' : Mem → Prop} {s0 : Int32} {s1 : Int32} {M : Mem} {M0 : Mem} (hQ : ∀ z0, K2 this M0 z0 → Q z0 → Q' z0) (hX : ∀ z0, K2 this M0 z0 → X z0 → X' z0) : K2 this M0 M → w_Model_tryDraft_j241 this Q X s0 s1 M → w_Model_tryDraft_j241 this Q' X' s0 s1 M := by
  intro hf
  unfold w_Model_tryDraft_j241
  exact (hQ _ (K2.wI0 rfl hf))
set_option maxRecDepth 20000 in
theorem mt_w_Model_tryDraft_j30 {this : Nat} {Q Q' : Mem → Prop} {X X' : Mem → Prop} {v1 : Int32} {v2 : Int32} {M : Mem} {M0 : Mem} (hQ : ∀ z0, K2 this M0 z0 → Q z0 → Q' z0) (hX : ∀ z0, K2 this M0 z0 → X z0 → X' z0) : K2 this M0 M → w_Model_tryDraft_j30 this Q X v1 v2 M → w_Model_tryDraft_j30 this Q' X' v1 v2 M := by
  intro hf
  unfold w_Model_tryDraft_j30
  exact (mf_and fun _ => (Exists.imp fun i3 => (mf_and fun _ => (Exists.imp fun i4 => (mf_and fun _ => (mf_w_Model_beginWorld (fun M5 f1 => (mf_w_Model_take (fun r7 M6 f2 => (mf_ite (mf_w_Model_cutLine (fun r10 M9 f3 => (mf_w_Model_needWord (fun M11 f4 => (mf_w_Model_callWords (fun M12 f5 => (Exists.imp fun i13 => (mf_and fun _ => (mf_and fun _ => (Exists.imp fun i15 => (mf_and fun _ => (mf_w_Model_beginRun (fun M16 f6 => (mt_w_Model_goOn (fun r18 M17 f7 => (mf_ite (mf_ite (mt_w_Model_tryDraft_j152 hQ hX (K2.wI0 rfl (K2.trans (K2.trans (K2.trans (K2.trans (K2.trans (K2.trans (K2.trans (K2.wR hf) (K2.fr f1 rfl)) (K2.fr f2 rfl)) (K2.fr f3 rfl)) (K2.fr f4 rfl)) (K2.fr f5 rfl)) (K2.fr f6 rfl)) f7))) (mt_w_Model_tryDraft_j152 hQ hX (K2.wI0 rfl (K2.trans (K2.trans (K2.trans (K2.trans (K2.trans (K2.trans (K2.trans (K2.wR hf) (K2.fr f1 rfl)) (K2.fr f2 rfl)) (K2.fr f3 rfl)) (K2.fr f4 rfl)) (K2.fr f5 rfl)) (K2.fr f6 rfl)) f7)))) (mf_ite (mf_ite (mt_w_Model_tryDraft_j241 hQ hX (K2.wI0 rfl (K2.wI0 rfl (K2.trans (K2.trans (K2.trans (K2.trans (K2.trans (K2.trans (K2.trans (K2.wR hf) (K2.fr f1 rfl)) (K2.fr f2 rfl)) (K2.fr f3 rfl)) (K2.fr f4 rfl)) (K2.fr f5 rfl)) (K2.fr f6 rfl)) f7)))) (mt_w_Model_tryDraft_j241 hQ hX (K2.wI0 rfl (K2.wI0 rfl (K2.trans (K2.trans (K2.trans (K2.trans (K2.trans (K2.trans (K2.trans (K2.wR hf) (K2.fr f1 rfl)) (K2.fr f2 rfl)) (K2.fr f3 rfl)) (K2.fr f4 rfl)) (K2.fr f5 rfl)) (K2.fr f6 rfl)) f7))))) (hQ _ (K2.wI0 rfl (K2.wI0 rfl (K2.trans (K2.trans (K2.trans (K2.trans (K2.trans (K2.trans (K2.trans (K2.wR hf) (K2.fr f1 rfl)) (K2.fr f2 rfl)) (K2.fr f3 rfl)) (K2.fr f4 rfl)) (K2.fr f5 rfl)) (K2.fr f6 rfl)) f7)))))))))))))))) (fun z9 f8 => hX z9 (K2.trans (K2.trans (K2.trans (K2.trans (K2.trans (K2.wR hf) (K2.fr f1 rfl)) (K2.fr f2 rfl)) (K2.fr f3 rfl)) (K2.fr f4 rfl)) (K2.fr f8 rfl))))) (fun z11 f10 => hX z11 (K2.trans (K2.trans (K2.trans (K2.trans (K2.wR hf) (K2.fr f1 rfl)) (K2.fr f2 rfl)) (K2.fr f3 rfl)) (K2.fr f10 rfl)))))) (Exists.imp fun M26 => (mf_and fun e12 => (hQ _ (K2.of e12 (K2.wI0 rfl (K2.wI0 rfl (K2.trans (K2.trans (K2.wR hf) (K2.fr f1 rfl)) (K2.fr f2 rfl))))))))))))))))))
set_option maxRecDepth 20000 in
theorem mt_w_Model_tryDraft_L7 {this : Nat} {Q Q' : Mem → Prop} {X X' : Mem → Prop} {M0 : Mem} (hQ : ∀ z0, K2 this M0 z0 → Q z0 → Q' z0) (hX : ∀ z0, K2 this M0 z0 → X z0 → X' z0) : ∀ (n : Nat) (v1 : Int32) (v2 : Int32) (M : Mem), K2 this M0 M → w_Model_tryDraft_L7 this Q X n v1 v2 M → w_Model_tryDraft_L7 this Q' X' n v1 v2 M
  | 0, _, _, _ => fun _ h => h
  | n + 1, v1, v2, M => fun hf => by
    unfold w_Model_tryDraft_L7
    exact (mf_ite (mt_w_Model_tryDraft_j30 hQ hX hf) (mf_and fun _ => (mf_ite (mt_w_Model_tryDraft_j30 hQ hX hf) (mt_w_Model_tryDraft_L7 hQ hX _ _ _ _ hf))))
set_option maxRecDepth 20000 in
theorem mt_w_Model_tryDraft {this : Nat} {a1 : Int32} {Q Q' : Mem → Prop} {X X' : Mem → Prop} {M : Mem} (hQ : ∀ z0, K2 this M z0 → Q z0 → Q' z0) (hX : ∀ z0, K2 this M z0 → X z0 → X' z0) : w_Model_tryDraft this a1 Q X M → w_Model_tryDraft this a1 Q' X' M := by
  unfold w_Model_tryDraft
  exact (Exists.imp fun n29 => (mt_w_Model_tryDraft_L7 hQ hX _ _ _ _ (K2.rf this M)))
set_option maxRecDepth 20000 in
theorem mt_w_Model_outcome {this : Nat} {a1 : Int32} {a2 : Int32} {a3 : Int32} {Q Q' : Int32 → Mem → Prop} {X X' : Mem → Prop} {M : Mem} (hQ : ∀ z0 z1, K2 this M z1 → Q z0 z1 → Q' z0 z1) (hX : ∀ z0, K2 this M z0 → X z0 → X' z0) : w_Model_outcome this a1 a2 a3 Q X M → w_Model_outcome this a1 a2 a3 Q' X' M := by
  unfold w_Model_outcome
  exact (mf_w_Model_isTrial (fun r2 M1 f1 => (mf_ite (hQ _ _ (K2.trans (K2.rf this M) (K2.fr f1 rfl))) (mf_ite (hQ _ _ (K2.trans (K2.rf this M) (K2.fr f1 rfl))) (mf_ite (hQ _ _ (K2.trans (K2.rf this M) (K2.fr f1 rfl))) (mf_ite (hQ _ _ (K2.trans (K2.rf this M) (K2.fr f1 rfl))) (mf_ite (mf_w_Model_draftTrial (fun M8 f2 => (mt_w_Model_tryDraft (fun M9 f3 => (mf_ite (hQ _ _ (K2.trans (K2.trans (K2.trans (K2.rf this M) (K2.fr f1 rfl)) (K2.fr f2 rfl)) f3)) (hQ _ _ (K2.trans (K2.trans (K2.trans (K2.rf this M) (K2.fr f1 rfl)) (K2.fr f2 rfl)) f3)))) (fun z5 f4 => hX z5 (K2.trans (K2.trans (K2.trans (K2.rf this M) (K2.fr f1 rfl)) (K2.fr f2 rfl)) f4))))) (hQ _ _ (K2.trans (K2.rf this M) (K2.fr f1 rfl))))))))))
set_option maxRecDepth 20000 in
theorem mt_w_Model_look_j114 {this : Nat} {Q Q' : Mem → Prop} {X X' : Mem → Prop} {k68 k68' : Int32 → Int32 → Int32 → Int32 → Mem → Prop} {v1 : Int32} {v2 : Int32} {v3 : Int32} {v4 : Int32} {s0 : Int32} {s1 : Int32} {s2 : Int32} {M : Mem} {M0 : Mem} (hQ : ∀ z0, K2 this M0 z0 → Q z0 → Q' z0) (hX : ∀ z0, K2 this M0 z0 → X z0 → X' z0) (hk68 : ∀ z0 z1 z2 z3 z4, K2 this M0 z4 → k68 z0 z1 z2 z3 z4 → k68' z0 z1 z2 z3 z4) : K2 this M0 M → w_Model_look_j114 this Q X k68 v1 v2 v3 v4 s0 s1 s2 M → w_Model_look_j114 this Q' X' k68' v1 v2 v3 v4 s0 s1 s2 M := by
  intro hf
  unfold w_Model_look_j114
  exact (mf_and fun _ => (hk68 _ _ _ _ _ (K2.wI0a rfl hf)))
set_option maxRecDepth 20000 in
theorem mt_w_Model_look_j106 {this : Nat} {Q Q' : Mem → Prop} {X X' : Mem → Prop} {k68 k68' : Int32 → Int32 → Int32 → Int32 → Mem → Prop} {v1 : Int32} {v2 : Int32} {v3 : Int32} {v4 : Int32} {s0 : Int32} {s1 : Int32} {M : Mem} {M0 : Mem} (hQ : ∀ z0, K2 this M0 z0 → Q z0 → Q' z0) (hX : ∀ z0, K2 this M0 z0 → X z0 → X' z0) (hk68 : ∀ z0 z1 z2 z3 z4, K2 this M0 z4 → k68 z0 z1 z2 z3 z4 → k68' z0 z1 z2 z3 z4) : K2 this M0 M → w_Model_look_j106 this Q X k68 v1 v2 v3 v4 s0 s1 M → w_Model_look_j106 this Q' X' k68' v1 v2 v3 v4 s0 s1 M := by
  intro hf
  unfold w_Model_look_j106
  exact (mt_w_Model_look_j114 hQ hX hk68 hf)
set_option maxRecDepth 20000 in
theorem mt_w_Model_look_L68 {this : Nat} {Q Q' : Mem → Prop} {X X' : Mem → Prop} {M0 : Mem} (hQ : ∀ z0, K2 this M0 z0 → Q z0 → Q' z0) (hX : ∀ z0, K2 this M0 z0 → X z0 → X' z0) : ∀ (n : Nat) (v1 : Int32) (v2 : Int32) (v3 : Int32) (v4 : Int32) (M : Mem), K2 this M0 M → w_Model_look_L68 this Q X n v1 v2 v3 v4 M → w_Model_look_L68 this Q' X' n v1 v2 v3 v4 M
  | 0, _, _, _, _, _ => fun _ h => h
  | n + 1, v1, v2, v3, v4, M => fun hf => by
    unfold w_Model_look_L68
    exact (mf_ite (mf_and fun _ => (hQ _ (K2.wI0a rfl hf))) (mt_w_Model_tryDraft (fun M11 f1 => (mf_and fun _ => (mf_ite (mf_ite (mt_w_Model_look_j114 hQ hX (mt_w_Model_look_L68 hQ hX n) (K2.trans hf f1)) (mt_w_Model_look_j106 hQ hX (mt_w_Model_look_L68 hQ hX n) (K2.trans hf f1))) (mt_w_Model_look_j106 hQ hX (mt_w_Model_look_L68 hQ hX n) (K2.trans hf f1))))) (fun z3 f2 => hX z3 (K2.trans hf f2))))
set_option maxRecDepth 20000 in
theorem mt_w_Model_look_j57 {this : Nat} {Q Q' : Mem → Prop} {X X' : Mem → Prop} {v1 : Int32} {v2 : Int32} {v3 : Int32} {s0 : Int32} {s1 : Int32} {M : Mem} {M0 : Mem} (hQ : ∀ z0, K2 this M0 z0 → Q z0 → Q' z0) (hX : ∀ z0, K2 this M0 z0 → X z0 → X' z0) : K2 this M0 M → w_Model_look_j57 this Q X v1 v2 v3 s0 s1 M → w_Model_look_j57 this Q' X' v1 v2 v3 s0 s1 M := by
  intro hf
  unfold w_Model_look_j57
  exact (mf_and fun _ => (mf_and fun _ => (Exists.imp fun M8 => (mf_and fun e1 => (Exists.imp fun n16 => (mt_w_Model_look_L68 hQ hX _ _ _ _ _ _ (K2.of e1 (K2.wI0a rfl (K2.wI0a rfl hf)))))))))
set_option maxRecDepth 20000 in
theorem mt_w_Model_look {this : Nat} {a1 : Int32} {Q Q' : Mem → Prop} {X X' : Mem → Prop} {M : Mem} (hQ : ∀ z0, K2 this M z0 → Q z0 → Q' z0) (hX : ∀ z0, K2 this M z0 → X z0 → X' z0) : w_Model_look this a1 Q X M → w_Model_look this a1 Q' X' M := by
  unfold w_Model_look
  exact (mf_and fun _ => (mf_ite (mf_w_Model_draftTrial (fun M3 f1 => (mt_w_Model_tryDraft (fun M4 f2 => (mf_ite (mt_w_Model_look_j57 hQ hX (K2.trans (K2.trans (K2.rf this M) (K2.fr f1 rfl)) f2)) (mf_ite (mf_and fun _ => (mt_w_Model_look_j57 hQ hX (K2.trans (K2.trans (K2.rf this M) (K2.fr f1 rfl)) f2))) (mt_w_Model_look_j57 hQ hX (K2.trans (K2.trans (K2.rf this M) (K2.fr f1 rfl)) f2))))) (fun z4 f3 => hX z4 (K2.trans (K2.trans (K2.rf this M) (K2.fr f1 rfl)) f3))))) (hQ _ (K2.rf this M))))
set_option maxRecDepth 20000 in
theorem mt_w_Model_meets {this : Nat} {a1 : Int32} {Q Q' : Int32 → Mem → Prop} {X X' : Mem → Prop} {M : Mem} (hQ : ∀ z0 z1, K2 this M z1 → Q z0 z1 → Q' z0 z1) (hX : ∀ z0, K2 this M z0 → X z0 → X' z0) : w_Model_meets this a1 Q X M → w_Model_meets this a1 Q' X' M := by
  unfold w_Model_meets
  exact (mf_w_Model_isTrial (fun r2 M1 f1 => (mf_ite (hQ _ _ (K2.trans (K2.rf this M) (K2.fr f1 rfl))) (mt_w_Model_look (fun M4 f2 => (mf_and fun _ => (hQ _ _ (K2.trans (K2.trans (K2.rf this M) (K2.fr f1 rfl)) f2)))) (fun z4 f3 => hX z4 (K2.trans (K2.trans (K2.rf this M) (K2.fr f1 rfl)) f3))))))
set_option maxRecDepth 20000 in
theorem mt_w_Model_finds {this : Nat} {a1 : Int32} {a2 : Int32} {Q Q' : Int32 → Mem → Prop} {X X' : Mem → Prop} {M : Mem} (hQ : ∀ z0 z1, K2 this M z1 → Q z0 z1 → Q' z0 z1) (hX : ∀ z0, K2 this M z0 → X z0 → X' z0) : w_Model_finds this a1 a2 Q X M → w_Model_finds this a1 a2 Q' X' M := by
  unfold w_Model_finds
  exact (mf_w_Model_isTrial (fun r2 M1 f1 => (mf_ite (hQ _ _ (K2.trans (K2.rf this M) (K2.fr f1 rfl))) (mf_ite (hQ _ _ (K2.trans (K2.rf this M) (K2.fr f1 rfl))) (mf_ite (mf_w_Model_draftTrial (fun M6 f2 => (mt_w_Model_tryDraft (fun M7 f3 => (mt_w_Model_tryDraft (fun M8 f4 => (mf_ite (mf_ite (hQ _ _ (K2.trans (K2.trans (K2.trans (K2.trans (K2.rf this M) (K2.fr f1 rfl)) (K2.fr f2 rfl)) f3) f4)) (hQ _ _ (K2.trans (K2.trans (K2.trans (K2.trans (K2.rf this M) (K2.fr f1 rfl)) (K2.fr f2 rfl)) f3) f4))) (hQ _ _ (K2.trans (K2.trans (K2.trans (K2.trans (K2.rf this M) (K2.fr f1 rfl)) (K2.fr f2 rfl)) f3) f4)))) (fun z6 f5 => hX z6 (K2.trans (K2.trans (K2.trans (K2.trans (K2.rf this M) (K2.fr f1 rfl)) (K2.fr f2 rfl)) f3) f5)))) (fun z8 f7 => hX z8 (K2.trans (K2.trans (K2.trans (K2.rf this M) (K2.fr f1 rfl)) (K2.fr f2 rfl)) f7))))) (hQ _ _ (K2.trans (K2.rf this M) (K2.fr f1 rfl))))))))
set_option maxRecDepth 20000 in
theorem mt_w_Model_hole_j87 {this : Nat} {Q Q' : Int32 → Mem → Prop} {X X' : Mem → Prop} {k50 k50' : Int64 → Int32 → Int32 → Mem → Prop} {v2 : Int64} {v4 : Int32} {v5 : Int32} {M : Mem} {M0 : Mem} (hQ : ∀ z0 z1, K2 this M0 z1 → Q z0 z1 → Q' z0 z1) (hX : ∀ z0, K2 this M0 z0 → X z0 → X' z0) (hk50 : ∀ z0 z1 z2 z3, K2 this M0 z3 → k50 z0 z1 z2 z3 → k50' z0 z1 z2 z3) : K2 this M0 M → w_Model_hole_j87 this Q X k50 v2 v4 v5 M → w_Model_hole_j87 this Q' X' k50' v2 v4 v5 M := by
  intro hf
  unfold w_Model_hole_j87
  exact (hk50 _ _ _ _ hf)
set_option maxRecDepth 20000 in
theorem mt_w_Model_hole_L50 {this : Nat} {Q Q' : Int32 → Mem → Prop} {X X' : Mem → Prop} {M0 : Mem} (hQ : ∀ z0 z1, K2 this M0 z1 → Q z0 z1 → Q' z0 z1) (hX : ∀ z0, K2 this M0 z0 → X z0 → X' z0) : ∀ (n : Nat) (v2 : Int64) (v4 : Int32) (v5 : Int32) (M : Mem), K2 this M0 M → w_Model_hole_L50 this Q X n v2 v4 v5 M → w_Model_hole_L50 this Q' X' n v2 v4 v5 M
  | 0, _, _, _, _ => fun _ h => h
  | n + 1, v2, v4, v5, M => fun hf => by
    unfold w_Model_hole_L50
    exact (mf_ite (hQ _ _ hf) (mf_w_Model_isRule (fun r5 M4 f1 => (mf_ite (mt_w_Model_hole_j87 hQ hX (mt_w_Model_hole_L50 hQ hX n) (K2.trans hf (K2.fr f1 rfl))) (mf_ite (mf_ite (hQ _ _ (K2.trans hf (K2.fr f1 rfl))) (mt_w_Model_hole_j87 hQ hX (mt_w_Model_hole_L50 hQ hX n) (K2.trans hf (K2.fr f1 rfl)))) (mt_w_Model_hole_j87 hQ hX (mt_w_Model_hole_L50 hQ hX n) (K2.trans hf (K2.fr f1 rfl))))))))
set_option maxRecDepth 20000 in
theorem mt_w_Model_hole_L11 {this : Nat} {Q Q' : Int32 → Mem → Prop} {X X' : Mem → Prop} {M0 : Mem} (hQ : ∀ z0 z1, K2 this M0 z1 → Q z0 z1 → Q' z0 z1) (hX : ∀ z0, K2 this M0 z0 → X z0 → X' z0) : ∀ (n : Nat) (v1 : Int32) (v2 : Int64) (v4 : Int32) (M : Mem), K2 this M0 M → w_Model_hole_L11 this Q X n v1 v2 v4 M → w_Model_hole_L11 this Q' X' n v1 v2 v4 M
  | 0, _, _, _, _ => fun _ h => h
  | n + 1, v1, v2, v4, M => fun hf => by
    unfold w_Model_hole_L11
    exact (mf_ite (Exists.imp fun n9 => (mt_w_Model_hole_L50 hQ hX _ _ _ _ _ hf)) (mt_w_Model_look (fun M10 f1 => (mf_and fun _ => (Exists.imp fun x12 => (mf_and fun _ => (mt_w_Model_hole_L11 hQ hX _ _ _ _ _ (K2.trans hf f1)))))) (fun z3 f2 => hX z3 (K2.trans hf f2))))
set_option maxRecDepth 20000 in
theorem mt_w_Model_hole {this : Nat} {a1 : Int32} {Q Q' : Int32 → Mem → Prop} {X X' : Mem → Prop} {M : Mem} (hQ : ∀ z0 z1, K2 this M z1 → Q z0 z1 → Q' z0 z1) (hX : ∀ z0, K2 this M z0 → X z0 → X' z0) : w_Model_hole this a1 Q X M → w_Model_hole this a1 Q' X' M := by
  unfold w_Model_hole
  exact (mf_ite (Exists.imp fun n13 => (mt_w_Model_hole_L11 hQ hX _ _ _ _ _ (K2.rf this M))) (hQ _ _ (K2.rf this M)))
set_option maxRecDepth 20000 in
theorem mt_w_Model_least_j187 {this : Nat} {Q Q' : Int32 → Mem → Prop} {X X' : Mem → Prop} {k45 k45' : Int64 → Int64 → Int32 → Mem → Prop} {v1 : Int64} {v3 : Int64} {v5 : Int32} {M : Mem} {M0 : Mem} (hQ : ∀ z0 z1, K2 this M0 z1 → Q z0 z1 → Q' z0 z1) (hX : ∀ z0, K2 this M0 z0 → X z0 → X' z0) (hk45 : ∀ z0 z1 z2 z3, K2 this M0 z3 → k45 z0 z1 z2 z3 → k45' z0 z1 z2 z3) : K2 this M0 M → w_Model_least_j187 this Q X k45 v1 v3 v5 M → w_Model_least_j187 this Q' X' k45' v1 v3 v5 M := by
  intro hf
  unfold w_Model_least_j187
  exact (hk45 _ _ _ _ hf)
set_option maxRecDepth 20000 in
theorem mt_w_Model_least_L78 {this : Nat} {Q Q' : Int32 → Mem → Prop} {X X' : Mem → Prop} {k45 k45' : Int64 → Int64 → Int32 → Mem → Prop} {M0 : Mem} (hQ : ∀ z0 z1, K2 this M0 z1 → Q z0 z1 → Q' z0 z1) (hX : ∀ z0, K2 this M0 z0 → X z0 → X' z0) (hk45 : ∀ z0 z1 z2 z3, K2 this M0 z3 → k45 z0 z1 z2 z3 → k45' z0 z1 z2 z3) : ∀ (n : Nat) (v1 : Int64) (v3 : Int64) (v5 : Int32) (v6 : Int32) (M : Mem), K2 this M0 M → w_Model_least_L78 this Q X k45 n v1 v3 v5 v6 M → w_Model_least_L78 this Q' X' k45' n v1 v3 v5 v6 M
  | 0, _, _, _, _, _ => fun _ h => h
  | n + 1, v1, v3, v5, v6, M => fun hf => by
    unfold w_Model_least_L78
    exact (mf_ite (mt_w_Model_least_j187 hQ hX hk45 (K2.wI0 rfl hf)) (mf_and fun _ => (mf_and fun _ => (mf_and fun _ => (mf_and fun _ => (mf_and fun _ => (mf_and fun _ => (Exists.imp fun M15 => (mf_and fun e1 => (mf_and fun _ => (mf_and fun _ => (Exists.imp fun M23 => (mf_and fun e2 => (mf_and fun _ => (mf_and fun _ => (Exists.imp fun M26 => (mf_and fun e3 => (mf_and fun _ => (mf_and fun _ => (Exists.imp fun M29 => (mf_and fun e4 => (mt_w_Model_least_L78 hQ hX hk45 _ _ _ _ _ _ (K2.of e4 (K2.wI0a rfl (K2.of e3 (K2.wI0a rfl (K2.of e2 (K2.wI0a rfl (K2.of e1 (K2.wc0 rfl hf))))))))))))))))))))))))))))))
set_option maxRecDepth 20000 in
theorem mt_w_Model_least_L45 {this : Nat} {Q Q' : Int32 → Mem → Prop} {X X' : Mem → Prop} {M0 : Mem} (hQ : ∀ z0 z1, K2 this M0 z1 → Q z0 z1 → Q' z0 z1) (hX : ∀ z0, K2 this M0 z0 → X z0 → X' z0) : ∀ (n : Nat) (v1 : Int64) (v3 : Int64) (v5 : Int32) (M : Mem), K2 this M0 M → w_Model_least_L45 this Q X n v1 v3 v5 M → w_Model_least_L45 this Q' X' n v1 v3 v5 M
  | 0, _, _, _, _ => fun _ h => h
  | n + 1, v1, v3, v5, M => fun hf => by
    unfold w_Model_least_L45
    exact (mf_ite (hQ _ _ hf) (mf_w_Model_together (fun r8 M7 f1 => (mf_ite (mf_w_Model_together (fun r11 M10 f2 => (mf_ite (Exists.imp fun n30 => (mt_w_Model_least_L78 hQ hX (mt_w_Model_least_L45 hQ hX n) _ _ _ _ _ _ (K2.trans (K2.trans hf (K2.fr f1 rfl)) (K2.fr f2 rfl)))) (mt_w_Model_least_j187 hQ hX (mt_w_Model_least_L45 hQ hX n) (K2.trans (K2.trans hf (K2.fr f1 rfl)) (K2.fr f2 rfl)))))) (mt_w_Model_least_j187 hQ hX (mt_w_Model_least_L45 hQ hX n) (K2.trans hf (K2.fr f1 rfl)))))))
set_option maxRecDepth 20000 in
theorem mt_w_Model_least_L2 {this : Nat} {Q Q' : Int32 → Mem → Prop} {X X' : Mem → Prop} {M0 : Mem} (hQ : ∀ z0 z1, K2 this M0 z1 → Q z0 z1 → Q' z0 z1) (hX : ∀ z0, K2 this M0 z0 → X z0 → X' z0) : ∀ (n : Nat) (v1 : Int32) (M : Mem), K2 this M0 M → w_Model_least_L2 this Q X n v1 M → w_Model_least_L2 this Q' X' n v1 M
  | 0, _, _ => fun _ h => h
  | n + 1, v1, M => fun hf => by
    unfold w_Model_least_L2
    exact (mf_ite (mf_w_Model_together (fun r3 M2 f1 => (mf_w_Model_together (fun r5 M4 f2 => (Exists.imp fun n31 => (mt_w_Model_least_L45 hQ hX _ _ _ _ _ (K2.trans (K2.trans hf (K2.fr f1 rfl)) (K2.fr f2 rfl)))))))) (mt_w_Model_look (fun M32 f3 => (mt_w_Model_least_L2 hQ hX _ _ _ (K2.trans hf f3))) (fun z5 f4 => hX z5 (K2.trans hf f4))))
set_option maxRecDepth 20000 in
theorem mt_w_Model_least {this : Nat} {Q Q' : Int32 → Mem → Prop} {X X' : Mem → Prop} {M : Mem} (hQ : ∀ z0 z1, K2 this M z1 → Q z0 z1 → Q' z0 z1) (hX : ∀ z0, K2 this M z0 → X z0 → X' z0) : w_Model_least this Q X M → w_Model_least this Q' X' M := by
  unfold w_Model_least
  exact (Exists.imp fun n33 => (mt_w_Model_least_L2 hQ hX _ _ _ (K2.rf this M)))
set_option maxRecDepth 20000 in
theorem mt_w_Model_fewest_j214 {this : Nat} {Q Q' : Int32 → Mem → Prop} {X X' : Mem → Prop} {k64 k64' : Int32 → Int32 → Mem → Prop} {v1 : Int32} {v2 : Int32} {M : Mem} {M0 : Mem} (hQ : ∀ z0 z1, K2 this M0 z1 → Q z0 z1 → Q' z0 z1) (hX : ∀ z0, K2 this M0 z0 → X z0 → X' z0) (hk64 : ∀ z0 z1 z2, K2 this M0 z2 → k64 z0 z1 z2 → k64' z0 z1 z2) : K2 this M0 M → w_Model_fewest_j214 this Q X k64 v1 v2 M → w_Model_fewest_j214 this Q' X' k64' v1 v2 M := by
  intro hf
  unfold w_Model_fewest_j214
  exact (hk64 _ _ _ hf)
set_option maxRecDepth 20000 in
theorem mt_w_Model_fewest_j207 {this : Nat} {Q Q' : Int32 → Mem → Prop} {X X' : Mem → Prop} {k64 k64' : Int32 → Int32 → Mem → Prop} {k158 k158' : Int32 → Int32 → Int32 → Int32 → Mem → Prop} {v1 : Int32} {v2 : Int32} {v3 : Int32} {v4 : Int32} {s0 : Int32} {s1 : Int32} {M : Mem} {M0 : Mem} (hQ : ∀ z0 z1, K2 this M0 z1 → Q z0 z1 → Q' z0 z1) (hX : ∀ z0, K2 this M0 z0 → X z0 → X' z0) (hk64 : ∀ z0 z1 z2, K2 this M0 z2 → k64 z0 z1 z2 → k64' z0 z1 z2) (hk158 : ∀ z0 z1 z2 z3 z4, K2 this M0 z4 → k158 z0 z1 z2 z3 z4 → k158' z0 z1 z2 z3 z4) : K2 this M0 M → w_Model_fewest_j207 this Q X k64 k158 v1 v2 v3 v4 s0 s1 M → w_Model_fewest_j207 this Q' X' k64' k158' v1 v2 v3 v4 s0 s1 M := by
  intro hf
  unfold w_Model_fewest_j207
  exact (mf_and fun _ => (hk158 _ _ _ _ _ (K2.wI0a rfl hf)))
set_option maxRecDepth 20000 in
theorem mt_w_Model_fewest_L158 {this : Nat} {Q Q' : Int32 → Mem → Prop} {X X' : Mem → Prop} {k64 k64' : Int32 → Int32 → Mem → Prop} {M0 : Mem} (hQ : ∀ z0 z1, K2 this M0 z1 → Q z0 z1 → Q' z0 z1) (hX : ∀ z0, K2 this M0 z0 → X z0 → X' z0) (hk64 : ∀ z0 z1 z2, K2 this M0 z2 → k64 z0 z1 z2 → k64' z0 z1 z2) : ∀ (n : Nat) (v1 : Int32) (v2 : Int32) (v3 : Int32) (v4 : Int32) (M : Mem), K2 this M0 M → w_Model_fewest_L158 this Q X k64 n v1 v2 v3 v4 M → w_Model_fewest_L158 this Q' X' k64' n v1 v2 v3 v4 M
  | 0, _, _, _, _, _ => fun _ h => h
  | n + 1, v1, v2, v3, v4, M => fun hf => by
    unfold w_Model_fewest_L158
    exact (mf_ite (mt_w_Model_fewest_j214 hQ hX hk64 hf) (mf_ite (mt_w_Model_fewest_j214 hQ hX hk64 hf) (mf_ite (mf_and fun _ => (mf_and fun _ => (mf_w_JMath_min (fun r15 M14 f1 => (mt_w_Model_fewest_j207 hQ hX hk64 (mt_w_Model_fewest_L158 hQ hX hk64 n) (K2.trans hf (K2.fr f1 rfl))))))) (mf_and fun _ => (mt_w_Model_fewest_j207 hQ hX hk64 (mt_w_Model_fewest_L158 hQ hX hk64 n) hf)))))
set_option maxRecDepth 20000 in
theorem mt_w_Model_fewest_j149 {this : Nat} {Q Q' : Int32 → Mem → Prop} {X X' : Mem → Prop} {k64 k64' : Int32 → Int32 → Mem → Prop} {k116 k116' : Int32 → Int32 → Int32 → Int32 → Mem → Prop} {v1 : Int32} {v2 : Int32} {v3 : Int32} {v4 : Int32} {M : Mem} {M0 : Mem} (hQ : ∀ z0 z1, K2 this M0 z1 → Q z0 z1 → Q' z0 z1) (hX : ∀ z0, K2 this M0 z0 → X z0 → X' z0) (hk64 : ∀ z0 z1 z2, K2 this M0 z2 → k64 z0 z1 z2 → k64' z0 z1 z2) (hk116 : ∀ z0 z1 z2 z3 z4, K2 this M0 z4 → k116 z0 z1 z2 z3 z4 → k116' z0 z1 z2 z3 z4) : K2 this M0 M → w_Model_fewest_j149 this Q X k64 k116 v1 v2 v3 v4 M → w_Model_fewest_j149 this Q' X' k64' k116' v1 v2 v3 v4 M := by
  intro hf
  unfold w_Model_fewest_j149
  exact (hk116 _ _ _ _ _ hf)
set_option maxRecDepth 20000 in
theorem mt_w_Model_fewest_L116 {this : Nat} {Q Q' : Int32 → Mem → Prop} {X X' : Mem → Prop} {k64 k64' : Int32 → Int32 → Mem → Prop} {M0 : Mem} (hQ : ∀ z0 z1, K2 this M0 z1 → Q z0 z1 → Q' z0 z1) (hX : ∀ z0, K2 this M0 z0 → X z0 → X' z0) (hk64 : ∀ z0 z1 z2, K2 this M0 z2 → k64 z0 z1 z2 → k64' z0 z1 z2) : ∀ (n : Nat) (v1 : Int32) (v2 : Int32) (v3 : Int32) (v4 : Int32) (M : Mem), K2 this M0 M → w_Model_fewest_L116 this Q X k64 n v1 v2 v3 v4 M → w_Model_fewest_L116 this Q' X' k64' n v1 v2 v3 v4 M
  | 0, _, _, _, _, _ => fun _ h => h
  | n + 1, v1, v2, v3, v4, M => fun hf => by
    unfold w_Model_fewest_L116
    exact (mf_ite (Exists.imp fun n18 => (mt_w_Model_fewest_L158 hQ hX hk64 _ _ _ _ _ _ hf)) (mf_and fun _ => (mf_ite (mf_and fun _ => (mf_w_Model_addTrial (fun M22 f1 => (mt_w_Model_fewest_j149 hQ hX hk64 (mt_w_Model_fewest_L116 hQ hX hk64 n) (K2.trans hf (K2.fr f1 rfl)))))) (mt_w_Model_fewest_j149 hQ hX hk64 (mt_w_Model_fewest_L116 hQ hX hk64 n) hf))))
set_option maxRecDepth 20000 in
theorem mt_w_Model_fewest_L75 {this : Nat} {Q Q' : Int32 → Mem → Prop} {X X' : Mem → Prop} {k64 k64' : Int32 → Int32 → Mem → Prop} {M0 : Mem} (hQ : ∀ z0 z1, K2 this M0 z1 → Q z0 z1 → Q' z0 z1) (hX : ∀ z0, K2 this M0 z0 → X z0 → X' z0) (hk64 : ∀ z0 z1 z2, K2 this M0 z2 → k64 z0 z1 z2 → k64' z0 z1 z2) : ∀ (n : Nat) (v1 : Int32) (v2 : Int32) (v3 : Int32) (v4 : Int32) (M : Mem), K2 this M0 M → w_Model_fewest_L75 this Q X k64 n v1 v2 v3 v4 M → w_Model_fewest_L75 this Q' X' k64' n v1 v2 v3 v4 M
  | 0, _, _, _, _, _ => fun _ h => h
  | n + 1, v1, v2, v3, v4, M => fun hf => by
    unfold w_Model_fewest_L75
    exact (mf_ite (Exists.imp fun n23 => (mt_w_Model_fewest_L116 hQ hX hk64 _ _ _ _ _ _ hf)) (mf_and fun _ => (mf_and fun _ => (mf_and fun _ => (Exists.imp fun M27 => (mf_and fun e1 => (mt_w_Model_fewest_L75 hQ hX hk64 _ _ _ _ _ _ (K2.of e1 (K2.wI0a rfl (K2.wI0a rfl hf))))))))))
set_option maxRecDepth 20000 in
theorem mt_w_Model_fewest_L64 {this : Nat} {Q Q' : Int32 → Mem → Prop} {X X' : Mem → Prop} {M0 : Mem} (hQ : ∀ z0 z1, K2 this M0 z1 → Q z0 z1 → Q' z0 z1) (hX : ∀ z0, K2 this M0 z0 → X z0 → X' z0) : ∀ (n : Nat) (v1 : Int32) (v2 : Int32) (M : Mem), K2 this M0 M → w_Model_fewest_L64 this Q X n v1 v2 M → w_Model_fewest_L64 this Q' X' n v1 v2 M
  | 0, _, _, _ => fun _ h => h
  | n + 1, v1, v2, M => fun hf => by
    unfold w_Model_fewest_L64
    exact (mf_ite (mf_and fun _ => (hQ _ _ hf)) (Exists.imp fun n28 => (mt_w_Model_fewest_L75 hQ hX (mt_w_Model_fewest_L64 hQ hX n) _ _ _ _ _ _ hf)))
set_option maxRecDepth 20000 in
theorem mt_w_Model_fewest_j55 {this : Nat} {Q Q' : Int32 → Mem → Prop} {X X' : Mem → Prop} {k32 k32' : Int32 → Int32 → Mem → Prop} {v1 : Int32} {v2 : Int32} {s0 : Int32} {s1 : Int32} {M : Mem} {M0 : Mem} (hQ : ∀ z0 z1, K2 this M0 z1 → Q z0 z1 → Q' z0 z1) (hX : ∀ z0, K2 this M0 z0 → X z0 → X' z0) (hk32 : ∀ z0 z1 z2, K2 this M0 z2 → k32 z0 z1 z2 → k32' z0 z1 z2) : K2 this M0 M → w_Model_fewest_j55 this Q X k32 v1 v2 s0 s1 M → w_Model_fewest_j55 this Q' X' k32' v1 v2 s0 s1 M := by
  intro hf
  unfold w_Model_fewest_j55
  exact (mf_and fun _ => (hk32 _ _ _ (K2.wI0a rfl hf)))
set_option maxRecDepth 20000 in
theorem mt_w_Model_fewest_L32 {this : Nat} {Q Q' : Int32 → Mem → Prop} {X X' : Mem → Prop} {M0 : Mem} (hQ : ∀ z0 z1, K2 this M0 z1 → Q z0 z1 → Q' z0 z1) (hX : ∀ z0, K2 this M0 z0 → X z0 → X' z0) : ∀ (n : Nat) (v1 : Int32) (v2 : Int32) (M : Mem), K2 this M0 M → w_Model_fewest_L32 this Q X n v1 v2 M → w_Model_fewest_L32 this Q' X' n v1 v2 M
  | 0, _, _, _ => fun _ h => h
  | n + 1, v1, v2, M => fun hf => by
    unfold w_Model_fewest_L32
    exact (mf_ite (Exists.imp fun n29 => (mt_w_Model_fewest_L64 hQ hX _ _ _ _ hf)) (mf_ite (mt_w_Model_fewest_j55 hQ hX (mt_w_Model_fewest_L32 hQ hX n) hf) (mt_w_Model_fewest_j55 hQ hX (mt_w_Model_fewest_L32 hQ hX n) hf)))
set_option maxRecDepth 20000 in
theorem mt_w_Model_fewest_L2 {this : Nat} {Q Q' : Int32 → Mem → Prop} {X X' : Mem → Prop} {M0 : Mem} (hQ : ∀ z0 z1, K2 this M0 z1 → Q z0 z1 → Q' z0 z1) (hX : ∀ z0, K2 this M0 z0 → X z0 → X' z0) : ∀ (n : Nat) (v1 : Int32) (M : Mem), K2 this M0 M → w_Model_fewest_L2 this Q X n v1 M → w_Model_fewest_L2 this Q' X' n v1 M
  | 0, _, _ => fun _ h => h
  | n + 1, v1, M => fun hf => by
    unfold w_Model_fewest_L2
    exact (mf_ite (mf_w_Model_together (fun r3 M2 f1 => (Exists.imp fun n32 => (mt_w_Model_fewest_L32 hQ hX _ _ _ _ (K2.trans hf (K2.fr f1 rfl)))))) (mt_w_Model_look (fun M33 f2 => (mt_w_Model_fewest_L2 hQ hX _ _ _ (K2.trans hf f2))) (fun z4 f3 => hX z4 (K2.trans hf f3))))
set_option maxRecDepth 20000 in
theorem mt_w_Model_fewest {this : Nat} {Q Q' : Int32 → Mem → Prop} {X X' : Mem → Prop} {M : Mem} (hQ : ∀ z0 z1, K2 this M z1 → Q z0 z1 → Q' z0 z1) (hX : ∀ z0, K2 this M z0 → X z0 → X' z0) : w_Model_fewest this Q X M → w_Model_fewest this Q' X' M := by
  unfold w_Model_fewest
  exact (Exists.imp fun n34 => (mt_w_Model_fewest_L2 hQ hX _ _ _ (K2.rf this M)))
set_option maxRecDepth 20000 in
theorem mt_w_Model_shrink_j215 {this : Nat} {Q Q' : Int32 → Mem → Prop} {X X' : Mem → Prop} {k68 k68' : Int32 → Int32 → Int32 → Int32 → Int32 → Int32 → Int32 → Mem → Prop} {v1 : Int32} {v2 : Int32} {v3 : Int32} {v4 : Int32} {v5 : Int32} {v6 : Int32} {v7 : Int32} {M : Mem} {M0 : Mem} (hQ : ∀ z0 z1, K2 this M0 z1 → Q z0 z1 → Q' z0 z1) (hX : ∀ z0, K2 this M0 z0 → X z0 → X' z0) (hk68 : ∀ z0 z1 z2 z3 z4 z5 z6 z7, K2 this M0 z7 → k68 z0 z1 z2 z3 z4 z5 z6 z7 → k68' z0 z1 z2 z3 z4 z5 z6 z7) : K2 this M0 M → w_Model_shrink_j215 this Q X k68 v1 v2 v3 v4 v5 v6 v7 M → w_Model_shrink_j215 this Q' X' k68' v1 v2 v3 v4 v5 v6 v7 M := by
  intro hf
  unfold w_Model_shrink_j215
  exact (hk68 _ _ _ _ _ _ _ _ hf)
set_option maxRecDepth 20000 in
theorem mt_w_Model_shrink_j179 {this : Nat} {Q Q' : Int32 → Mem → Prop} {X X' : Mem → Prop} {k68 k68' : Int32 → Int32 → Int32 → Int32 → Int32 → Int32 → Int32 → Mem → Prop} {v1 : Int32} {v2 : Int32} {v3 : Int32} {v4 : Int32} {v5 : Int32} {v6 : Int32} {v7 : Int32} {v9 : Int32} {M : Mem} {M0 : Mem} (hQ : ∀ z0 z1, K2 this M0 z1 → Q z0 z1 → Q' z0 z1) (hX : ∀ z0, K2 this M0 z0 → X z0 → X' z0) (hk68 : ∀ z0 z1 z2 z3 z4 z5 z6 z7, K2 this M0 z7 → k68 z0 z1 z2 z3 z4 z5 z6 z7 → k68' z0 z1 z2 z3 z4 z5 z6 z7) : K2 this M0 M → w_Model_shrink_j179 this Q X k68 v1 v2 v3 v4 v5 v6 v7 v9 M → w_Model_shrink_j179 this Q' X' k68' v1 v2 v3 v4 v5 v6 v7 v9 M := by
  intro hf
  unfold w_Model_shrink_j179
  exact (mf_ite (mt_w_Model_shrink_j215 hQ hX hk68 hf) (mf_and fun _ => (mf_and fun _ => (mf_and fun _ => (mf_and fun _ => (mf_and fun _ => (Exists.imp fun M23 => (mf_and fun e1 => (mf_and fun _ => (mt_w_Model_shrink_j215 hQ hX hk68 (K2.wI0a rfl (K2.of e1 (K2.wc0 rfl hf)))))))))))))
set_option maxRecDepth 20000 in
theorem mt_w_Model_shrink_j177 {this : Nat} {Q Q' : Int32 → Mem → Prop} {X X' : Mem → Prop} {k68 k68' : Int32 → Int32 → Int32 → Int32 → Int32 → Int32 → Int32 → Mem → Prop} {v1 : Int32} {v2 : Int32} {v3 : Int32} {v4 : Int32} {v5 : Int32} {v6 : Int32} {v7 : Int32} {s0 : Int32} {M : Mem} {M0 : Mem} (hQ : ∀ z0 z1, K2 this M0 z1 → Q z0 z1 → Q' z0 z1) (hX : ∀ z0, K2 this M0 z0 → X z0 → X' z0) (hk68 : ∀ z0 z1 z2 z3 z4 z5 z6 z7, K2 this M0 z7 → k68 z0 z1 z2 z3 z4 z5 z6 z7 → k68' z0 z1 z2 z3 z4 z5 z6 z7) : K2 this M0 M → w_Model_shrink_j177 this Q X k68 v1 v2 v3 v4 v5 v6 v7 s0 M → w_Model_shrink_j177 this Q' X' k68' v1 v2 v3 v4 v5 v6 v7 s0 M := by
  intro hf
  unfold w_Model_shrink_j177
  exact (mt_w_Model_shrink_j179 hQ hX hk68 hf)
set_option maxRecDepth 20000 in
theorem mt_w_Model_shrink_j176 {this : Nat} {Q Q' : Int32 → Mem → Prop} {X X' : Mem → Prop} {k68 k68' : Int32 → Int32 → Int32 → Int32 → Int32 → Int32 → Int32 → Mem → Prop} {v1 : Int32} {v2 : Int32} {v3 : Int32} {v4 : Int32} {v5 : Int32} {v6 : Int32} {v7 : Int32} {M : Mem} {M0 : Mem} (hQ : ∀ z0 z1, K2 this M0 z1 → Q z0 z1 → Q' z0 z1) (hX : ∀ z0, K2 this M0 z0 → X z0 → X' z0) (hk68 : ∀ z0 z1 z2 z3 z4 z5 z6 z7, K2 this M0 z7 → k68 z0 z1 z2 z3 z4 z5 z6 z7 → k68' z0 z1 z2 z3 z4 z5 z6 z7) : K2 this M0 M → w_Model_shrink_j176 this Q X k68 v1 v2 v3 v4 v5 v6 v7 M → w_Model_shrink_j176 this Q' X' k68' v1 v2 v3 v4 v5 v6 v7 M := by
  intro hf
  unfold w_Model_shrink_j176
  exact (mt_w_Model_shrink_j177 hQ hX hk68 hf)
set_option maxRecDepth 20000 in
theorem mt_w_Model_shrink_j142 {this : Nat} {Q Q' : Int32 → Mem → Prop} {X X' : Mem → Prop} {k68 k68' : Int32 → Int32 → Int32 → Int32 → Int32 → Int32 → Int32 → Mem → Prop} {v1 : Int32} {v2 : Int32} {v3 : Int32} {v4 : Int32} {v5 : Int32} {v6 : Int32} {v7 : Int32} {s0 : Int32} {M : Mem} {M0 : Mem} (hQ : ∀ z0 z1, K2 this M0 z1 → Q z0 z1 → Q' z0 z1) (hX : ∀ z0, K2 this M0 z0 → X z0 → X' z0) (hk68 : ∀ z0 z1 z2 z3 z4 z5 z6 z7, K2 this M0 z7 → k68 z0 z1 z2 z3 z4 z5 z6 z7 → k68' z0 z1 z2 z3 z4 z5 z6 z7) : K2 this M0 M → w_Model_shrink_j142 this Q X k68 v1 v2 v3 v4 v5 v6 v7 s0 M → w_Model_shrink_j142 this Q' X' k68' v1 v2 v3 v4 v5 v6 v7 s0 M := by
  intro hf
  unfold w_Model_shrink_j142
  exact (mf_ite (mt_w_Model_shrink_j179 hQ hX hk68 hf) (mt_w_Model_tryDraft (fun M30 f1 => (mf_ite (mf_ite (mt_w_Model_shrink_j177 hQ hX hk68 (K2.trans hf f1)) (mt_w_Model_shrink_j176 hQ hX hk68 (K2.trans hf f1))) (mt_w_Model_shrink_j176 hQ hX hk68 (K2.trans hf f1)))) (fun z3 f2 => hX z3 (K2.trans hf f2))))
set_option maxRecDepth 20000 in
theorem mt_w_Model_shrink_j141 {this : Nat} {Q Q' : Int32 → Mem → Prop} {X X' : Mem → Prop} {k68 k68' : Int32 → Int32 → Int32 → Int32 → Int32 → Int32 → Int32 → Mem → Prop} {v1 : Int32} {v2 : Int32} {v3 : Int32} {v4 : Int32} {v5 : Int32} {v6 : Int32} {v7 : Int32} {M : Mem} {M0 : Mem} (hQ : ∀ z0 z1, K2 this M0 z1 → Q z0 z1 → Q' z0 z1) (hX : ∀ z0, K2 this M0 z0 → X z0 → X' z0) (hk68 : ∀ z0 z1 z2 z3 z4 z5 z6 z7, K2 this M0 z7 → k68 z0 z1 z2 z3 z4 z5 z6 z7 → k68' z0 z1 z2 z3 z4 z5 z6 z7) : K2 this M0 M → w_Model_shrink_j141 this Q X k68 v1 v2 v3 v4 v5 v6 v7 M → w_Model_shrink_j141 this Q' X' k68' v1 v2 v3 v4 v5 v6 v7 M := by
  intro hf
  unfold w_Model_shrink_j141
  exact (mt_w_Model_shrink_j142 hQ hX hk68 hf)
set_option maxRecDepth 20000 in
theorem mt_w_Model_shrink_j109 {this : Nat} {Q Q' : Int32 → Mem → Prop} {X X' : Mem → Prop} {k68 k68' : Int32 → Int32 → Int32 → Int32 → Int32 → Int32 → Int32 → Mem → Prop} {k88 k88' : Int32 → Int32 → Int32 → Int32 → Int32 → Int32 → Int32 → Int32 → Int32 → Mem → Prop} {v1 : Int32} {v2 : Int32} {v3 : Int32} {v4 : Int32} {v5 : Int32} {v6 : Int32} {v7 : Int32} {v8 : Int32} {v9 : Int32} {M : Mem} {M0 : Mem} (hQ : ∀ z0 z1, K2 this M0 z1 → Q z0 z1 → Q' z0 z1) (hX : ∀ z0, K2 this M0 z0 → X z0 → X' z0) (hk68 : ∀ z0 z1 z2 z3 z4 z5 z6 z7, K2 this M0 z7 → k68 z0 z1 z2 z3 z4 z5 z6 z7 → k68' z0 z1 z2 z3 z4 z5 z6 z7) (hk88 : ∀ z0 z1 z2 z3 z4 z5 z6 z7 z8 z9, K2 this M0 z9 → k88 z0 z1 z2 z3 z4 z5 z6 z7 z8 z9 → k88' z0 z1 z2 z3 z4 z5 z6 z7 z8 z9) : K2 this M0 M → w_Model_shrink_j109 this Q X k68 k88 v1 v2 v3 v4 v5 v6 v7 v8 v9 M → w_Model_shrink_j109 this Q' X' k68' k88' v1 v2 v3 v4 v5 v6 v7 v8 v9 M := by
  intro hf
  unfold w_Model_shrink_j109
  exact (hk88 _ _ _ _ _ _ _ _ _ _ hf)
set_option maxRecDepth 20000 in
theorem mt_w_Model_shrink_L88 {this : Nat} {Q Q' : Int32 → Mem → Prop} {X X' : Mem → Prop} {k68 k68' : Int32 → Int32 → Int32 → Int32 → Int32 → Int32 → Int32 → Mem → Prop} {M0 : Mem} (hQ : ∀ z0 z1, K2 this M0 z1 → Q z0 z1 → Q' z0 z1) (hX : ∀ z0, K2 this M0 z0 → X z0 → X' z0) (hk68 : ∀ z0 z1 z2 z3 z4 z5 z6 z7, K2 this M0 z7 → k68 z0 z1 z2 z3 z4 z5 z6 z7 → k68' z0 z1 z2 z3 z4 z5 z6 z7) : ∀ (n : Nat) (v1 : Int32) (v2 : Int32) (v3 : Int32) (v4 : Int32) (v5 : Int32) (v6 : Int32) (v7 : Int32) (v8 : Int32) (v9 : Int32) (M : Mem), K2 this M0 M → w_Model_shrink_L88 this Q X k68 n v1 v2 v3 v4 v5 v6 v7 v8 v9 M → w_Model_shrink_L88 this Q' X' k68' n v1 v2 v3 v4 v5 v6 v7 v8 v9 M
  | 0, _, _, _, _, _, _, _, _, _, _ => fun _ h => h
  | n + 1, v1, v2, v3, v4, v5, v6, v7, v8, v9, M => fun hf => by
    unfold w_Model_shrink_L88
    exact (mf_ite (mt_w_Model_tryDraft (fun M18 f1 => (mf_ite (mf_ite (mt_w_Model_shrink_j142 hQ hX hk68 (K2.trans hf f1)) (mt_w_Model_shrink_j141 hQ hX hk68 (K2.trans hf f1))) (mt_w_Model_shrink_j141 hQ hX hk68 (K2.trans hf f1)))) (fun z3 f2 => hX z3 (K2.trans hf f2))) (mf_ite (mt_w_Model_shrink_j109 hQ hX hk68 (mt_w_Model_shrink_L88 hQ hX hk68 n) hf) (mf_w_Model_draftLine (fun M34 f4 => (mt_w_Model_shrink_j109 hQ hX hk68 (mt_w_Model_shrink_L88 hQ hX hk68 n) (K2.trans hf (K2.fr f4 rfl)))))))
set_option maxRecDepth 20000 in
theorem mt_w_Model_shrink_L68 {this : Nat} {Q Q' : Int32 → Mem → Prop} {X X' : Mem → Prop} {M0 : Mem} (hQ : ∀ z0 z1, K2 this M0 z1 → Q z0 z1 → Q' z0 z1) (hX : ∀ z0, K2 this M0 z0 → X z0 → X' z0) : ∀ (n : Nat) (v1 : Int32) (v2 : Int32) (v3 : Int32) (v4 : Int32) (v5 : Int32) (v6 : Int32) (v7 : Int32) (M : Mem), K2 this M0 M → w_Model_shrink_L68 this Q X n v1 v2 v3 v4 v5 v6 v7 M → w_Model_shrink_L68 this Q' X' n v1 v2 v3 v4 v5 v6 v7 M
  | 0, _, _, _, _, _, _, _, _ => fun _ h => h
  | n + 1, v1, v2, v3, v4, v5, v6, v7, M => fun hf => by
    unfold w_Model_shrink_L68
    exact (mf_ite (mf_and fun _ => (mf_w_Model_linesOf (fun r14 M13 f1 => (hQ _ _ (K2.trans (K2.wI0a rfl hf) (K2.fr f1 rfl)))))) (mf_w_Model_linesOf (fun r16 M15 f2 => (Exists.imp fun n35 => (mt_w_Model_shrink_L88 hQ hX (mt_w_Model_shrink_L68 hQ hX n) _ _ _ _ _ _ _ _ _ _ _ (K2.wI0 rfl (K2.trans hf (K2.fr f2 rfl))))))))
set_option maxRecDepth 20000 in
theorem mt_w_Model_shrink {this : Nat} {a1 : Int32} {a2 : Int32} {Q Q' : Int32 → Mem → Prop} {X X' : Mem → Prop} {M : Mem} (hQ : ∀ z0 z1, K2 this M z1 → Q z0 z1 → Q' z0 z1) (hX : ∀ z0, K2 this M z0 → X z0 → X' z0) : w_Model_shrink this a1 a2 Q X M → w_Model_shrink this a1 a2 Q' X' M := by
  unfold w_Model_shrink
  exact (mf_w_Model_isTrial (fun r2 M1 f1 => (mf_ite (hQ _ _ (K2.trans (K2.rf this M) (K2.fr f1 rfl))) (mf_ite (hQ _ _ (K2.trans (K2.rf this M) (K2.fr f1 rfl))) (mf_ite (mf_w_Model_draftTrial (fun M6 f2 => (mt_w_Model_tryDraft (fun M7 f3 => (mt_w_Model_tryDraft (fun M8 f4 => (mf_w_Model_linesOf (fun r10 M9 f5 => (Exists.imp fun n36 => (mt_w_Model_shrink_L68 hQ hX _ _ _ _ _ _ _ _ _ (K2.trans (K2.trans (K2.trans (K2.trans (K2.trans (K2.rf this M) (K2.fr f1 rfl)) (K2.fr f2 rfl)) f3) f4) (K2.fr f5 rfl))))))) (fun z7 f6 => hX z7 (K2.trans (K2.trans (K2.trans (K2.trans (K2.rf this M) (K2.fr f1 rfl)) (K2.fr f2 rfl)) f3) f6)))) (fun z9 f8 => hX z9 (K2.trans (K2.trans (K2.trans (K2.rf this M) (K2.fr f1 rfl)) (K2.fr f2 rfl)) f8))))) (hQ _ _ (K2.trans (K2.rf this M) (K2.fr f1 rfl))))))))
