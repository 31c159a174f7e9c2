/-! B: frames in the twin -/
theorem isWd_x {a b : Nm} {ts : List Tok} (h : isWd a ts = true) (hab : a ≠ b) : isWd b ts = false := by
  have := of_decide_eq_true h
  exact decide_eq_false (fun q => hab (this.2.symm.trans q.2))
theorem JM.kindWord {G : List Sl} {US : UST} {A : List Nm} {S : List Sg} {W : List Cls} {w c : Nat} {br : Int32} {q0 nl0 nq nl nf nk : Nat} {p : PM} {NL : List Nine} {z : Nat × Nat × Nat × Nat × Nat × Nat} {L ts : List Tok} {M0 M : Mem} {Q : Int32 → Mem → Prop} {X : Mem → Prop} (h : JM G US A S W w c br q0 nl0 nq nl nf nk p NL z L ts M0 M) (hx : Gx G w) (hz : lz L) (hne : ts ≠ [])
    (hQ : ∀ κ t2 M', pKind ts = .inr (κ, t2) → kok A κ → fkOk κ → t2 ≠ [] → JM G US A S W w c br q0 nl0 nq nl nf nk p NL z L t2 M0 M' → Q (kt A κ) M') (hX : ∀ e M', pKind ts = .inl e → ThT e M' → JE G US A w z M0 M' → X M') : w_Model_kindWord 0 Q X M := by
  have kf := fun (M' : Mem) (hq : TKs A M') => (⟨hq (27, nNum) (by simp [kF]), hq (20, nRow) (by simp [kF]), hq (28, nNull) (by simp [kF]), hq (22, nUnset) (by simp [kF]), hq (23, nUnmade) (by simp [kF])⟩ : (mI M' 11 0 27 = nc A nNum ∧ nNum ∈ A) ∧ (mI M' 11 0 20 = nc A nRow ∧ nRow ∈ A) ∧ (mI M' 11 0 28 = nc A nNull ∧ nNull ∈ A) ∧ (mI M' 11 0 22 = nc A nUnset ∧ nUnset ∈ A) ∧ (mI M' 11 0 23 = nc A nUnmade ∧ nUnmade ∈ A))
  unfold pKind pType at hQ hX
  unfold w_Model_kindWord
  obtain ⟨k1, -⟩ := kf M h.1.1.2.1
  rw [k1.1]
  refine h.takes hx hz hne k1.2 (fun M1 a1 n1 h1 => itn (by decide) ?_) (fun M1 a1 h1 => itp rfl ?_)
  · rw [isWd_x a1 (by decide), isWd_x a1 (by decide), isWd_x a1 (by decide), a1] at hQ
    exact hQ (0, []) ts.tail M1 rfl (fun q => absurd q (by decide)) (Or.inl rfl) n1 h1
  obtain ⟨-, k2, -⟩ := kf M1 h1.1.1.2.1
  rw [k2.1]
  refine h1.takes hx hz hne k2.2 (fun M2 a2 n2 h2 => itn (by decide) ?_) (fun M2 a2 h2 => itp rfl ?_)
  · rw [isWd_x a2 (by decide), isWd_x a2 (by decide), isWd_x a2 (by decide), a1, a2] at hQ
    exact hQ (1, []) ts.tail M2 rfl (fun q => absurd q (by decide)) (Or.inr (Or.inl rfl)) n2 h2
  obtain ⟨-, -, k3, -⟩ := kf M2 h2.1.1.2.1
  rw [k3.1]
  refine h2.takes hx hz hne k3.2 (fun M3 a3 n3 h3 => itn (by decide) ?_) (fun M3 a3 h3 => itp rfl ?_)
  · rw [a3] at hQ
    exact hQ (-1, []) ts.tail M3 rfl (fun q => absurd q (by decide)) (Or.inr (Or.inr (Or.inl rfl))) n3 h3
  obtain ⟨-, -, -, k4, -⟩ := kf M3 h3.1.1.2.1
  rw [k4.1]
  refine h3.takes hx hz hne k4.2 (fun M4 a4 n4 h4 => itn (by decide) ?_) (fun M4 a4 h4 => itp rfl ?_)
  · rw [a3, a4] at hQ
    exact hQ (-2, []) ts.tail M4 rfl (fun q => absurd q (by decide)) (Or.inr (Or.inr (Or.inr (Or.inl rfl)))) n4 h4
  obtain ⟨-, -, -, -, k5⟩ := kf M4 h4.1.1.2.1
  rw [k5.1]
  refine h4.takes hx hz hne k5.2 (fun M5 a5 n5 h5 => itn (by decide) ?_) (fun M5 a5 h5 => itp rfl ?_)
  · rw [a3, a4, a5] at hQ
    exact hQ (-3, []) ts.tail M5 rfl (fun q => absurd q (by decide)) (Or.inr (Or.inr (Or.inr (Or.inr (Or.inl rfl))))) n5 h5
  rw [a1, a2, a3, a4, a5] at hQ hX
  simp only [Bool.false_eq_true, if_false] at hQ hX
  refine h5.cls hx hz hne (fun k t2 M6 a6 b6 n6 h6 => ?_) (fun e M' a b hj => hX e M' (by rw [a]) b hj)
  rw [a6] at hQ
  have : (16 : Int32) + nc A k = kt A (2, k) := by
    unfold kt nc; rw [if_pos rfl, lit32 16, oN_add, Nat.add_comm]
  rw [this]
  exact hQ (2, k) t2 M6 rfl (fun _ => b6) (Or.inr (Or.inr (Or.inr (Or.inr (Or.inr rfl))))) n6 h6
/-- the row of kinds holds one more -/
theorem JM.kindRow {G : List Sl} {US : UST} {A : List Nm} {S : List Sg} {W : List Cls} {w c : Nat} {br : Int32} {q0 nl0 nq nl nf nk : Nat} {p : PM} {NL : List Nine} {z : Nat × Nat × Nat × Nat × Nat × Nat} {L ts : List Tok} {M0 M : Mem} {M2 : Mem} {i : Nat} (h : JM G US A S W w c br q0 nl0 nq nl nf nk p NL z L ts M0 M) (hx : Gx G w) (hn : nk < 3900) (r1 : Gr1 G [sFk w] (sFk w) (nk + 1) M (sR M2 12 w 42 (some (300, i)))) (f1 : Fr F_Model_room M M2) (hqq : nq = q0 + p.2.1.length) (hzb : z.2.1 ≤ nq ∧ z.2.2.1 ≤ nl ∧ z.2.2.2.1 ≤ nf ∧ z.2.2.2.2.1 ≤ nk) : JM G US A S W w c br q0 nl0 nq nl nf nk p NL z L ts M0 (sR M2 12 w 42 (some (300, i))) ∧ nk + 1 ≤ rl (sR M2 12 w 42 (some (300, i))) (sFk w) ∧ GF G [sFk w] M (sR M2 12 w 42 (some (300, i))) ∧ ∀ k, k < nk → rd (sR M2 12 w 42 (some (300, i))) (sFk w) k = rd M (sFk w) k := by
  have hw := hx.2.2.2.1
  have fr1 : Fr (287724615985440965458794678136059329065601673898977937679550706873822600720910104184224330452334632505066398528821115743546239988265425214780729768327433904187638733707140592015203836016720409797262037678641561245446221574655641153333187651609098710329941003825584030113765405961157123932768976632761263557862273595233321799276323219915537860208918694360056093605407667110977055296220158058209988384202312567422191708397454623472372937755539799002254127214040020619096795591065008034208014061606765594202542785143942548576241794192533346758629812272041305149991488334542545813250288471224444286562122236894988576664128889532292929253335485737105461534692828750981531789059936268574148205761996390448937069482129053778004208455135824126316085956884405980610232256440082222379165397189227248172375628517719282654827757254783234584960243337972484512269322385422517782946496289858387153646979655152173625231172087233109988024604988932597304501997407752115009117201945067839469355715201816786801071042439320036460651333726674740025533881758785432247387589458922315311873853113663915324676602305218884751024945764455131332843787821942804616470061621809919882204592722733862090791912430447680410174005752544599111846237311774734829313492674735534440463695744084991121639329135893009598507758697446692826490886205663040728682264840816450034172416421352525040062235281319314864006202618546522268103057394002243180925592009212376274301401573831865770686244191574421348356329513226992707666390686121027357459161638641170980230968088373945163904047873281254132784961015529712077607755899012567549924337516544) M (sR M2 12 w 42 (some (300, i))) := Fr.wR rfl (f1.sub rfl)
  have lo1 : LoT w z.1 M (sR M2 12 w 42 (some (300, i))) := ((LoT.rf w z.1 M).fr f1).sR
  generalize sR M2 12 w 42 (some (300, i)) = M3 at fr1 lo1 r1 ⊢
  obtain ⟨-, -, -, -, -, m10⟩ := XW_in hw
  obtain ⟨c35, c37, c41, c43⟩ := h.2.1.2.1
  have hRL := h.2.1.2.2.1
  have n1 := (Gn.nil (n := nk) h.2.2.2.2.1.1.1).step m10 (fun x hx => by cases hx) (by simp) (by omega) hRL.2.2.2.1 (hRL.2.2.2.2 _ (by simp)) r1
  have hg := n1.1
  have rX : ∀ s ∈ XW w, s ≠ sFk w → (∀ k, rd M3 s k = rd M s k) ∧ rl M3 s = rl M s := fun s hs hn => ⟨(hg.2.1 s (hw s hs) (by simpa using hn)).1, (hg.2.1 s (hw s hs) (by simpa using hn)).2.1⟩
  obtain ⟨b1, b2', b3⟩ := n1.2 (sFk w) (by simp)
  refine ⟨h.rows hx fr1 hg (by simp) (h.1.fr fr1) ⟨(fr1.I (f := 12) (k := 35) rfl w).trans c35, (fr1.I (f := 12) (k := 37) rfl w).trans c37, (fr1.I (f := 12) (k := 41) rfl w).trans c41, (fr1.I (f := 12) (k := 43) rfl w).trans c43⟩ ⟨fun s hs => ?_, ?_, fun s hs => ?_, by omega, fun s hs => ?_⟩ ⟨⟨Nat.le_refl _, Nat.le_refl _, Nat.le_refl _, Nat.le_refl _⟩, h.2.1.2.2.2.2.2⟩ hqq ⟨fun s hs k _ => ?_, fun k _ => (rX _ (by simp) (sl_ne (by simp))).1 k, fun s hs k _ => ?_, b3, fun s hs => ?_⟩ lo1 hzb, b1.1, hg, b3⟩
  · have := hRL.1 s hs
    simp only [List.mem_cons, List.not_mem_nil, or_false] at hs
    rcases hs with e | e | e | e | e <;> subst e <;> (rw [(rX _ (by simp) (sl_ne (by simp))).2]; exact this)
  · rw [(rX _ (by simp) (sl_ne (by simp))).2]; exact hRL.2.1
  · have := hRL.2.2.1 s hs
    simp only [List.mem_cons, List.not_mem_nil, or_false] at hs
    rcases hs with e | e | e <;> subst e <;> (rw [(rX _ (by simp) (sl_ne (by simp))).2]; exact this)
  · by_cases q : s = sFk w
    · rw [q]; exact b2'
    · rw [(rX s hs q).2]; exact hRL.2.2.2.2 s hs
  · simp only [List.mem_cons, List.not_mem_nil, or_false] at hs
    rcases hs with e | e | e | e | e <;> subst e <;> exact (rX _ (by simp) (sl_ne (by simp))).1 k
  · simp only [List.mem_cons, List.not_mem_nil, or_false] at hs
    rcases hs with e | e | e <;> subst e <;> exact (rX _ (by simp) (sl_ne (by simp))).1 k
  · by_cases q : s = sFk w
    · rw [q]; exact ⟨b1.2, fun _ => b2'⟩
    · rw [(rX s hs q).2]; exact ⟨Nat.le_refl _, id⟩
