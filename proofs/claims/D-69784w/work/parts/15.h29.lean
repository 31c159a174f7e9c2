/-! THE MACHINE IN THE TWIN: an instruction (printed by gen/tk.py) -/
section
variable {G : List Sl} {US : UST} {A : List Nm} {S : List Sg} {W : List Cls} {w c j a k t L q n d : Nat} {br x r v e : Int32} {bb : Bool} {nq nl nf nk B F op : Nat} {M M' : Mem} {s s' : Ms} {U V : List Un} {lo st lo' st' : List Vl} {o : Option Kd} {Q : Int32 → Mem → Prop} {i : Ins} {p : Nat × Nat}
theorem tx_42 (hq : TQc W F s) (h : TM G US A S W w br nq nl nf nk B F x bb t s (.inl (c, j, a, lo, st) :: U) M) (hA : At W s t c j a lo st U i) (hI : TI1 A S w nl nf nk nq q n i M) (ho : i.1 = 42) (hQ : ∀ M', TM G US A S W w br nq nl nf nk B F x bb t (doS W t s c j a lo st U i p) (gU (doS W t s c j a lo st U i p) t) M' → Q 1 M') : w_Model_instruction_j219 0 Q (Int32.ofNat (frs U)) (Int32.ofNat q) (Int32.ofNat 42) M := by
  obtain ⟨⟨a1, a2⟩, -, -, hq39⟩ := hI.rw' h.1.1.1
  unfold w_Model_instruction_j219
  refine ⟨w, h.r45, _, a1, (vp_oN (by omega)).mpr a2, ?_⟩
  exact itn (by decide) (itn (by decide) (itn (by decide) (itn (by decide) (itn (by decide) (itn (by decide) (itn (by decide) (itn (by decide) (itn (by decide) (itn (by decide) (itn (by decide) (itn (by decide) (itn (by decide) (itn (by decide) (itn (by decide) (itn (by decide) (itn (by decide) (itn (by decide) (itn (by decide) (itn (by decide) (itn (by decide) (itn (by decide) (itn (by decide) (itn (by decide) (itn (by decide) (itn (by decide) (itn (by decide) (itn (by decide) (itn (by decide) (itn (by decide) (itn (by decide) (itn (by decide) (itn (by decide) (itn (by decide) (itn (by decide) (itn (by decide) (itn (by decide) (itn (by decide) (itn (by decide) (itn (by decide) (itn (by decide) (itp rfl (x_42 (Q := fun M' => Q 1 M') (p := p) hq h hA ho hQ))))))))))))))))))))))))))))))))))))))))))
theorem tx_43 (hq : TQc W F s) (h : TM G US A S W w br nq nl nf nk B F x bb t s (.inl (c, j, a, lo, st) :: U) M) (hA : At W s t c j a lo st U i) (hI : TI1 A S w nl nf nk nq q n i M) (ho : i.1 = 43) (hQ : ∀ M', TM G US A S W w br nq nl nf nk B F x bb t (doS W t s c j a lo st U i p) (gU (doS W t s c j a lo st U i p) t) M' → Q 1 M') : w_Model_instruction_j219 0 Q (Int32.ofNat (frs U)) (Int32.ofNat q) (Int32.ofNat 43) M := by
  obtain ⟨⟨a1, a2⟩, -, -, hq39⟩ := hI.rw' h.1.1.1
  unfold w_Model_instruction_j219
  refine ⟨w, h.r45, _, a1, (vp_oN (by omega)).mpr a2, ?_⟩
  exact itn (by decide) (itn (by decide) (itn (by decide) (itn (by decide) (itn (by decide) (itn (by decide) (itn (by decide) (itn (by decide) (itn (by decide) (itn (by decide) (itn (by decide) (itn (by decide) (itn (by decide) (itn (by decide) (itn (by decide) (itn (by decide) (itn (by decide) (itn (by decide) (itn (by decide) (itn (by decide) (itn (by decide) (itn (by decide) (itn (by decide) (itn (by decide) (itn (by decide) (itn (by decide) (itn (by decide) (itn (by decide) (itn (by decide) (itn (by decide) (itn (by decide) (itn (by decide) (itn (by decide) (itn (by decide) (itn (by decide) (itn (by decide) (itn (by decide) (itn (by decide) (itn (by decide) (itn (by decide) (itn (by decide) (itn (by decide) (itp rfl (x_43 (Q := fun M' => Q 1 M') (p := p) hq h hA ho hQ)))))))))))))))))))))))))))))))))))))))))))
theorem tx_44 (hq : TQc W F s) (h : TM G US A S W w br nq nl nf nk B F x bb t s (.inl (c, j, a, lo, st) :: U) M) (hA : At W s t c j a lo st U i) (hI : TI1 A S w nl nf nk nq q n i M) (ho : i.1 = 44) (hQ : ∀ M', TM G US A S W w br nq nl nf nk B F x bb t (doS W t s c j a lo st U i p) (gU (doS W t s c j a lo st U i p) t) M' → Q 1 M') : w_Model_instruction_j219 0 Q (Int32.ofNat (frs U)) (Int32.ofNat q) (Int32.ofNat 44) M := by
  obtain ⟨⟨a1, a2⟩, -, -, hq39⟩ := hI.rw' h.1.1.1
  unfold w_Model_instruction_j219
  refine ⟨w, h.r45, _, a1, (vp_oN (by omega)).mpr a2, ?_⟩
  exact itn (by decide) (itn (by decide) (itn (by decide) (itn (by decide) (itn (by decide) (itn (by decide) (itn (by decide) (itn (by decide) (itn (by decide) (itn (by decide) (itn (by decide) (itn (by decide) (itn (by decide) (itn (by decide) (itn (by decide) (itn (by decide) (itn (by decide) (itn (by decide) (itn (by decide) (itn (by decide) (itn (by decide) (itn (by decide) (itn (by decide) (itn (by decide) (itn (by decide) (itn (by decide) (itn (by decide) (itn (by decide) (itn (by decide) (itn (by decide) (itn (by decide) (itn (by decide) (itn (by decide) (itn (by decide) (itn (by decide) (itn (by decide) (itn (by decide) (itn (by decide) (itn (by decide) (itn (by decide) (itn (by decide) (itn (by decide) (itn (by decide) (itp rfl (x_44 (Q := fun M' => Q 1 M') (p := p) hq h hA ho hQ))))))))))))))))))))))))))))))))))))))))))))
theorem tx_45 (hq : TQc W F s) (h : TM G US A S W w br nq nl nf nk B F x bb t s (.inl (c, j, a, lo, st) :: U) M) (hA : At W s t c j a lo st U i) (hI : TI1 A S w nl nf nk nq q n i M) (ho : i.1 = 45) (hQ : ∀ M', TM G US A S W w br nq nl nf nk B F x bb t (doS W t s c j a lo st U i p) (gU (doS W t s c j a lo st U i p) t) M' → Q 1 M') : w_Model_instruction_j219 0 Q (Int32.ofNat (frs U)) (Int32.ofNat q) (Int32.ofNat 45) M := by
  obtain ⟨⟨a1, a2⟩, -, -, hq39⟩ := hI.rw' h.1.1.1
  unfold w_Model_instruction_j219
  refine ⟨w, h.r45, _, a1, (vp_oN (by omega)).mpr a2, ?_⟩
  exact itn (by decide) (itn (by decide) (itn (by decide) (itn (by decide) (itn (by decide) (itn (by decide) (itn (by decide) (itn (by decide) (itn (by decide) (itn (by decide) (itn (by decide) (itn (by decide) (itn (by decide) (itn (by decide) (itn (by decide) (itn (by decide) (itn (by decide) (itn (by decide) (itn (by decide) (itn (by decide) (itn (by decide) (itn (by decide) (itn (by decide) (itn (by decide) (itn (by decide) (itn (by decide) (itn (by decide) (itn (by decide) (itn (by decide) (itn (by decide) (itn (by decide) (itn (by decide) (itn (by decide) (itn (by decide) (itn (by decide) (itn (by decide) (itn (by decide) (itn (by decide) (itn (by decide) (itn (by decide) (itn (by decide) (itn (by decide) (itn (by decide) (itn (by decide) (itp rfl (x_45 (Q := fun M' => Q 1 M') (p := p) hq h hA ho hQ)))))))))))))))))))))))))))))))))))))))))))))
theorem ct_go40 (hq : TQc W F s) (h : TM G US A S W w br nq nl nf nk B F x bb t s (.inl (c, j, a, lo, st) :: U) M) (hA : At W s t c j a lo st U i) (hI : TI1 A S w nl nf nk nq q n i M) (ho : 23 ≤ op ∧ op ≤ 40) (hi : i.1 = op) (hQ : ∀ M', TM G US A S W w br nq nl nf nk B F x bb t (doS W t s c j a lo st U i p) (gU (doS W t s c j a lo st U i p) t) M' → Q 1 M') : w_Model_goStep 0 (Int32.ofNat (frs U)) (Int32.ofNat q) (Int32.ofNat op) (fun M' => Q 1 M') M := by
  have o4 : op = 23 ∨ op = 24 ∨ op = 25 ∨ op = 26 ∨ op = 27 ∨ op = 28 ∨ op = 29 ∨ op = 30 ∨ op = 31 ∨ op = 32 ∨ op = 33 ∨ op = 34 ∨ op = 35 ∨ op = 36 ∨ op = 37 ∨ op = 38 ∨ op = 39 ∨ op = 40 := by omega
  rcases o4 with z | z | z | z | z | z | z | z | z | z | z | z | z | z | z | z | z | z <;> subst z
  · exact v_23 (Q := fun M' => Q 1 M') (p := p) hq h hA hI hi hQ
  · exact v_24 (Q := fun M' => Q 1 M') (p := p) hq h hA hI hi hQ
  · exact v_25 (Q := fun M' => Q 1 M') (p := p) hq h hA hI hi hQ
  · exact v_26 (Q := fun M' => Q 1 M') (p := p) hq h hA hI hi hQ
  · exact v_27 (Q := fun M' => Q 1 M') (p := p) hq h hA hI hi hQ
  · exact v_28 (Q := fun M' => Q 1 M') (p := p) hq h hA hI hi hQ
  · exact v_29 (Q := fun M' => Q 1 M') (p := p) hq h hA hI hi hQ
  · exact v_30 (Q := fun M' => Q 1 M') (p := p) hq h hA hI hi hQ
  · exact v_31 (Q := fun M' => Q 1 M') (p := p) hq h hA hI hi hQ
  · exact v_32 (Q := fun M' => Q 1 M') (p := p) hq h hA hI hi hQ
  · exact v_33 (Q := fun M' => Q 1 M') (p := p) hq h hA hI hi hQ
  · exact v_34 (Q := fun M' => Q 1 M') (p := p) hq h hA hI hi hQ
  · exact v_35 (Q := fun M' => Q 1 M') (p := p) hq h hA hI hi hQ
  · exact v_36 (Q := fun M' => Q 1 M') (p := p) hq h hA hI hi hQ
  · exact v_37 (Q := fun M' => Q 1 M') (p := p) hq h hA hI hi hQ
  · exact v_38 (Q := fun M' => Q 1 M') (p := p) hq h hA hI hi hQ
  · exact v_39 (Q := fun M' => Q 1 M') (p := p) hq h hA hI hi hQ
  · exact v_40 (Q := fun M' => Q 1 M') (p := p) hq h hA hI hi hQ
theorem ct_rk18 (hq : TQc W F s) (h : TM G US A S W w br nq nl nf nk B F x bb t s (.inl (c, j, a, lo, st) :: U) M) (hA : At W s t c j a lo st U i) (hI : TI1 A S w nl nf nk nq q n i M) (ho : 8 ≤ op ∧ op ≤ 18) (hi : i.1 = op) (hQ : ∀ M', TM G US A S W w br nq nl nf nk B F x bb t (doS W t s c j a lo st U i p) (gU (doS W t s c j a lo st U i p) t) M' → Q 1 M') : w_Model_reckon 0 (Int32.ofNat (frs U)) (Int32.ofNat op) (fun M' => Q 1 M') M := by
  have o4 : op = 8 ∨ op = 9 ∨ op = 10 ∨ op = 11 ∨ op = 12 ∨ op = 13 ∨ op = 14 ∨ op = 15 ∨ op = 16 ∨ op = 17 ∨ op = 18 := by omega
  rcases o4 with z | z | z | z | z | z | z | z | z | z | z <;> subst z
  · exact u_8 (Q := fun M' => Q 1 M') (p := p) hq h hA hI hi hQ
  · exact u_9 (Q := fun M' => Q 1 M') (p := p) hq h hA hI hi hQ
  · exact u_10 (Q := fun M' => Q 1 M') (p := p) hq h hA hI hi hQ
  · exact u_11 (Q := fun M' => Q 1 M') (p := p) hq h hA hI hi hQ
  · exact u_12 (Q := fun M' => Q 1 M') (p := p) hq h hA hI hi hQ
  · exact u_13 (Q := fun M' => Q 1 M') (p := p) hq h hA hI hi hQ
  · exact u_14 (Q := fun M' => Q 1 M') (p := p) hq h hA hI hi hQ
  · exact u_15 (Q := fun M' => Q 1 M') (p := p) hq h hA hI hi hQ
  · exact u_16 (Q := fun M' => Q 1 M') (p := p) hq h hA hI hi hQ
  · exact u_17 (Q := fun M' => Q 1 M') (p := p) hq h hA hI hi hQ
  · exact u_18 (Q := fun M' => Q 1 M') (p := p) hq h hA hI hi hQ
theorem ct_j219 (hq : TQc W F s) (h : TM G US A S W w br nq nl nf nk B F x bb t s (.inl (c, j, a, lo, st) :: U) M) (hA : At W s t c j a lo st U i) (hI : TI1 A S w nl nf nk nq q n i M) (ho : op ≤ 7 ∨ (19 ≤ op ∧ op ≤ 22) ∨ (42 ≤ op ∧ op ≤ 45) ∨ (56 ≤ op ∧ op ≤ 59)) (hi : i.1 = op) (hQ : ∀ M', TM G US A S W w br nq nl nf nk B F x bb t (doS W t s c j a lo st U i p) (gU (doS W t s c j a lo st U i p) t) M' → Q 1 M') : w_Model_instruction_j219 0 Q (Int32.ofNat (frs U)) (Int32.ofNat q) (Int32.ofNat op) M := by
  have o4 : op = 0 ∨ op = 1 ∨ op = 2 ∨ op = 3 ∨ op = 4 ∨ op = 5 ∨ op = 6 ∨ op = 7 ∨ op = 19 ∨ op = 20 ∨ op = 21 ∨ op = 22 ∨ op = 42 ∨ op = 43 ∨ op = 44 ∨ op = 45 ∨ op = 56 ∨ op = 57 ∨ op = 58 ∨ op = 59 := by omega
  rcases o4 with z | z | z | z | z | z | z | z | z | z | z | z | z | z | z | z | z | z | z | z <;> subst z
  · exact t_0 (p := p) hq h hA hI hi hQ
  · exact t_1 (p := p) hq h hA hI hi hQ
  · exact t_2 (p := p) hq h hA hI hi hQ
  · exact t_3 (p := p) hq h hA hI hi hQ
  · exact t_4 (p := p) hq h hA hI hi hQ
  · exact t_5 (p := p) hq h hA hI hi hQ
  · exact t_6 (p := p) hq h hA hI hi hQ
  · exact t_7 (p := p) hq h hA hI hi hQ
  · exact t_19 (p := p) hq h hA hI hi hQ
  · exact t_20 (p := p) hq h hA hI hi hQ
  · exact t_21 (p := p) hq h hA hI hi hQ
  · exact t_22 (p := p) hq h hA hI hi hQ
  · exact tx_42 (p := p) hq h hA hI hi hQ
  · exact tx_43 (p := p) hq h hA hI hi hQ
  · exact tx_44 (p := p) hq h hA hI hi hQ
  · exact tx_45 (p := p) hq h hA hI hi hQ
  · exact t_56 (p := p) hq h hA hI hi hQ
  · exact t_57 (p := p) hq h hA hI hi hQ
  · exact t_58 (p := p) hq h hA hI hi hQ
  · exact t_59 (p := p) hq h hA hI hi hQ
theorem ins1_pl (h41 : i.1 ≠ 41) (hF : ¬ isFo i.1) (hM : ¬ isMo i.1) : ins1 br W s c j i = (.inr (0, 0), zL s) := by
  unfold ins1
  by_cases c5 : i.1 = 54 ∨ i.1 = 55
  · rw [if_pos c5]
  · rw [if_neg c5]
    unfold fIns
    rw [if_neg c5, if_neg h41, if_neg hF, if_neg hM]
theorem ins2_w (hi : i.1 = 60) (h0 : (tv st 0).1 ≠ 0) (hl : lckd s t (tv st 0).1) : ins2 br W t s c j a lo st U i (.inr p) = sWt s t (some (.inl (tv st 0).1)) := by
  show (if i.1 = 60 ∧ (tv st 0).1 ≠ 0 ∧ lckd s t (tv st 0).1 then _ else _) = _
  rw [if_pos ⟨hi, h0, hl⟩]
theorem ins2_60 (hi : i.1 = 60) (hl : ¬ (60 = 60 ∧ (tv st 0).1 ≠ 0 ∧ lckd s t (tv st 0).1)) : ins2 br W t s c j a lo st U i (.inr p) = doS W t (tickS s t 60) c j a lo st U i p := by
  show (if i.1 = 60 ∧ (tv st 0).1 ≠ 0 ∧ lckd s t (tv st 0).1 then _ else _) = _
  rw [if_neg (fun z => hl ⟨rfl, z.2⟩), if_neg (by rw [hi]; decide), hi]
theorem ct_j107 (hq : TQc W F s) (h : TM G US A S W w br nq nl nf nk B F x bb t s (.inl (c, j, a, lo, st) :: U) M) (hA : At W s t c j a lo st U i) (hI : TI1 A S w nl nf nk nq q n i M) (hw0 : lWt (zN s t) = none) (hk : ∀ y, 0 ≤ (lkR s y).1) (hi : i.1 = op) (h62 : op < 62) (hF : ¬ isFo op) (hM : ¬ isMo op) (hQ : ∀ y L, ins1 br W s c j i = (y, L) → HQa G US A S W w br nq nl nf nk B F x bb t (zK s) (ins2 br W t (yL s L) c j a lo st U i (y)) Q) (hQ2 : ∀ y L, ins1 br W s c j i = (y, L) → HQw G US A S W w br nq nl nf nk B F x bb t (ins2 br W t (yL s L) c j a lo st U i (y)) (yL s L) Q) : w_Model_instruction_j107 0 Q (Int32.ofNat (frs U)) (Int32.ofNat q) (Int32.ofNat op) M := by
  unfold w_Model_instruction_j107
  by_cases c41 : op = 41
  · subst c41
    exact itp rfl (ct_newStep hq h hA hI hw0 hi hQ hQ2)
  have e1 := ins1_pl (br := br) (W := W) (s := s) (c := c) (j := j) (i := i) (by rw [hi]; exact c41) (by rw [hi]; exact hF) (by rw [hi]; exact hM)
  have qa : HQa G US A S W w br nq nl nf nk B F x bb t (zK s) (ins2 br W t (s) c j a lo st U i (.inr (0, 0))) Q := hQ _ _ e1
  have qb : HQw G US A S W w br nq nl nf nk B F x bb t (ins2 br W t (s) c j a lo st U i (.inr (0, 0))) (s) Q := hQ2 _ _ e1
  refine itn (ne_oN (b := 41) c41 (by omega) (by omega)) ?_
  have hqt : TQc W F (tickS s t op) := hq
  unfold w_Model_instruction_j135 w_Model_instruction_j158
  by_cases c54 : op = 54
  · subst c54
    rw [ins2_do hi (by decide) (by decide)] at qa
    exact itp rfl (ct_classStep (op := 54) (p := (0, 0)) hqt h hA.tick hI (Or.inl rfl) hi (fun M' h' => qa 1 M' (Or.inr ⟨rfl, do_K1⟩) h'))
  refine itn (ne_oN (b := 54) c54 (by omega) (by omega)) ?_
  by_cases c55 : op = 55
  · subst c55
    rw [ins2_do hi (by decide) (by decide)] at qa
    exact itp rfl (ct_classStep (op := 55) (p := (0, 0)) hqt h hA.tick hI (Or.inr rfl) hi (fun M' h' => qa 1 M' (Or.inr ⟨rfl, do_K1⟩) h'))
  refine itn (ne_oN (b := 55) c55 (by omega) (by omega)) ?_
  by_cases c60 : op = 60
  · subst c60
    refine itp rfl (ct_lockStep (op := 60) (p := (0, 0)) hqt h hA hA.tick (Or.inl rfl) hi (fun _ => hk _) hw0 (fun _ z0 zl M' h' e' => ?_) (fun nl M' h' => ?_))
    · rw [ins2_w hi z0 zl] at qb
      exact qb (.inl (tv st 0).1) M' rfl (by rw [hA.2.1]; exact h') e'
    · rw [ins2_60 hi nl] at qa
      exact qa 1 M' (Or.inr ⟨rfl, do_K1⟩) h'
  refine itn (ne_oN (b := 60) c60 (by omega) (by omega)) ?_
  by_cases c61 : op = 61
  · subst c61
    rw [ins2_do hi (by decide) (by decide)] at qa
    exact itp rfl (ct_lockStep (op := 61) (p := (0, 0)) hqt h hA hA.tick (Or.inr rfl) hi (fun _ => hk _) hw0 (fun z => absurd z (by decide)) (fun _ M' h' => qa 1 M' (Or.inr ⟨rfl, do_K1⟩) h'))
  refine itn (ne_oN (b := 61) c61 (by omega) (by omega)) ?_
  rw [ins2_do hi c60 (by unfold strt; omega)] at qa
  refine ct_tally (op := op) h (by omega) (fun M1 h1 _ fr => ?_)
  have hI := hI.tk h fr
  have hA := hA.tick (op := op)
  have qd : ∀ M', TM G US A S W w br nq nl nf nk B F x bb t (doS W t (tickS s t op) c j a lo st U i (0, 0)) (gU (doS W t (tickS s t op) c j a lo st U i (0, 0)) t) M' → Q 1 M' := fun M' h' => qa 1 M' (Or.inr ⟨rfl, do_K1⟩) h'
  generalize tickS s t op = s' at *
  have j196 : ¬ (23 ≤ op ∧ op ≤ 40) → w_Model_instruction_j196 0 Q (Int32.ofNat (frs U)) (Int32.ofNat q) (Int32.ofNat op) M1 := fun n40 => by
    unfold w_Model_instruction_j196
    by_cases c8 : 8 ≤ op ∧ op ≤ 18
    · exact itn (fun z => by have := (oN_lt (a := op) (b := 8) (by omega) (by omega)).mp z; omega) (itn (fun z => by have := (oN_lt (a := 18) (b := op) (by omega) (by omega)).mp z; omega) (ct_rk18 hqt h1 hA hI c8 hi qd))
    · have j219 := ct_j219 hqt h1 hA hI (by omega) hi qd
      by_cases l8 : op < 8
      · exact itp ((oN_lt (a := op) (b := 8) (by omega) (by omega)).mpr l8) j219
      · exact itn (fun z => l8 ((oN_lt (a := op) (b := 8) (by omega) (by omega)).mp z)) (itp ((oN_lt (a := 18) (b := op) (by omega) (by omega)).mpr (by omega)) j219)
  by_cases c40 : 23 ≤ op ∧ op ≤ 40
  · exact itn (fun z => by have := (oN_lt (a := op) (b := 23) (by omega) (by omega)).mp z; omega) (itn (fun z => by have := (oN_lt (a := 40) (b := op) (by omega) (by omega)).mp z; omega) (ct_go40 hqt h1 hA hI c40 hi qd))
  by_cases l23 : op < 23
  · exact itp ((oN_lt (a := op) (b := 23) (by omega) (by omega)).mpr l23) (j196 c40)
  · exact itn (fun z => l23 ((oN_lt (a := op) (b := 23) (by omega) (by omega)).mp z)) (itp ((oN_lt (a := 40) (b := op) (by omega) (by omega)).mpr (by omega)) (j196 c40))
theorem TM.insT (h : TM G US A S W w br nq nl nf nk B F x bb t s (.inl (c, j, a, lo, st) :: U) M) (hA : At W s t c j a lo st U i) : ∃ q0, mI M 149 w (12 * c + j) = Int32.ofNat q0 ∧ TI1 A S w nl nf nk nq (q0 + a) (co (gmt (gc W c) j)).length i M ∧ (mR M 12 w 30 = some (401, rdI M (sOp w)) ∧ q0 + a < mL M 401 (rdI M (sOp w))) ∧ mI M 401 (rdI M (sOp w)) (q0 + a) = Int32.ofNat i.1 ∧ mL M 149 w = 612 ∧ 12 * c + j < 612 ∧ q0 + a < 3900 := by
  obtain ⟨⟨hF, -, -⟩, -, -⟩ := hA.1.2.1.2.2.2.1
  obtain ⟨hcl, hjl⟩ := hA.cj
  have h51 := h.1.1.1.l51
  have h12 := (h.1.1.1.mcn hcl).2
  obtain ⟨q0, a1, a2, ⟨a3, a4⟩, hI, -, -⟩ := h.1.1.1.ms.2.2 c hcl j hjl
  have hb := h.1.1.1.1.1.2.2.2
  have hR := h.1.1.1.1.1.2.2.1.1
  have hla : a < (gmt (gc W c) j).2.2.2.2.2.2.1.length := hF.2.2.1
  have ri : nq ≤ mL M 401 (rdI M (sOp w)) := hR (sOp w) (by simp)
  have ti := hI a hla
  rw [show gin (gmt (gc W c) j).2.2.2.2.2.2.1 a = i from hA.2.2.1.symm] at ti
  have n39 : nq ≤ 3900 := by omega
  exact ⟨q0, a1, ⟨ti, ⟨by omega, n39⟩, hA.in.2.2.2.2⟩, ⟨h.1.1.1.slt (s := sOp w) (by simp), by omega⟩, ti.1.1, h.1.1.1.ml (by omega) (by omega), by omega, by omega⟩
/-- an instruction -/
theorem ct_insT (hq : TQc W F s) (h : TM G US A S W w br nq nl nf nk B F x bb t s (.inl (c, j, a, lo, st) :: U) M) (hA : At W s t c j a lo st U i) (hns : iM i ≠ nStart) (hw0 : lWt (zN s t) = none) (hk : ∀ y, 0 ≤ (lkR s y).1) (hQ : HQa G US A S W w br nq nl nf nk B F x bb t (zK s) (insS br W t s c j a lo st U) Q) (hQ2 : ∀ L, HQw G US A S W w br nq nl nf nk B F x bb t (insS br W t s c j a lo st U) (yL s L) Q) : w_Model_instruction 0 Q M := by
  obtain ⟨q0, e149, hI, ⟨r30, v30⟩, e30, l149, hm, hq39⟩ := h.insT hA
  have h62 : i.1 < 62 := hI.2.2.1
  obtain ⟨⟨hf, hU⟩, -, hst⟩ := hA.tj
  obtain ⟨l0, l1, l2, l3, l4, l5, l6, l7⟩ := h.lens
  have u16 : mI M 13 (3 * w + t) 16 = Int32.ofNat (U.length + 1) := h.2.2.1.1
  have u171 : mI M 171 (3 * w + t) U.length = Int32.ofNat (frs U) := h.2.2.1.2.2.1.1.1
  have u173 : mI M 173 (3 * w + t) (frs U) = Int32.ofNat (12 * c + j) := h.2.2.1.2.2.1.2.1
  have u174 : mI M 174 (3 * w + t) (frs U) = Int32.ofNat a := h.2.2.1.2.2.1.2.2.1
  have e1 : ∀ y L, ins1 br W s c j i = (y, L) → insS br W t s c j a lo st U = ins2 br W t (yL s L) c j a lo st U i y := fun y L e => by rw [ins2_eq hA.2.2.1, e]
  have qa : ∀ y L, ins1 br W s c j i = (y, L) → HQa G US A S W w br nq nl nf nk B F x bb t (zK s) (ins2 br W t (yL s L) c j a lo st U i (y)) Q := fun y L e => by rw [← e1 y L e]; exact hQ
  have qb : ∀ y L, ins1 br W s c j i = (y, L) → HQw G US A S W w br nq nl nf nk B F x bb t (ins2 br W t (yL s L) c j a lo st U i (y)) (yL s L) Q := fun y L e => by rw [← e1 y L e]; exact hQ2 L
  unfold w_Model_instruction
  refine ⟨3 * w + t, h.r46, 3 * w + t, h.r46, ?_⟩
  rw [u16, show Int32.ofNat (U.length + 1) - (1 : Int32) = Int32.ofNat U.length from sub_n (x := U.length + 1) (n := 1) (by omega), oN_tnc (k := U.length) (by omega), u171]
  refine ⟨by rw [l1]; exact (vp_oN (by omega)).mpr (by omega), 3 * w + t, h.r46, by rw [l3]; exact (vp_oN (by omega)).mpr hf, _, rfl, ?_⟩
  rw [oN_tnc (k := frs U) (by omega), u173]
  refine ⟨w, h.r45, by rw [l149]; exact (vp_oN (by omega)).mpr hm, 3 * w + t, h.r46, by rw [l4]; exact (vp_oN (by omega)).mpr hf, _, rfl, ?_⟩
  rw [oN_tnc (k := 12 * c + j) (by omega), e149, u174, oN_add]
  refine ⟨w, h.r45, _, r30, (vp_oN (by omega)).mpr v30, ?_⟩
  rw [oN_tnc (k := q0 + a) (by omega), e30]
  by_cases cF : isFo i.1
  · have o4 : 46 ≤ i.1 ∧ i.1 ≤ 49 := cF
    exact itn (fun z => by have := (oN_lt (a := i.1) (b := 46) (by omega) (by omega)).mp z; omega) (itn (fun z => by have := (oN_lt (a := 49) (b := i.1) (by omega) (by omega)).mp z; omega) (ct_fieldStep hq h hA hI hw0 cF rfl qa qb))
  have j83 : w_Model_instruction_j83 0 Q (Int32.ofNat (frs U)) (Int32.ofNat (12 * c + j)) (Int32.ofNat (q0 + a)) (Int32.ofNat i.1) M := by
    unfold w_Model_instruction_j83
    by_cases cM : isMo i.1
    · have o4 : 50 ≤ i.1 ∧ i.1 ≤ 53 := cM
      exact itn (fun z => by have := (oN_lt (a := i.1) (b := 50) (by omega) (by omega)).mp z; omega) (itn (fun z => by have := (oN_lt (a := 53) (b := i.1) (by omega) (by omega)).mp z; omega) (ct_callStep hq h hA hI hns hw0 cM rfl qa qb))
    have g := ct_j107 hq h hA hI hw0 hk rfl h62 cF cM qa qb
    by_cases l5 : i.1 < 50
    · exact itp ((oN_lt (a := i.1) (b := 50) (by omega) (by omega)).mpr l5) g
    · exact itn (fun z => l5 ((oN_lt (a := i.1) (b := 50) (by omega) (by omega)).mp z)) (itp ((oN_lt (a := 53) (b := i.1) (by omega) (by omega)).mpr (by unfold isMo at cM; omega)) g)
  by_cases l4 : i.1 < 46
  · exact itp ((oN_lt (a := i.1) (b := 46) (by omega) (by omega)).mpr l4) j83
  · exact itn (fun z => l4 ((oN_lt (a := i.1) (b := 46) (by omega) (by omega)).mp z)) (itp ((oN_lt (a := 49) (b := i.1) (by omega) (by omega)).mpr (by unfold isFo at cF; omega)) j83)
end
