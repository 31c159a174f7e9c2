/-! B: the twin's checker: what an instruction wants (printed by gen/lw.py) -/
section
variable {G : List Sl} {US : UST} {A : List Nm} {S : List Sg} {W : List Cls} {w c k : Nat} {br : Int32} {nq nl nf nk : Nat} {M : Mem} {Q : Mem → Prop} {q n a : Nat} {i : Ins}
/-- an instruction of the twin at a place -/
def TI1 (A : List Nm) (S : List Sg) (w nl nf nk nq q n : Nat) (i : Ins) (M : Mem) : Prop := tFi A S w nl nf nk q i M ∧ (q < nq ∧ nq ≤ 3900) ∧ wfI n i
theorem TI1.fr {G : List Sl} {w nl nf nk nq q n : Nat} {F : Nat} {M M' : Mem} (h : TI1 A S w nl nf nk nq q n i M) (hf : Fr F M M') (hG : Ga G) (hw : Gw G w) (hS : sOk F = true := by rfl) : TI1 A S w nl nf nk nq q n i M' := by
  obtain ⟨⟨a1, a2, a3, a4⟩, b, d⟩ := h
  have r : ∀ s ∈ XW w, (∀ k, rd M' s k = rd M s k) ∧ rl M' s = rl M s := fun s hs => rd_fr hf hG hS (hw s hs)
  have rk : Rk w nq nl nf nk M M' := ⟨fun s hs k _ => (r s (by simp only [List.mem_cons, List.not_mem_nil, or_false] at hs ⊢; rcases hs with e | e | e | e | e <;> simp [e])).1 k, fun k _ => (r _ (by simp)).1 k, fun s hs k _ => (r s (by simp only [List.mem_cons, List.not_mem_nil, or_false] at hs ⊢; rcases hs with e | e | e <;> simp [e])).1 k, fun k _ => (r _ (by simp)).1 k, fun s hs => by rw [(r s hs).2]; exact ⟨Nat.le_refl _, id⟩⟩
  exact ⟨⟨⟨((r (sOp w) (by simp)).1 q).trans a1.1, a1.2⟩, a2.keep rk b.1, a3.at ((r (sCf w) (by simp)).1 q) (rk.mono (Nat.zero_le _) (Nat.zero_le _) (Nat.le_refl _) (Nat.le_refl _)), a4⟩, b, d⟩
theorem i32_m1 (n : Nat) : Int32.ofNat n - Int32.ofNat (n + 1) = -1 := by
  rw [← oN_add]
  generalize Int32.ofNat n = z
  have e : z + -z = 0 := by rw [← Int32.sub_eq_add_neg, Int32.sub_self]
  rw [Int32.sub_eq_add_neg, Int32.neg_add, Int32.sub_eq_add_neg, ← Int32.add_assoc, e, Int32.zero_add]; rfl
abbrev FW : Nat := (1194966642702733430198346039558196803796047255688837885596958553992788978607893330428821391190323927679281062243792583183693973706775695906764083818081223530274995084364588276461439328025336038142810775307492735360332388265721288067524166989548392155143122430051189483685699643106797879818459557983301700056118819975445863907795118323596904655031700852428580406964661209662946190572895828235899713433898955249657683905637771739900216331555578156397560897214808246383762932322691740880385429913643682750193367440323209380044893119854231834889551159870006160180672088771973337764971408943295566884850391926131560725397526192358230661264052883212966071953843518280983348669147676055595626366489069091614148413329190053731543098045660736023043794602257700773372116036120970384175780386411152802013724485180945377898351681825232950009002128638311761146032671931042339163298022970882921012242205107884697277942942579374919417489798579161361100807164729609840195543482287098092481653303026909184)
theorem rdA (h : TE G US A S W w c k br nq nl nf nk M) (hI : TI1 A S w nl nf nk nq q n i M) (ho : isFo i.1 ∨ isMo i.1) : (mR M 12 w 31 = some (300, rdI M (sAs w)) ∧ q < mL M 300 (rdI M (sAs w)) ∧ mI M 300 (rdI M (sAs w)) q = nc A (iK i) ∧ iK i ∈ A) ∧ (mR M 12 w 32 = some (300, rdI M (sBs w)) ∧ q < mL M 300 (rdI M (sBs w)) ∧ mI M 300 (rdI M (sBs w)) q = nc A (iM i) ∧ iM i ∈ A) ∧ (mR M 12 w 33 = some (300, rdI M (sCs w)) ∧ q < mL M 300 (rdI M (sCs w)) ∧ mI M 300 (rdI M (sCs w)) q = if isFo i.1 then kt A (iR i) else Int32.ofNat (S.idxOf (sg A (iA i) (iR i)))) := by
  obtain ⟨⟨-, ⟨t1, t2, -, t4, t5, -⟩, -⟩, b, -⟩ := hI
  have hR := h.rl.1
  have r1 : nq ≤ mL M 300 (rdI M (sAs w)) := hR (sAs w) (by simp)
  have r2 : nq ≤ mL M 300 (rdI M (sBs w)) := hR (sBs w) (by simp)
  have r3 : nq ≤ mL M 300 (rdI M (sCs w)) := hR (sCs w) (by simp)
  have hn : ¬ isJ i.1 := by omega
  have h40 : i.1 ≠ 40 := by omega
  rw [if_neg hn, if_pos (Or.inr ho)] at t1
  obtain ⟨u1, u2⟩ := t2 h40
  rw [if_pos ho] at u1
  refine ⟨⟨h.sl (s := sAs w) (by simp), by omega, t1, t4 (Or.inr ho)⟩, ⟨h.sl (s := sBs w) (by simp), by omega, u1, t5 ho⟩, h.sl (s := sCs w) (by simp), by omega, ?_⟩
  by_cases c1 : isFo i.1
  · rw [if_pos c1] at u2 ⊢; exact u2
  · rw [if_neg c1] at u2 ⊢
    rw [if_pos (by omega)] at u2; exact u2
theorem t_lw0 (h : TE G US A S W w c k br nq nl nf nk M) (h112 : mL M 112 0 = 10) (ho : i.1 = 0) (hI : TI1 A S w nl nf nk nq q n i M) (hQ : ∀ M', TWl A (wlist W c (gmt (gc W c) k) i) M' → Fr FW M M' → Q M') : w_Model_listWants 0 (Int32.ofNat 0) (Int32.ofNat q) Q M := by
  have f1 : Fr FW M (sI M 11 0 79 0) := Fr.wI rfl (Fr.rf _ _)
  have hL : TWl A [] (sI M 11 0 79 0) := ⟨h112, by simp only [mI_sI, mI_sR, mI_sJ, mR_sI, mL_sI, mL_sR, mR_sR, Nat.reduceEqDiff, and_false, false_and, if_false, and_self, true_and, and_true, if_true]; rfl, fun j hj => absurd hj (by simp)⟩
  rw [show wlist W c (gmt (gc W c) k) i = [] by simp [wlist, ho]] at hQ
  unfold w_Model_listWants w_Model_listWants_j34 w_Model_listWants_j46 w_Model_listWants_j98 w_Model_listWants_j122 w_Model_listWants_j123 w_Model_listWants_j147 w_Model_listWants_j148 w_Model_listWants_j69
  (repeat (first | refine itp (by decide) ?_ | refine itn (by decide) ?_))
  refine ⟨1, ?_⟩
  unfold w_Model_listWants_L150
  (repeat (first | refine itp (by decide) ?_ | refine itn (by decide) ?_))
  exact hQ _ hL f1
theorem t_lw1 (h : TE G US A S W w c k br nq nl nf nk M) (h112 : mL M 112 0 = 10) (ho : i.1 = 1) (hI : TI1 A S w nl nf nk nq q n i M) (hQ : ∀ M', TWl A (wlist W c (gmt (gc W c) k) i) M' → Fr FW M M' → Q M') : w_Model_listWants 0 (Int32.ofNat 1) (Int32.ofNat q) Q M := by
  have f1 : Fr FW M (sI M 11 0 79 0) := Fr.wI rfl (Fr.rf _ _)
  have hL : TWl A [] (sI M 11 0 79 0) := ⟨h112, by simp only [mI_sI, mI_sR, mI_sJ, mR_sI, mL_sI, mL_sR, mR_sR, Nat.reduceEqDiff, and_false, false_and, if_false, and_self, true_and, and_true, if_true]; rfl, fun j hj => absurd hj (by simp)⟩
  rw [show wlist W c (gmt (gc W c) k) i = [] by simp [wlist, ho]] at hQ
  unfold w_Model_listWants w_Model_listWants_j34 w_Model_listWants_j46 w_Model_listWants_j98 w_Model_listWants_j122 w_Model_listWants_j123 w_Model_listWants_j147 w_Model_listWants_j148 w_Model_listWants_j69
  (repeat (first | refine itp (by decide) ?_ | refine itn (by decide) ?_))
  refine ⟨1, ?_⟩
  unfold w_Model_listWants_L150
  (repeat (first | refine itp (by decide) ?_ | refine itn (by decide) ?_))
  exact hQ _ hL f1
theorem t_lw2 (h : TE G US A S W w c k br nq nl nf nk M) (h112 : mL M 112 0 = 10) (ho : i.1 = 2) (hI : TI1 A S w nl nf nk nq q n i M) (hQ : ∀ M', TWl A (wlist W c (gmt (gc W c) k) i) M' → Fr FW M M' → Q M') : w_Model_listWants 0 (Int32.ofNat 2) (Int32.ofNat q) Q M := by
  have f1 : Fr FW M (sI M 11 0 79 0) := Fr.wI rfl (Fr.rf _ _)
  have hL : TWl A [] (sI M 11 0 79 0) := ⟨h112, by simp only [mI_sI, mI_sR, mI_sJ, mR_sI, mL_sI, mL_sR, mR_sR, Nat.reduceEqDiff, and_false, false_and, if_false, and_self, true_and, and_true, if_true]; rfl, fun j hj => absurd hj (by simp)⟩
  rw [show wlist W c (gmt (gc W c) k) i = [] by simp [wlist, ho]] at hQ
  unfold w_Model_listWants w_Model_listWants_j34 w_Model_listWants_j46 w_Model_listWants_j98 w_Model_listWants_j122 w_Model_listWants_j123 w_Model_listWants_j147 w_Model_listWants_j148 w_Model_listWants_j69
  (repeat (first | refine itp (by decide) ?_ | refine itn (by decide) ?_))
  refine ⟨1, ?_⟩
  unfold w_Model_listWants_L150
  (repeat (first | refine itp (by decide) ?_ | refine itn (by decide) ?_))
  exact hQ _ hL f1
theorem t_lw3 (h : TE G US A S W w c k br nq nl nf nk M) (h112 : mL M 112 0 = 10) (ho : i.1 = 3) (hI : TI1 A S w nl nf nk nq q n i M) (hQ : ∀ M', TWl A (wlist W c (gmt (gc W c) k) i) M' → Fr FW M M' → Q M') : w_Model_listWants 0 (Int32.ofNat 3) (Int32.ofNat q) Q M := by
  have f1 : Fr FW M (sI M 11 0 79 0) := Fr.wI rfl (Fr.rf _ _)
  have hL : TWl A [] (sI M 11 0 79 0) := ⟨h112, by simp only [mI_sI, mI_sR, mI_sJ, mR_sI, mL_sI, mL_sR, mR_sR, Nat.reduceEqDiff, and_false, false_and, if_false, and_self, true_and, and_true, if_true]; rfl, fun j hj => absurd hj (by simp)⟩
  rw [show wlist W c (gmt (gc W c) k) i = [] by simp [wlist, ho]] at hQ
  unfold w_Model_listWants w_Model_listWants_j34 w_Model_listWants_j46 w_Model_listWants_j98 w_Model_listWants_j122 w_Model_listWants_j123 w_Model_listWants_j147 w_Model_listWants_j148 w_Model_listWants_j69
  (repeat (first | refine itp (by decide) ?_ | refine itn (by decide) ?_))
  refine ⟨1, ?_⟩
  unfold w_Model_listWants_L150
  (repeat (first | refine itp (by decide) ?_ | refine itn (by decide) ?_))
  exact hQ _ hL f1
theorem t_lw4 (h : TE G US A S W w c k br nq nl nf nk M) (h112 : mL M 112 0 = 10) (ho : i.1 = 4) (hI : TI1 A S w nl nf nk nq q n i M) (hQ : ∀ M', TWl A (wlist W c (gmt (gc W c) k) i) M' → Fr FW M M' → Q M') : w_Model_listWants 0 (Int32.ofNat 4) (Int32.ofNat q) Q M := by
  have f1 : Fr FW M (sI M 11 0 79 0) := Fr.wI rfl (Fr.rf _ _)
  have hL : TWl A [] (sI M 11 0 79 0) := ⟨h112, by simp only [mI_sI, mI_sR, mI_sJ, mR_sI, mL_sI, mL_sR, mR_sR, Nat.reduceEqDiff, and_false, false_and, if_false, and_self, true_and, and_true, if_true]; rfl, fun j hj => absurd hj (by simp)⟩
  rw [show wlist W c (gmt (gc W c) k) i = [] by simp [wlist, ho]] at hQ
  unfold w_Model_listWants w_Model_listWants_j34 w_Model_listWants_j46 w_Model_listWants_j98 w_Model_listWants_j122 w_Model_listWants_j123 w_Model_listWants_j147 w_Model_listWants_j148 w_Model_listWants_j69
  (repeat (first | refine itp (by decide) ?_ | refine itn (by decide) ?_))
  refine ⟨1, ?_⟩
  unfold w_Model_listWants_L150
  (repeat (first | refine itp (by decide) ?_ | refine itn (by decide) ?_))
  exact hQ _ hL f1
theorem t_lw5 (h : TE G US A S W w c k br nq nl nf nk M) (h112 : mL M 112 0 = 10) (ho : i.1 = 5) (hI : TI1 A S w nl nf nk nq q n i M) (hQ : ∀ M', TWl A (wlist W c (gmt (gc W c) k) i) M' → Fr FW M M' → Q M') : w_Model_listWants 0 (Int32.ofNat 5) (Int32.ofNat q) Q M := by
  have f1 : Fr FW M (sI M 11 0 79 0) := Fr.wI rfl (Fr.rf _ _)
  have hL : TWl A [] (sI M 11 0 79 0) := ⟨h112, by simp only [mI_sI, mI_sR, mI_sJ, mR_sI, mL_sI, mL_sR, mR_sR, Nat.reduceEqDiff, and_false, false_and, if_false, and_self, true_and, and_true, if_true]; rfl, fun j hj => absurd hj (by simp)⟩
  rw [show wlist W c (gmt (gc W c) k) i = [wNum] by simp [wlist, ho]] at hQ
  unfold w_Model_listWants w_Model_listWants_j34 w_Model_listWants_j46 w_Model_listWants_j98 w_Model_listWants_j122 w_Model_listWants_j123 w_Model_listWants_j147 w_Model_listWants_j148 w_Model_listWants_j69
  (repeat (first | refine itp (by decide) ?_ | refine itn (by decide) ?_))
  exact ct_want (t := wNum) hL (by simp) (fun M2 h2 g2 => hQ M2 h2 (f1.trans g2))
theorem t_lw6 (h : TE G US A S W w c k br nq nl nf nk M) (h112 : mL M 112 0 = 10) (ho : i.1 = 6) (hI : TI1 A S w nl nf nk nq q n i M) (hQ : ∀ M', TWl A (wlist W c (gmt (gc W c) k) i) M' → Fr FW M M' → Q M') : w_Model_listWants 0 (Int32.ofNat 6) (Int32.ofNat q) Q M := by
  have f1 : Fr FW M (sI M 11 0 79 0) := Fr.wI rfl (Fr.rf _ _)
  have hL : TWl A [] (sI M 11 0 79 0) := ⟨h112, by simp only [mI_sI, mI_sR, mI_sJ, mR_sI, mL_sI, mL_sR, mR_sR, Nat.reduceEqDiff, and_false, false_and, if_false, and_self, true_and, and_true, if_true]; rfl, fun j hj => absurd hj (by simp)⟩
  rw [show wlist W c (gmt (gc W c) k) i = [wSto] by simp [wlist, ho]] at hQ
  unfold w_Model_listWants w_Model_listWants_j34 w_Model_listWants_j46 w_Model_listWants_j98 w_Model_listWants_j122 w_Model_listWants_j123 w_Model_listWants_j147 w_Model_listWants_j148 w_Model_listWants_j69
  (repeat (first | refine itp (by decide) ?_ | refine itn (by decide) ?_))
  refine ⟨1, ?_⟩
  unfold w_Model_listWants_L150
  (repeat (first | refine itp (by decide) ?_ | refine itn (by decide) ?_))
  exact ct_want (t := wSto) hL (by simp) (fun M2 h2 g2 => hQ M2 h2 (f1.trans g2))
theorem t_lw7 (h : TE G US A S W w c k br nq nl nf nk M) (h112 : mL M 112 0 = 10) (ho : i.1 = 7) (hI : TI1 A S w nl nf nk nq q n i M) (hQ : ∀ M', TWl A (wlist W c (gmt (gc W c) k) i) M' → Fr FW M M' → Q M') : w_Model_listWants 0 (Int32.ofNat 7) (Int32.ofNat q) Q M := by
  have f1 : Fr FW M (sI M 11 0 79 0) := Fr.wI rfl (Fr.rf _ _)
  have hL : TWl A [] (sI M 11 0 79 0) := ⟨h112, by simp only [mI_sI, mI_sR, mI_sJ, mR_sI, mL_sI, mL_sR, mR_sR, Nat.reduceEqDiff, and_false, false_and, if_false, and_self, true_and, and_true, if_true]; rfl, fun j hj => absurd hj (by simp)⟩
  rw [show wlist W c (gmt (gc W c) k) i = [] by simp [wlist, ho]] at hQ
  unfold w_Model_listWants w_Model_listWants_j34 w_Model_listWants_j46 w_Model_listWants_j98 w_Model_listWants_j122 w_Model_listWants_j123 w_Model_listWants_j147 w_Model_listWants_j148 w_Model_listWants_j69
  (repeat (first | refine itp (by decide) ?_ | refine itn (by decide) ?_))
  refine ⟨1, ?_⟩
  unfold w_Model_listWants_L150
  (repeat (first | refine itp (by decide) ?_ | refine itn (by decide) ?_))
  exact hQ _ hL f1
theorem t_lw8 (h : TE G US A S W w c k br nq nl nf nk M) (h112 : mL M 112 0 = 10) (ho : i.1 = 8) (hI : TI1 A S w nl nf nk nq q n i M) (hQ : ∀ M', TWl A (wlist W c (gmt (gc W c) k) i) M' → Fr FW M M' → Q M') : w_Model_listWants 0 (Int32.ofNat 8) (Int32.ofNat q) Q M := by
  have f1 : Fr FW M (sI M 11 0 79 0) := Fr.wI rfl (Fr.rf _ _)
  have hL : TWl A [] (sI M 11 0 79 0) := ⟨h112, by simp only [mI_sI, mI_sR, mI_sJ, mR_sI, mL_sI, mL_sR, mR_sR, Nat.reduceEqDiff, and_false, false_and, if_false, and_self, true_and, and_true, if_true]; rfl, fun j hj => absurd hj (by simp)⟩
  rw [show wlist W c (gmt (gc W c) k) i = [wNum, wNum] by simp [wlist, ho]] at hQ
  unfold w_Model_listWants w_Model_listWants_j34 w_Model_listWants_j46 w_Model_listWants_j98 w_Model_listWants_j122 w_Model_listWants_j123 w_Model_listWants_j147 w_Model_listWants_j148 w_Model_listWants_j69
  (repeat (first | refine itp (by decide) ?_ | refine itn (by decide) ?_))
  exact ct_want (t := wNum) hL (by simp) (fun M2 h2 g2 => itn (by decide) (ct_want (t := wNum) h2 (by simp) (fun M3 h3 g3 => hQ M3 h3 ((f1.trans g2).trans g3))))
theorem t_lw9 (h : TE G US A S W w c k br nq nl nf nk M) (h112 : mL M 112 0 = 10) (ho : i.1 = 9) (hI : TI1 A S w nl nf nk nq q n i M) (hQ : ∀ M', TWl A (wlist W c (gmt (gc W c) k) i) M' → Fr FW M M' → Q M') : w_Model_listWants 0 (Int32.ofNat 9) (Int32.ofNat q) Q M := by
  have f1 : Fr FW M (sI M 11 0 79 0) := Fr.wI rfl (Fr.rf _ _)
  have hL : TWl A [] (sI M 11 0 79 0) := ⟨h112, by simp only [mI_sI, mI_sR, mI_sJ, mR_sI, mL_sI, mL_sR, mR_sR, Nat.reduceEqDiff, and_false, false_and, if_false, and_self, true_and, and_true, if_true]; rfl, fun j hj => absurd hj (by simp)⟩
  rw [show wlist W c (gmt (gc W c) k) i = [wNum, wNum] by simp [wlist, ho]] at hQ
  unfold w_Model_listWants w_Model_listWants_j34 w_Model_listWants_j46 w_Model_listWants_j98 w_Model_listWants_j122 w_Model_listWants_j123 w_Model_listWants_j147 w_Model_listWants_j148 w_Model_listWants_j69
  (repeat (first | refine itp (by decide) ?_ | refine itn (by decide) ?_))
  exact ct_want (t := wNum) hL (by simp) (fun M2 h2 g2 => itn (by decide) (ct_want (t := wNum) h2 (by simp) (fun M3 h3 g3 => hQ M3 h3 ((f1.trans g2).trans g3))))
theorem t_lw10 (h : TE G US A S W w c k br nq nl nf nk M) (h112 : mL M 112 0 = 10) (ho : i.1 = 10) (hI : TI1 A S w nl nf nk nq q n i M) (hQ : ∀ M', TWl A (wlist W c (gmt (gc W c) k) i) M' → Fr FW M M' → Q M') : w_Model_listWants 0 (Int32.ofNat 10) (Int32.ofNat q) Q M := by
  have f1 : Fr FW M (sI M 11 0 79 0) := Fr.wI rfl (Fr.rf _ _)
  have hL : TWl A [] (sI M 11 0 79 0) := ⟨h112, by simp only [mI_sI, mI_sR, mI_sJ, mR_sI, mL_sI, mL_sR, mR_sR, Nat.reduceEqDiff, and_false, false_and, if_false, and_self, true_and, and_true, if_true]; rfl, fun j hj => absurd hj (by simp)⟩
  rw [show wlist W c (gmt (gc W c) k) i = [wNum, wNum] by simp [wlist, ho]] at hQ
  unfold w_Model_listWants w_Model_listWants_j34 w_Model_listWants_j46 w_Model_listWants_j98 w_Model_listWants_j122 w_Model_listWants_j123 w_Model_listWants_j147 w_Model_listWants_j148 w_Model_listWants_j69
  (repeat (first | refine itp (by decide) ?_ | refine itn (by decide) ?_))
  exact ct_want (t := wNum) hL (by simp) (fun M2 h2 g2 => itn (by decide) (ct_want (t := wNum) h2 (by simp) (fun M3 h3 g3 => hQ M3 h3 ((f1.trans g2).trans g3))))
theorem t_lw11 (h : TE G US A S W w c k br nq nl nf nk M) (h112 : mL M 112 0 = 10) (ho : i.1 = 11) (hI : TI1 A S w nl nf nk nq q n i M) (hQ : ∀ M', TWl A (wlist W c (gmt (gc W c) k) i) M' → Fr FW M M' → Q M') : w_Model_listWants 0 (Int32.ofNat 11) (Int32.ofNat q) Q M := by
  have f1 : Fr FW M (sI M 11 0 79 0) := Fr.wI rfl (Fr.rf _ _)
  have hL : TWl A [] (sI M 11 0 79 0) := ⟨h112, by simp only [mI_sI, mI_sR, mI_sJ, mR_sI, mL_sI, mL_sR, mR_sR, Nat.reduceEqDiff, and_false, false_and, if_false, and_self, true_and, and_true, if_true]; rfl, fun j hj => absurd hj (by simp)⟩
  rw [show wlist W c (gmt (gc W c) k) i = [wNum, wNum] by simp [wlist, ho]] at hQ
  unfold w_Model_listWants w_Model_listWants_j34 w_Model_listWants_j46 w_Model_listWants_j98 w_Model_listWants_j122 w_Model_listWants_j123 w_Model_listWants_j147 w_Model_listWants_j148 w_Model_listWants_j69
  (repeat (first | refine itp (by decide) ?_ | refine itn (by decide) ?_))
  exact ct_want (t := wNum) hL (by simp) (fun M2 h2 g2 => itn (by decide) (ct_want (t := wNum) h2 (by simp) (fun M3 h3 g3 => hQ M3 h3 ((f1.trans g2).trans g3))))
theorem t_lw12 (h : TE G US A S W w c k br nq nl nf nk M) (h112 : mL M 112 0 = 10) (ho : i.1 = 12) (hI : TI1 A S w nl nf nk nq q n i M) (hQ : ∀ M', TWl A (wlist W c (gmt (gc W c) k) i) M' → Fr FW M M' → Q M') : w_Model_listWants 0 (Int32.ofNat 12) (Int32.ofNat q) Q M := by
  have f1 : Fr FW M (sI M 11 0 79 0) := Fr.wI rfl (Fr.rf _ _)
  have hL : TWl A [] (sI M 11 0 79 0) := ⟨h112, by simp only [mI_sI, mI_sR, mI_sJ, mR_sI, mL_sI, mL_sR, mR_sR, Nat.reduceEqDiff, and_false, false_and, if_false, and_self, true_and, and_true, if_true]; rfl, fun j hj => absurd hj (by simp)⟩
  rw [show wlist W c (gmt (gc W c) k) i = [wNum, wNum] by simp [wlist, ho]] at hQ
  unfold w_Model_listWants w_Model_listWants_j34 w_Model_listWants_j46 w_Model_listWants_j98 w_Model_listWants_j122 w_Model_listWants_j123 w_Model_listWants_j147 w_Model_listWants_j148 w_Model_listWants_j69
  (repeat (first | refine itp (by decide) ?_ | refine itn (by decide) ?_))
  exact ct_want (t := wNum) hL (by simp) (fun M2 h2 g2 => itn (by decide) (ct_want (t := wNum) h2 (by simp) (fun M3 h3 g3 => hQ M3 h3 ((f1.trans g2).trans g3))))
theorem t_lw13 (h : TE G US A S W w c k br nq nl nf nk M) (h112 : mL M 112 0 = 10) (ho : i.1 = 13) (hI : TI1 A S w nl nf nk nq q n i M) (hQ : ∀ M', TWl A (wlist W c (gmt (gc W c) k) i) M' → Fr FW M M' → Q M') : w_Model_listWants 0 (Int32.ofNat 13) (Int32.ofNat q) Q M := by
  have f1 : Fr FW M (sI M 11 0 79 0) := Fr.wI rfl (Fr.rf _ _)
  have hL : TWl A [] (sI M 11 0 79 0) := ⟨h112, by simp only [mI_sI, mI_sR, mI_sJ, mR_sI, mL_sI, mL_sR, mR_sR, Nat.reduceEqDiff, and_false, false_and, if_false, and_self, true_and, and_true, if_true]; rfl, fun j hj => absurd hj (by simp)⟩
  rw [show wlist W c (gmt (gc W c) k) i = [wNum] by simp [wlist, ho]] at hQ
  unfold w_Model_listWants w_Model_listWants_j34 w_Model_listWants_j46 w_Model_listWants_j98 w_Model_listWants_j122 w_Model_listWants_j123 w_Model_listWants_j147 w_Model_listWants_j148 w_Model_listWants_j69
  (repeat (first | refine itp (by decide) ?_ | refine itn (by decide) ?_))
  exact ct_want (t := wNum) hL (by simp) (fun M2 h2 g2 => itp rfl (hQ M2 h2 (f1.trans g2)))
theorem t_lw14 (h : TE G US A S W w c k br nq nl nf nk M) (h112 : mL M 112 0 = 10) (ho : i.1 = 14) (hI : TI1 A S w nl nf nk nq q n i M) (hQ : ∀ M', TWl A (wlist W c (gmt (gc W c) k) i) M' → Fr FW M M' → Q M') : w_Model_listWants 0 (Int32.ofNat 14) (Int32.ofNat q) Q M := by
  have f1 : Fr FW M (sI M 11 0 79 0) := Fr.wI rfl (Fr.rf _ _)
  have hL : TWl A [] (sI M 11 0 79 0) := ⟨h112, by simp only [mI_sI, mI_sR, mI_sJ, mR_sI, mL_sI, mL_sR, mR_sR, Nat.reduceEqDiff, and_false, false_and, if_false, and_self, true_and, and_true, if_true]; rfl, fun j hj => absurd hj (by simp)⟩
  rw [show wlist W c (gmt (gc W c) k) i = [wNum, wNum] by simp [wlist, ho]] at hQ
  unfold w_Model_listWants w_Model_listWants_j34 w_Model_listWants_j46 w_Model_listWants_j98 w_Model_listWants_j122 w_Model_listWants_j123 w_Model_listWants_j147 w_Model_listWants_j148 w_Model_listWants_j69
  (repeat (first | refine itp (by decide) ?_ | refine itn (by decide) ?_))
  exact ct_want (t := wNum) hL (by simp) (fun M2 h2 g2 => itn (by decide) (ct_want (t := wNum) h2 (by simp) (fun M3 h3 g3 => hQ M3 h3 ((f1.trans g2).trans g3))))
theorem t_lw15 (h : TE G US A S W w c k br nq nl nf nk M) (h112 : mL M 112 0 = 10) (ho : i.1 = 15) (hI : TI1 A S w nl nf nk nq q n i M) (hQ : ∀ M', TWl A (wlist W c (gmt (gc W c) k) i) M' → Fr FW M M' → Q M') : w_Model_listWants 0 (Int32.ofNat 15) (Int32.ofNat q) Q M := by
  have f1 : Fr FW M (sI M 11 0 79 0) := Fr.wI rfl (Fr.rf _ _)
  have hL : TWl A [] (sI M 11 0 79 0) := ⟨h112, by simp only [mI_sI, mI_sR, mI_sJ, mR_sI, mL_sI, mL_sR, mR_sR, Nat.reduceEqDiff, and_false, false_and, if_false, and_self, true_and, and_true, if_true]; rfl, fun j hj => absurd hj (by simp)⟩
  rw [show wlist W c (gmt (gc W c) k) i = [wNum, wNum] by simp [wlist, ho]] at hQ
  unfold w_Model_listWants w_Model_listWants_j34 w_Model_listWants_j46 w_Model_listWants_j98 w_Model_listWants_j122 w_Model_listWants_j123 w_Model_listWants_j147 w_Model_listWants_j148 w_Model_listWants_j69
  (repeat (first | refine itp (by decide) ?_ | refine itn (by decide) ?_))
  exact ct_want (t := wNum) hL (by simp) (fun M2 h2 g2 => itn (by decide) (ct_want (t := wNum) h2 (by simp) (fun M3 h3 g3 => hQ M3 h3 ((f1.trans g2).trans g3))))
theorem t_lw16 (h : TE G US A S W w c k br nq nl nf nk M) (h112 : mL M 112 0 = 10) (ho : i.1 = 16) (hI : TI1 A S w nl nf nk nq q n i M) (hQ : ∀ M', TWl A (wlist W c (gmt (gc W c) k) i) M' → Fr FW M M' → Q M') : w_Model_listWants 0 (Int32.ofNat 16) (Int32.ofNat q) Q M := by
  have f1 : Fr FW M (sI M 11 0 79 0) := Fr.wI rfl (Fr.rf _ _)
  have hL : TWl A [] (sI M 11 0 79 0) := ⟨h112, by simp only [mI_sI, mI_sR, mI_sJ, mR_sI, mL_sI, mL_sR, mR_sR, Nat.reduceEqDiff, and_false, false_and, if_false, and_self, true_and, and_true, if_true]; rfl, fun j hj => absurd hj (by simp)⟩
  rw [show wlist W c (gmt (gc W c) k) i = [wNum, wNum] by simp [wlist, ho]] at hQ
  unfold w_Model_listWants w_Model_listWants_j34 w_Model_listWants_j46 w_Model_listWants_j98 w_Model_listWants_j122 w_Model_listWants_j123 w_Model_listWants_j147 w_Model_listWants_j148 w_Model_listWants_j69
  (repeat (first | refine itp (by decide) ?_ | refine itn (by decide) ?_))
  exact ct_want (t := wNum) hL (by simp) (fun M2 h2 g2 => itn (by decide) (ct_want (t := wNum) h2 (by simp) (fun M3 h3 g3 => hQ M3 h3 ((f1.trans g2).trans g3))))
theorem t_lw17 (h : TE G US A S W w c k br nq nl nf nk M) (h112 : mL M 112 0 = 10) (ho : i.1 = 17) (hI : TI1 A S w nl nf nk nq q n i M) (hQ : ∀ M', TWl A (wlist W c (gmt (gc W c) k) i) M' → Fr FW M M' → Q M') : w_Model_listWants 0 (Int32.ofNat 17) (Int32.ofNat q) Q M := by
  have f1 : Fr FW M (sI M 11 0 79 0) := Fr.wI rfl (Fr.rf _ _)
  have hL : TWl A [] (sI M 11 0 79 0) := ⟨h112, by simp only [mI_sI, mI_sR, mI_sJ, mR_sI, mL_sI, mL_sR, mR_sR, Nat.reduceEqDiff, and_false, false_and, if_false, and_self, true_and, and_true, if_true]; rfl, fun j hj => absurd hj (by simp)⟩
  rw [show wlist W c (gmt (gc W c) k) i = [wNum, wNum] by simp [wlist, ho]] at hQ
  unfold w_Model_listWants w_Model_listWants_j34 w_Model_listWants_j46 w_Model_listWants_j98 w_Model_listWants_j122 w_Model_listWants_j123 w_Model_listWants_j147 w_Model_listWants_j148 w_Model_listWants_j69
  (repeat (first | refine itp (by decide) ?_ | refine itn (by decide) ?_))
  exact ct_want (t := wNum) hL (by simp) (fun M2 h2 g2 => itn (by decide) (ct_want (t := wNum) h2 (by simp) (fun M3 h3 g3 => hQ M3 h3 ((f1.trans g2).trans g3))))
theorem t_lw18 (h : TE G US A S W w c k br nq nl nf nk M) (h112 : mL M 112 0 = 10) (ho : i.1 = 18) (hI : TI1 A S w nl nf nk nq q n i M) (hQ : ∀ M', TWl A (wlist W c (gmt (gc W c) k) i) M' → Fr FW M M' → Q M') : w_Model_listWants 0 (Int32.ofNat 18) (Int32.ofNat q) Q M := by
  have f1 : Fr FW M (sI M 11 0 79 0) := Fr.wI rfl (Fr.rf _ _)
  have hL : TWl A [] (sI M 11 0 79 0) := ⟨h112, by simp only [mI_sI, mI_sR, mI_sJ, mR_sI, mL_sI, mL_sR, mR_sR, Nat.reduceEqDiff, and_false, false_and, if_false, and_self, true_and, and_true, if_true]; rfl, fun j hj => absurd hj (by simp)⟩
  rw [show wlist W c (gmt (gc W c) k) i = [wNum, wNum] by simp [wlist, ho]] at hQ
  unfold w_Model_listWants w_Model_listWants_j34 w_Model_listWants_j46 w_Model_listWants_j98 w_Model_listWants_j122 w_Model_listWants_j123 w_Model_listWants_j147 w_Model_listWants_j148 w_Model_listWants_j69
  (repeat (first | refine itp (by decide) ?_ | refine itn (by decide) ?_))
  exact ct_want (t := wNum) hL (by simp) (fun M2 h2 g2 => itn (by decide) (ct_want (t := wNum) h2 (by simp) (fun M3 h3 g3 => hQ M3 h3 ((f1.trans g2).trans g3))))
theorem t_lw19 (h : TE G US A S W w c k br nq nl nf nk M) (h112 : mL M 112 0 = 10) (ho : i.1 = 19) (hI : TI1 A S w nl nf nk nq q n i M) (hQ : ∀ M', TWl A (wlist W c (gmt (gc W c) k) i) M' → Fr FW M M' → Q M') : w_Model_listWants 0 (Int32.ofNat 19) (Int32.ofNat q) Q M := by
  have f1 : Fr FW M (sI M 11 0 79 0) := Fr.wI rfl (Fr.rf _ _)
  have hL : TWl A [] (sI M 11 0 79 0) := ⟨h112, by simp only [mI_sI, mI_sR, mI_sJ, mR_sI, mL_sI, mL_sR, mR_sR, Nat.reduceEqDiff, and_false, false_and, if_false, and_self, true_and, and_true, if_true]; rfl, fun j hj => absurd hj (by simp)⟩
  rw [show wlist W c (gmt (gc W c) k) i = [wAny] by simp [wlist, ho]] at hQ
  unfold w_Model_listWants w_Model_listWants_j34 w_Model_listWants_j46 w_Model_listWants_j98 w_Model_listWants_j122 w_Model_listWants_j123 w_Model_listWants_j147 w_Model_listWants_j148 w_Model_listWants_j69
  (repeat (first | refine itp (by decide) ?_ | refine itn (by decide) ?_))
  refine ⟨1, ?_⟩
  unfold w_Model_listWants_L150
  (repeat (first | refine itp (by decide) ?_ | refine itn (by decide) ?_))
  exact ct_want (t := wAny) hL (by simp) (fun M2 h2 g2 => hQ M2 h2 (f1.trans g2))
theorem t_lw20 (h : TE G US A S W w c k br nq nl nf nk M) (h112 : mL M 112 0 = 10) (ho : i.1 = 20) (hI : TI1 A S w nl nf nk nq q n i M) (hQ : ∀ M', TWl A (wlist W c (gmt (gc W c) k) i) M' → Fr FW M M' → Q M') : w_Model_listWants 0 (Int32.ofNat 20) (Int32.ofNat q) Q M := by
  have f1 : Fr FW M (sI M 11 0 79 0) := Fr.wI rfl (Fr.rf _ _)
  have hL : TWl A [] (sI M 11 0 79 0) := ⟨h112, by simp only [mI_sI, mI_sR, mI_sJ, mR_sI, mL_sI, mL_sR, mR_sR, Nat.reduceEqDiff, and_false, false_and, if_false, and_self, true_and, and_true, if_true]; rfl, fun j hj => absurd hj (by simp)⟩
  rw [show wlist W c (gmt (gc W c) k) i = [wAny] by simp [wlist, ho]] at hQ
  unfold w_Model_listWants w_Model_listWants_j34 w_Model_listWants_j46 w_Model_listWants_j98 w_Model_listWants_j122 w_Model_listWants_j123 w_Model_listWants_j147 w_Model_listWants_j148 w_Model_listWants_j69
  (repeat (first | refine itp (by decide) ?_ | refine itn (by decide) ?_))
  refine ⟨1, ?_⟩
  unfold w_Model_listWants_L150
  (repeat (first | refine itp (by decide) ?_ | refine itn (by decide) ?_))
  exact ct_want (t := wAny) hL (by simp) (fun M2 h2 g2 => hQ M2 h2 (f1.trans g2))
theorem t_lw21 (h : TE G US A S W w c k br nq nl nf nk M) (h112 : mL M 112 0 = 10) (ho : i.1 = 21) (hI : TI1 A S w nl nf nk nq q n i M) (hQ : ∀ M', TWl A (wlist W c (gmt (gc W c) k) i) M' → Fr FW M M' → Q M') : w_Model_listWants 0 (Int32.ofNat 21) (Int32.ofNat q) Q M := by
  have f1 : Fr FW M (sI M 11 0 79 0) := Fr.wI rfl (Fr.rf _ _)
  have hL : TWl A [] (sI M 11 0 79 0) := ⟨h112, by simp only [mI_sI, mI_sR, mI_sJ, mR_sI, mL_sI, mL_sR, mR_sR, Nat.reduceEqDiff, and_false, false_and, if_false, and_self, true_and, and_true, if_true]; rfl, fun j hj => absurd hj (by simp)⟩
  rw [show wlist W c (gmt (gc W c) k) i = [wAny, wAny] by simp [wlist, ho]] at hQ
  unfold w_Model_listWants w_Model_listWants_j34 w_Model_listWants_j46 w_Model_listWants_j98 w_Model_listWants_j122 w_Model_listWants_j123 w_Model_listWants_j147 w_Model_listWants_j148 w_Model_listWants_j69
  (repeat (first | refine itp (by decide) ?_ | refine itn (by decide) ?_))
  refine ⟨1, ?_⟩
  unfold w_Model_listWants_L150
  (repeat (first | refine itp (by decide) ?_ | refine itn (by decide) ?_))
  exact ct_want (t := wAny) hL (by simp) (fun M2 h2 g2 => ct_want (t := wAny) h2 (by simp) (fun M3 h3 g3 => hQ M3 h3 ((f1.trans g2).trans g3)))
theorem t_lw22 (h : TE G US A S W w c k br nq nl nf nk M) (h112 : mL M 112 0 = 10) (ho : i.1 = 22) (hI : TI1 A S w nl nf nk nq q n i M) (hQ : ∀ M', TWl A (wlist W c (gmt (gc W c) k) i) M' → Fr FW M M' → Q M') : w_Model_listWants 0 (Int32.ofNat 22) (Int32.ofNat q) Q M := by
  have f1 : Fr FW M (sI M 11 0 79 0) := Fr.wI rfl (Fr.rf _ _)
  have hL : TWl A [] (sI M 11 0 79 0) := ⟨h112, by simp only [mI_sI, mI_sR, mI_sJ, mR_sI, mL_sI, mL_sR, mR_sR, Nat.reduceEqDiff, and_false, false_and, if_false, and_self, true_and, and_true, if_true]; rfl, fun j hj => absurd hj (by simp)⟩
  rw [show wlist W c (gmt (gc W c) k) i = [wAny, wAny] by simp [wlist, ho]] at hQ
  unfold w_Model_listWants w_Model_listWants_j34 w_Model_listWants_j46 w_Model_listWants_j98 w_Model_listWants_j122 w_Model_listWants_j123 w_Model_listWants_j147 w_Model_listWants_j148 w_Model_listWants_j69
  (repeat (first | refine itp (by decide) ?_ | refine itn (by decide) ?_))
  refine ⟨1, ?_⟩
  unfold w_Model_listWants_L150
  (repeat (first | refine itp (by decide) ?_ | refine itn (by decide) ?_))
  exact ct_want (t := wAny) hL (by simp) (fun M2 h2 g2 => ct_want (t := wAny) h2 (by simp) (fun M3 h3 g3 => hQ M3 h3 ((f1.trans g2).trans g3)))
theorem t_lw23 (h : TE G US A S W w c k br nq nl nf nk M) (h112 : mL M 112 0 = 10) (ho : i.1 = 23) (hI : TI1 A S w nl nf nk nq q n i M) (hQ : ∀ M', TWl A (wlist W c (gmt (gc W c) k) i) M' → Fr FW M M' → Q M') : w_Model_listWants 0 (Int32.ofNat 23) (Int32.ofNat q) Q M := by
  have f1 : Fr FW M (sI M 11 0 79 0) := Fr.wI rfl (Fr.rf _ _)
  have hL : TWl A [] (sI M 11 0 79 0) := ⟨h112, by simp only [mI_sI, mI_sR, mI_sJ, mR_sI, mL_sI, mL_sR, mR_sR, Nat.reduceEqDiff, and_false, false_and, if_false, and_self, true_and, and_true, if_true]; rfl, fun j hj => absurd hj (by simp)⟩
  rw [show wlist W c (gmt (gc W c) k) i = [] by simp [wlist, ho]] at hQ
  unfold w_Model_listWants w_Model_listWants_j34 w_Model_listWants_j46 w_Model_listWants_j98 w_Model_listWants_j122 w_Model_listWants_j123 w_Model_listWants_j147 w_Model_listWants_j148 w_Model_listWants_j69
  (repeat (first | refine itp (by decide) ?_ | refine itn (by decide) ?_))
  refine ⟨1, ?_⟩
  unfold w_Model_listWants_L150
  (repeat (first | refine itp (by decide) ?_ | refine itn (by decide) ?_))
  exact hQ _ hL f1
theorem t_lw24 (h : TE G US A S W w c k br nq nl nf nk M) (h112 : mL M 112 0 = 10) (ho : i.1 = 24) (hI : TI1 A S w nl nf nk nq q n i M) (hQ : ∀ M', TWl A (wlist W c (gmt (gc W c) k) i) M' → Fr FW M M' → Q M') : w_Model_listWants 0 (Int32.ofNat 24) (Int32.ofNat q) Q M := by
  have f1 : Fr FW M (sI M 11 0 79 0) := Fr.wI rfl (Fr.rf _ _)
  have hL : TWl A [] (sI M 11 0 79 0) := ⟨h112, by simp only [mI_sI, mI_sR, mI_sJ, mR_sI, mL_sI, mL_sR, mR_sR, Nat.reduceEqDiff, and_false, false_and, if_false, and_self, true_and, and_true, if_true]; rfl, fun j hj => absurd hj (by simp)⟩
  rw [show wlist W c (gmt (gc W c) k) i = [wNum] by simp [wlist, ho]] at hQ
  unfold w_Model_listWants w_Model_listWants_j34 w_Model_listWants_j46 w_Model_listWants_j98 w_Model_listWants_j122 w_Model_listWants_j123 w_Model_listWants_j147 w_Model_listWants_j148 w_Model_listWants_j69
  (repeat (first | refine itp (by decide) ?_ | refine itn (by decide) ?_))
  exact ct_want (t := wNum) hL (by simp) (fun M2 h2 g2 => hQ M2 h2 (f1.trans g2))
theorem t_lw25 (h : TE G US A S W w c k br nq nl nf nk M) (h112 : mL M 112 0 = 10) (ho : i.1 = 25) (hI : TI1 A S w nl nf nk nq q n i M) (hQ : ∀ M', TWl A (wlist W c (gmt (gc W c) k) i) M' → Fr FW M M' → Q M') : w_Model_listWants 0 (Int32.ofNat 25) (Int32.ofNat q) Q M := by
  have f1 : Fr FW M (sI M 11 0 79 0) := Fr.wI rfl (Fr.rf _ _)
  have hL : TWl A [] (sI M 11 0 79 0) := ⟨h112, by simp only [mI_sI, mI_sR, mI_sJ, mR_sI, mL_sI, mL_sR, mR_sR, Nat.reduceEqDiff, and_false, false_and, if_false, and_self, true_and, and_true, if_true]; rfl, fun j hj => absurd hj (by simp)⟩
  rw [show wlist W c (gmt (gc W c) k) i = [wNum] by simp [wlist, ho]] at hQ
  unfold w_Model_listWants w_Model_listWants_j34 w_Model_listWants_j46 w_Model_listWants_j98 w_Model_listWants_j122 w_Model_listWants_j123 w_Model_listWants_j147 w_Model_listWants_j148 w_Model_listWants_j69
  (repeat (first | refine itp (by decide) ?_ | refine itn (by decide) ?_))
  exact ct_want (t := wNum) hL (by simp) (fun M2 h2 g2 => hQ M2 h2 (f1.trans g2))
theorem t_lw26 (h : TE G US A S W w c k br nq nl nf nk M) (h112 : mL M 112 0 = 10) (ho : i.1 = 26) (hI : TI1 A S w nl nf nk nq q n i M) (hQ : ∀ M', TWl A (wlist W c (gmt (gc W c) k) i) M' → Fr FW M M' → Q M') : w_Model_listWants 0 (Int32.ofNat 26) (Int32.ofNat q) Q M := by
  have f1 : Fr FW M (sI M 11 0 79 0) := Fr.wI rfl (Fr.rf _ _)
  have hL : TWl A [] (sI M 11 0 79 0) := ⟨h112, by simp only [mI_sI, mI_sR, mI_sJ, mR_sI, mL_sI, mL_sR, mR_sR, Nat.reduceEqDiff, and_false, false_and, if_false, and_self, true_and, and_true, if_true]; rfl, fun j hj => absurd hj (by simp)⟩
  rw [show wlist W c (gmt (gc W c) k) i = [wNum] by simp [wlist, ho]] at hQ
  unfold w_Model_listWants w_Model_listWants_j34 w_Model_listWants_j46 w_Model_listWants_j98 w_Model_listWants_j122 w_Model_listWants_j123 w_Model_listWants_j147 w_Model_listWants_j148 w_Model_listWants_j69
  (repeat (first | refine itp (by decide) ?_ | refine itn (by decide) ?_))
  exact ct_want (t := wNum) hL (by simp) (fun M2 h2 g2 => hQ M2 h2 (f1.trans g2))
theorem t_lw27 (h : TE G US A S W w c k br nq nl nf nk M) (h112 : mL M 112 0 = 10) (ho : i.1 = 27) (hI : TI1 A S w nl nf nk nq q n i M) (hQ : ∀ M', TWl A (wlist W c (gmt (gc W c) k) i) M' → Fr FW M M' → Q M') : w_Model_listWants 0 (Int32.ofNat 27) (Int32.ofNat q) Q M := by
  have f1 : Fr FW M (sI M 11 0 79 0) := Fr.wI rfl (Fr.rf _ _)
  have hL : TWl A [] (sI M 11 0 79 0) := ⟨h112, by simp only [mI_sI, mI_sR, mI_sJ, mR_sI, mL_sI, mL_sR, mR_sR, Nat.reduceEqDiff, and_false, false_and, if_false, and_self, true_and, and_true, if_true]; rfl, fun j hj => absurd hj (by simp)⟩
  rw [show wlist W c (gmt (gc W c) k) i = [wNum] by simp [wlist, ho]] at hQ
  unfold w_Model_listWants w_Model_listWants_j34 w_Model_listWants_j46 w_Model_listWants_j98 w_Model_listWants_j122 w_Model_listWants_j123 w_Model_listWants_j147 w_Model_listWants_j148 w_Model_listWants_j69
  (repeat (first | refine itp (by decide) ?_ | refine itn (by decide) ?_))
  exact ct_want (t := wNum) hL (by simp) (fun M2 h2 g2 => hQ M2 h2 (f1.trans g2))
theorem t_lw28 (h : TE G US A S W w c k br nq nl nf nk M) (h112 : mL M 112 0 = 10) (ho : i.1 = 28) (hI : TI1 A S w nl nf nk nq q n i M) (hQ : ∀ M', TWl A (wlist W c (gmt (gc W c) k) i) M' → Fr FW M M' → Q M') : w_Model_listWants 0 (Int32.ofNat 28) (Int32.ofNat q) Q M := by
  have f1 : Fr FW M (sI M 11 0 79 0) := Fr.wI rfl (Fr.rf _ _)
  have hL : TWl A [] (sI M 11 0 79 0) := ⟨h112, by simp only [mI_sI, mI_sR, mI_sJ, mR_sI, mL_sI, mL_sR, mR_sR, Nat.reduceEqDiff, and_false, false_and, if_false, and_self, true_and, and_true, if_true]; rfl, fun j hj => absurd hj (by simp)⟩
  rw [show wlist W c (gmt (gc W c) k) i = [wNum] by simp [wlist, ho]] at hQ
  unfold w_Model_listWants w_Model_listWants_j34 w_Model_listWants_j46 w_Model_listWants_j98 w_Model_listWants_j122 w_Model_listWants_j123 w_Model_listWants_j147 w_Model_listWants_j148 w_Model_listWants_j69
  (repeat (first | refine itp (by decide) ?_ | refine itn (by decide) ?_))
  exact ct_want (t := wNum) hL (by simp) (fun M2 h2 g2 => hQ M2 h2 (f1.trans g2))
theorem t_lw29 (h : TE G US A S W w c k br nq nl nf nk M) (h112 : mL M 112 0 = 10) (ho : i.1 = 29) (hI : TI1 A S w nl nf nk nq q n i M) (hQ : ∀ M', TWl A (wlist W c (gmt (gc W c) k) i) M' → Fr FW M M' → Q M') : w_Model_listWants 0 (Int32.ofNat 29) (Int32.ofNat q) Q M := by
  have f1 : Fr FW M (sI M 11 0 79 0) := Fr.wI rfl (Fr.rf _ _)
  have hL : TWl A [] (sI M 11 0 79 0) := ⟨h112, by simp only [mI_sI, mI_sR, mI_sJ, mR_sI, mL_sI, mL_sR, mR_sR, Nat.reduceEqDiff, and_false, false_and, if_false, and_self, true_and, and_true, if_true]; rfl, fun j hj => absurd hj (by simp)⟩
  rw [show wlist W c (gmt (gc W c) k) i = [wNum] by simp [wlist, ho]] at hQ
  unfold w_Model_listWants w_Model_listWants_j34 w_Model_listWants_j46 w_Model_listWants_j98 w_Model_listWants_j122 w_Model_listWants_j123 w_Model_listWants_j147 w_Model_listWants_j148 w_Model_listWants_j69
  (repeat (first | refine itp (by decide) ?_ | refine itn (by decide) ?_))
  exact ct_want (t := wNum) hL (by simp) (fun M2 h2 g2 => hQ M2 h2 (f1.trans g2))
theorem t_lw30 (h : TE G US A S W w c k br nq nl nf nk M) (h112 : mL M 112 0 = 10) (ho : i.1 = 30) (hI : TI1 A S w nl nf nk nq q n i M) (hQ : ∀ M', TWl A (wlist W c (gmt (gc W c) k) i) M' → Fr FW M M' → Q M') : w_Model_listWants 0 (Int32.ofNat 30) (Int32.ofNat q) Q M := by
  have f1 : Fr FW M (sI M 11 0 79 0) := Fr.wI rfl (Fr.rf _ _)
  have hL : TWl A [] (sI M 11 0 79 0) := ⟨h112, by simp only [mI_sI, mI_sR, mI_sJ, mR_sI, mL_sI, mL_sR, mR_sR, Nat.reduceEqDiff, and_false, false_and, if_false, and_self, true_and, and_true, if_true]; rfl, fun j hj => absurd hj (by simp)⟩
  rw [show wlist W c (gmt (gc W c) k) i = [wNum, wNum] by simp [wlist, ho]] at hQ
  unfold w_Model_listWants w_Model_listWants_j34 w_Model_listWants_j46 w_Model_listWants_j98 w_Model_listWants_j122 w_Model_listWants_j123 w_Model_listWants_j147 w_Model_listWants_j148 w_Model_listWants_j69
  (repeat (first | refine itp (by decide) ?_ | refine itn (by decide) ?_))
  exact ct_want (t := wNum) hL (by simp) (fun M2 h2 g2 => ct_want (t := wNum) h2 (by simp) (fun M3 h3 g3 => hQ M3 h3 ((f1.trans g2).trans g3)))
theorem t_lw31 (h : TE G US A S W w c k br nq nl nf nk M) (h112 : mL M 112 0 = 10) (ho : i.1 = 31) (hI : TI1 A S w nl nf nk nq q n i M) (hQ : ∀ M', TWl A (wlist W c (gmt (gc W c) k) i) M' → Fr FW M M' → Q M') : w_Model_listWants 0 (Int32.ofNat 31) (Int32.ofNat q) Q M := by
  have f1 : Fr FW M (sI M 11 0 79 0) := Fr.wI rfl (Fr.rf _ _)
  have hL : TWl A [] (sI M 11 0 79 0) := ⟨h112, by simp only [mI_sI, mI_sR, mI_sJ, mR_sI, mL_sI, mL_sR, mR_sR, Nat.reduceEqDiff, and_false, false_and, if_false, and_self, true_and, and_true, if_true]; rfl, fun j hj => absurd hj (by simp)⟩
  rw [show wlist W c (gmt (gc W c) k) i = [wNum, wNum] by simp [wlist, ho]] at hQ
  unfold w_Model_listWants w_Model_listWants_j34 w_Model_listWants_j46 w_Model_listWants_j98 w_Model_listWants_j122 w_Model_listWants_j123 w_Model_listWants_j147 w_Model_listWants_j148 w_Model_listWants_j69
  (repeat (first | refine itp (by decide) ?_ | refine itn (by decide) ?_))
  exact ct_want (t := wNum) hL (by simp) (fun M2 h2 g2 => ct_want (t := wNum) h2 (by simp) (fun M3 h3 g3 => hQ M3 h3 ((f1.trans g2).trans g3)))
theorem t_lw32 (h : TE G US A S W w c k br nq nl nf nk M) (h112 : mL M 112 0 = 10) (ho : i.1 = 32) (hI : TI1 A S w nl nf nk nq q n i M) (hQ : ∀ M', TWl A (wlist W c (gmt (gc W c) k) i) M' → Fr FW M M' → Q M') : w_Model_listWants 0 (Int32.ofNat 32) (Int32.ofNat q) Q M := by
  have f1 : Fr FW M (sI M 11 0 79 0) := Fr.wI rfl (Fr.rf _ _)
  have hL : TWl A [] (sI M 11 0 79 0) := ⟨h112, by simp only [mI_sI, mI_sR, mI_sJ, mR_sI, mL_sI, mL_sR, mR_sR, Nat.reduceEqDiff, and_false, false_and, if_false, and_self, true_and, and_true, if_true]; rfl, fun j hj => absurd hj (by simp)⟩
  rw [show wlist W c (gmt (gc W c) k) i = [wNum, wNum] by simp [wlist, ho]] at hQ
  unfold w_Model_listWants w_Model_listWants_j34 w_Model_listWants_j46 w_Model_listWants_j98 w_Model_listWants_j122 w_Model_listWants_j123 w_Model_listWants_j147 w_Model_listWants_j148 w_Model_listWants_j69
  (repeat (first | refine itp (by decide) ?_ | refine itn (by decide) ?_))
  exact ct_want (t := wNum) hL (by simp) (fun M2 h2 g2 => ct_want (t := wNum) h2 (by simp) (fun M3 h3 g3 => hQ M3 h3 ((f1.trans g2).trans g3)))
theorem t_lw33 (h : TE G US A S W w c k br nq nl nf nk M) (h112 : mL M 112 0 = 10) (ho : i.1 = 33) (hI : TI1 A S w nl nf nk nq q n i M) (hQ : ∀ M', TWl A (wlist W c (gmt (gc W c) k) i) M' → Fr FW M M' → Q M') : w_Model_listWants 0 (Int32.ofNat 33) (Int32.ofNat q) Q M := by
  have f1 : Fr FW M (sI M 11 0 79 0) := Fr.wI rfl (Fr.rf _ _)
  have hL : TWl A [] (sI M 11 0 79 0) := ⟨h112, by simp only [mI_sI, mI_sR, mI_sJ, mR_sI, mL_sI, mL_sR, mR_sR, Nat.reduceEqDiff, and_false, false_and, if_false, and_self, true_and, and_true, if_true]; rfl, fun j hj => absurd hj (by simp)⟩
  rw [show wlist W c (gmt (gc W c) k) i = [wNum, wNum] by simp [wlist, ho]] at hQ
  unfold w_Model_listWants w_Model_listWants_j34 w_Model_listWants_j46 w_Model_listWants_j98 w_Model_listWants_j122 w_Model_listWants_j123 w_Model_listWants_j147 w_Model_listWants_j148 w_Model_listWants_j69
  (repeat (first | refine itp (by decide) ?_ | refine itn (by decide) ?_))
  exact ct_want (t := wNum) hL (by simp) (fun M2 h2 g2 => ct_want (t := wNum) h2 (by simp) (fun M3 h3 g3 => hQ M3 h3 ((f1.trans g2).trans g3)))
theorem t_lw34 (h : TE G US A S W w c k br nq nl nf nk M) (h112 : mL M 112 0 = 10) (ho : i.1 = 34) (hI : TI1 A S w nl nf nk nq q n i M) (hQ : ∀ M', TWl A (wlist W c (gmt (gc W c) k) i) M' → Fr FW M M' → Q M') : w_Model_listWants 0 (Int32.ofNat 34) (Int32.ofNat q) Q M := by
  have f1 : Fr FW M (sI M 11 0 79 0) := Fr.wI rfl (Fr.rf _ _)
  have hL : TWl A [] (sI M 11 0 79 0) := ⟨h112, by simp only [mI_sI, mI_sR, mI_sJ, mR_sI, mL_sI, mL_sR, mR_sR, Nat.reduceEqDiff, and_false, false_and, if_false, and_self, true_and, and_true, if_true]; rfl, fun j hj => absurd hj (by simp)⟩
  rw [show wlist W c (gmt (gc W c) k) i = [wNum, wNum] by simp [wlist, ho]] at hQ
  unfold w_Model_listWants w_Model_listWants_j34 w_Model_listWants_j46 w_Model_listWants_j98 w_Model_listWants_j122 w_Model_listWants_j123 w_Model_listWants_j147 w_Model_listWants_j148 w_Model_listWants_j69
  (repeat (first | refine itp (by decide) ?_ | refine itn (by decide) ?_))
  exact ct_want (t := wNum) hL (by simp) (fun M2 h2 g2 => ct_want (t := wNum) h2 (by simp) (fun M3 h3 g3 => hQ M3 h3 ((f1.trans g2).trans g3)))
theorem t_lw35 (h : TE G US A S W w c k br nq nl nf nk M) (h112 : mL M 112 0 = 10) (ho : i.1 = 35) (hI : TI1 A S w nl nf nk nq q n i M) (hQ : ∀ M', TWl A (wlist W c (gmt (gc W c) k) i) M' → Fr FW M M' → Q M') : w_Model_listWants 0 (Int32.ofNat 35) (Int32.ofNat q) Q M := by
  have f1 : Fr FW M (sI M 11 0 79 0) := Fr.wI rfl (Fr.rf _ _)
  have hL : TWl A [] (sI M 11 0 79 0) := ⟨h112, by simp only [mI_sI, mI_sR, mI_sJ, mR_sI, mL_sI, mL_sR, mR_sR, Nat.reduceEqDiff, and_false, false_and, if_false, and_self, true_and, and_true, if_true]; rfl, fun j hj => absurd hj (by simp)⟩
  rw [show wlist W c (gmt (gc W c) k) i = [wNum, wNum] by simp [wlist, ho]] at hQ
  unfold w_Model_listWants w_Model_listWants_j34 w_Model_listWants_j46 w_Model_listWants_j98 w_Model_listWants_j122 w_Model_listWants_j123 w_Model_listWants_j147 w_Model_listWants_j148 w_Model_listWants_j69
  (repeat (first | refine itp (by decide) ?_ | refine itn (by decide) ?_))
  exact ct_want (t := wNum) hL (by simp) (fun M2 h2 g2 => ct_want (t := wNum) h2 (by simp) (fun M3 h3 g3 => hQ M3 h3 ((f1.trans g2).trans g3)))
theorem t_lw36 (h : TE G US A S W w c k br nq nl nf nk M) (h112 : mL M 112 0 = 10) (ho : i.1 = 36) (hI : TI1 A S w nl nf nk nq q n i M) (hQ : ∀ M', TWl A (wlist W c (gmt (gc W c) k) i) M' → Fr FW M M' → Q M') : w_Model_listWants 0 (Int32.ofNat 36) (Int32.ofNat q) Q M := by
  have f1 : Fr FW M (sI M 11 0 79 0) := Fr.wI rfl (Fr.rf _ _)
  have hL : TWl A [] (sI M 11 0 79 0) := ⟨h112, by simp only [mI_sI, mI_sR, mI_sJ, mR_sI, mL_sI, mL_sR, mR_sR, Nat.reduceEqDiff, and_false, false_and, if_false, and_self, true_and, and_true, if_true]; rfl, fun j hj => absurd hj (by simp)⟩
  rw [show wlist W c (gmt (gc W c) k) i = [wRef] by simp [wlist, ho]] at hQ
  unfold w_Model_listWants w_Model_listWants_j34 w_Model_listWants_j46 w_Model_listWants_j98 w_Model_listWants_j122 w_Model_listWants_j123 w_Model_listWants_j147 w_Model_listWants_j148 w_Model_listWants_j69
  (repeat (first | refine itp (by decide) ?_ | refine itn (by decide) ?_))
  refine ⟨1, ?_⟩
  unfold w_Model_listWants_L150
  (repeat (first | refine itp (by decide) ?_ | refine itn (by decide) ?_))
  exact ct_want (t := wRef) hL (by simp) (fun M2 h2 g2 => hQ M2 h2 (f1.trans g2))
theorem t_lw37 (h : TE G US A S W w c k br nq nl nf nk M) (h112 : mL M 112 0 = 10) (ho : i.1 = 37) (hI : TI1 A S w nl nf nk nq q n i M) (hQ : ∀ M', TWl A (wlist W c (gmt (gc W c) k) i) M' → Fr FW M M' → Q M') : w_Model_listWants 0 (Int32.ofNat 37) (Int32.ofNat q) Q M := by
  have f1 : Fr FW M (sI M 11 0 79 0) := Fr.wI rfl (Fr.rf _ _)
  have hL : TWl A [] (sI M 11 0 79 0) := ⟨h112, by simp only [mI_sI, mI_sR, mI_sJ, mR_sI, mL_sI, mL_sR, mR_sR, Nat.reduceEqDiff, and_false, false_and, if_false, and_self, true_and, and_true, if_true]; rfl, fun j hj => absurd hj (by simp)⟩
  rw [show wlist W c (gmt (gc W c) k) i = [wRef] by simp [wlist, ho]] at hQ
  unfold w_Model_listWants w_Model_listWants_j34 w_Model_listWants_j46 w_Model_listWants_j98 w_Model_listWants_j122 w_Model_listWants_j123 w_Model_listWants_j147 w_Model_listWants_j148 w_Model_listWants_j69
  (repeat (first | refine itp (by decide) ?_ | refine itn (by decide) ?_))
  refine ⟨1, ?_⟩
  unfold w_Model_listWants_L150
  (repeat (first | refine itp (by decide) ?_ | refine itn (by decide) ?_))
  exact ct_want (t := wRef) hL (by simp) (fun M2 h2 g2 => hQ M2 h2 (f1.trans g2))
theorem t_lw38 (h : TE G US A S W w c k br nq nl nf nk M) (h112 : mL M 112 0 = 10) (ho : i.1 = 38) (hI : TI1 A S w nl nf nk nq q n i M) (hQ : ∀ M', TWl A (wlist W c (gmt (gc W c) k) i) M' → Fr FW M M' → Q M') : w_Model_listWants 0 (Int32.ofNat 38) (Int32.ofNat q) Q M := by
  have f1 : Fr FW M (sI M 11 0 79 0) := Fr.wI rfl (Fr.rf _ _)
  have hL : TWl A [] (sI M 11 0 79 0) := ⟨h112, by simp only [mI_sI, mI_sR, mI_sJ, mR_sI, mL_sI, mL_sR, mR_sR, Nat.reduceEqDiff, and_false, false_and, if_false, and_self, true_and, and_true, if_true]; rfl, fun j hj => absurd hj (by simp)⟩
  rw [show wlist W c (gmt (gc W c) k) i = [wRef, wRef] by simp [wlist, ho]] at hQ
  unfold w_Model_listWants w_Model_listWants_j34 w_Model_listWants_j46 w_Model_listWants_j98 w_Model_listWants_j122 w_Model_listWants_j123 w_Model_listWants_j147 w_Model_listWants_j148 w_Model_listWants_j69
  (repeat (first | refine itp (by decide) ?_ | refine itn (by decide) ?_))
  refine ⟨1, ?_⟩
  unfold w_Model_listWants_L150
  (repeat (first | refine itp (by decide) ?_ | refine itn (by decide) ?_))
  exact ct_want (t := wRef) hL (by simp) (fun M2 h2 g2 => ct_want (t := wRef) h2 (by simp) (fun M3 h3 g3 => hQ M3 h3 ((f1.trans g2).trans g3)))
theorem t_lw39 (h : TE G US A S W w c k br nq nl nf nk M) (h112 : mL M 112 0 = 10) (ho : i.1 = 39) (hI : TI1 A S w nl nf nk nq q n i M) (hQ : ∀ M', TWl A (wlist W c (gmt (gc W c) k) i) M' → Fr FW M M' → Q M') : w_Model_listWants 0 (Int32.ofNat 39) (Int32.ofNat q) Q M := by
  have f1 : Fr FW M (sI M 11 0 79 0) := Fr.wI rfl (Fr.rf _ _)
  have hL : TWl A [] (sI M 11 0 79 0) := ⟨h112, by simp only [mI_sI, mI_sR, mI_sJ, mR_sI, mL_sI, mL_sR, mR_sR, Nat.reduceEqDiff, and_false, false_and, if_false, and_self, true_and, and_true, if_true]; rfl, fun j hj => absurd hj (by simp)⟩
  rw [show wlist W c (gmt (gc W c) k) i = [wRef, wRef] by simp [wlist, ho]] at hQ
  unfold w_Model_listWants w_Model_listWants_j34 w_Model_listWants_j46 w_Model_listWants_j98 w_Model_listWants_j122 w_Model_listWants_j123 w_Model_listWants_j147 w_Model_listWants_j148 w_Model_listWants_j69
  (repeat (first | refine itp (by decide) ?_ | refine itn (by decide) ?_))
  refine ⟨1, ?_⟩
  unfold w_Model_listWants_L150
  (repeat (first | refine itp (by decide) ?_ | refine itn (by decide) ?_))
  exact ct_want (t := wRef) hL (by simp) (fun M2 h2 g2 => ct_want (t := wRef) h2 (by simp) (fun M3 h3 g3 => hQ M3 h3 ((f1.trans g2).trans g3)))
theorem t_lw40 (h : TE G US A S W w c k br nq nl nf nk M) (h112 : mL M 112 0 = 10) (ho : i.1 = 40) (hI : TI1 A S w nl nf nk nq q n i M) (hQ : ∀ M', TWl A (wlist W c (gmt (gc W c) k) i) M' → Fr FW M M' → Q M') : w_Model_listWants 0 (Int32.ofNat 40) (Int32.ofNat q) Q M := by
  have f1 : Fr FW M (sI M 11 0 79 0) := Fr.wI rfl (Fr.rf _ _)
  have hL : TWl A [] (sI M 11 0 79 0) := ⟨h112, by simp only [mI_sI, mI_sR, mI_sJ, mR_sI, mL_sI, mL_sR, mR_sR, Nat.reduceEqDiff, and_false, false_and, if_false, and_self, true_and, and_true, if_true]; rfl, fun j hj => absurd hj (by simp)⟩
  rw [show wlist W c (gmt (gc W c) k) i = [wNum] by simp [wlist, ho]] at hQ
  unfold w_Model_listWants w_Model_listWants_j34 w_Model_listWants_j46 w_Model_listWants_j98 w_Model_listWants_j122 w_Model_listWants_j123 w_Model_listWants_j147 w_Model_listWants_j148 w_Model_listWants_j69
  (repeat (first | refine itp (by decide) ?_ | refine itn (by decide) ?_))
  exact ct_want (t := wNum) hL (by simp) (fun M2 h2 g2 => hQ M2 h2 (f1.trans g2))
theorem t_lw41 (h : TE G US A S W w c k br nq nl nf nk M) (h112 : mL M 112 0 = 10) (ho : i.1 = 41) (hI : TI1 A S w nl nf nk nq q n i M) (hQ : ∀ M', TWl A (wlist W c (gmt (gc W c) k) i) M' → Fr FW M M' → Q M') : w_Model_listWants 0 (Int32.ofNat 41) (Int32.ofNat q) Q M := by
  have f1 : Fr FW M (sI M 11 0 79 0) := Fr.wI rfl (Fr.rf _ _)
  have hL : TWl A [] (sI M 11 0 79 0) := ⟨h112, by simp only [mI_sI, mI_sR, mI_sJ, mR_sI, mL_sI, mL_sR, mR_sR, Nat.reduceEqDiff, and_false, false_and, if_false, and_self, true_and, and_true, if_true]; rfl, fun j hj => absurd hj (by simp)⟩
  rw [show wlist W c (gmt (gc W c) k) i = [] by simp [wlist, ho]] at hQ
  unfold w_Model_listWants w_Model_listWants_j34 w_Model_listWants_j46 w_Model_listWants_j98 w_Model_listWants_j122 w_Model_listWants_j123 w_Model_listWants_j147 w_Model_listWants_j148 w_Model_listWants_j69
  (repeat (first | refine itp (by decide) ?_ | refine itn (by decide) ?_))
  refine ⟨1, ?_⟩
  unfold w_Model_listWants_L150
  (repeat (first | refine itp (by decide) ?_ | refine itn (by decide) ?_))
  exact hQ _ hL f1
theorem t_lw42 (h : TE G US A S W w c k br nq nl nf nk M) (h112 : mL M 112 0 = 10) (ho : i.1 = 42) (hI : TI1 A S w nl nf nk nq q n i M) (hQ : ∀ M', TWl A (wlist W c (gmt (gc W c) k) i) M' → Fr FW M M' → Q M') : w_Model_listWants 0 (Int32.ofNat 42) (Int32.ofNat q) Q M := by
  have f1 : Fr FW M (sI M 11 0 79 0) := Fr.wI rfl (Fr.rf _ _)
  have hL : TWl A [] (sI M 11 0 79 0) := ⟨h112, by simp only [mI_sI, mI_sR, mI_sJ, mR_sI, mL_sI, mL_sR, mR_sR, Nat.reduceEqDiff, and_false, false_and, if_false, and_self, true_and, and_true, if_true]; rfl, fun j hj => absurd hj (by simp)⟩
  rw [show wlist W c (gmt (gc W c) k) i = [wNum] by simp [wlist, ho]] at hQ
  unfold w_Model_listWants w_Model_listWants_j34 w_Model_listWants_j46 w_Model_listWants_j98 w_Model_listWants_j122 w_Model_listWants_j123 w_Model_listWants_j147 w_Model_listWants_j148 w_Model_listWants_j69
  (repeat (first | refine itp (by decide) ?_ | refine itn (by decide) ?_))
  exact ct_want (t := wNum) hL (by simp) (fun M2 h2 g2 => hQ M2 h2 (f1.trans g2))
theorem t_lw43 (h : TE G US A S W w c k br nq nl nf nk M) (h112 : mL M 112 0 = 10) (ho : i.1 = 43) (hI : TI1 A S w nl nf nk nq q n i M) (hQ : ∀ M', TWl A (wlist W c (gmt (gc W c) k) i) M' → Fr FW M M' → Q M') : w_Model_listWants 0 (Int32.ofNat 43) (Int32.ofNat q) Q M := by
  have f1 : Fr FW M (sI M 11 0 79 0) := Fr.wI rfl (Fr.rf _ _)
  have hL : TWl A [] (sI M 11 0 79 0) := ⟨h112, by simp only [mI_sI, mI_sR, mI_sJ, mR_sI, mL_sI, mL_sR, mR_sR, Nat.reduceEqDiff, and_false, false_and, if_false, and_self, true_and, and_true, if_true]; rfl, fun j hj => absurd hj (by simp)⟩
  rw [show wlist W c (gmt (gc W c) k) i = [wNum, wRow] by simp [wlist, ho]] at hQ
  unfold w_Model_listWants w_Model_listWants_j34 w_Model_listWants_j46 w_Model_listWants_j98 w_Model_listWants_j122 w_Model_listWants_j123 w_Model_listWants_j147 w_Model_listWants_j148 w_Model_listWants_j69
  (repeat (first | refine itp (by decide) ?_ | refine itn (by decide) ?_))
  refine ⟨1, ?_⟩
  unfold w_Model_listWants_L150
  (repeat (first | refine itp (by decide) ?_ | refine itn (by decide) ?_))
  exact ct_want (t := wNum) hL (by simp) (fun M2 h2 g2 => ct_want (t := wRow) h2 (by simp) (fun M3 h3 g3 => hQ M3 h3 ((f1.trans g2).trans g3)))
theorem t_lw44 (h : TE G US A S W w c k br nq nl nf nk M) (h112 : mL M 112 0 = 10) (ho : i.1 = 44) (hI : TI1 A S w nl nf nk nq q n i M) (hQ : ∀ M', TWl A (wlist W c (gmt (gc W c) k) i) M' → Fr FW M M' → Q M') : w_Model_listWants 0 (Int32.ofNat 44) (Int32.ofNat q) Q M := by
  have f1 : Fr FW M (sI M 11 0 79 0) := Fr.wI rfl (Fr.rf _ _)
  have hL : TWl A [] (sI M 11 0 79 0) := ⟨h112, by simp only [mI_sI, mI_sR, mI_sJ, mR_sI, mL_sI, mL_sR, mR_sR, Nat.reduceEqDiff, and_false, false_and, if_false, and_self, true_and, and_true, if_true]; rfl, fun j hj => absurd hj (by simp)⟩
  rw [show wlist W c (gmt (gc W c) k) i = [wNum, wNum, wRow] by simp [wlist, ho]] at hQ
  unfold w_Model_listWants w_Model_listWants_j34 w_Model_listWants_j46 w_Model_listWants_j98 w_Model_listWants_j122 w_Model_listWants_j123 w_Model_listWants_j147 w_Model_listWants_j148 w_Model_listWants_j69
  (repeat (first | refine itp (by decide) ?_ | refine itn (by decide) ?_))
  refine ⟨1, ?_⟩
  unfold w_Model_listWants_L150
  (repeat (first | refine itp (by decide) ?_ | refine itn (by decide) ?_))
  exact ct_want (t := wNum) hL (by simp) (fun M2 h2 g2 => ct_want (t := wNum) h2 (by simp) (fun M3 h3 g3 => ct_want (t := wRow) h3 (by simp) (fun M4 h4 g4 => hQ M4 h4 (((f1.trans g2).trans g3).trans g4))))
theorem t_lw45 (h : TE G US A S W w c k br nq nl nf nk M) (h112 : mL M 112 0 = 10) (ho : i.1 = 45) (hI : TI1 A S w nl nf nk nq q n i M) (hQ : ∀ M', TWl A (wlist W c (gmt (gc W c) k) i) M' → Fr FW M M' → Q M') : w_Model_listWants 0 (Int32.ofNat 45) (Int32.ofNat q) Q M := by
  have f1 : Fr FW M (sI M 11 0 79 0) := Fr.wI rfl (Fr.rf _ _)
  have hL : TWl A [] (sI M 11 0 79 0) := ⟨h112, by simp only [mI_sI, mI_sR, mI_sJ, mR_sI, mL_sI, mL_sR, mR_sR, Nat.reduceEqDiff, and_false, false_and, if_false, and_self, true_and, and_true, if_true]; rfl, fun j hj => absurd hj (by simp)⟩
  rw [show wlist W c (gmt (gc W c) k) i = [wRow] by simp [wlist, ho]] at hQ
  unfold w_Model_listWants w_Model_listWants_j34 w_Model_listWants_j46 w_Model_listWants_j98 w_Model_listWants_j122 w_Model_listWants_j123 w_Model_listWants_j147 w_Model_listWants_j148 w_Model_listWants_j69
  (repeat (first | refine itp (by decide) ?_ | refine itn (by decide) ?_))
  refine ⟨1, ?_⟩
  unfold w_Model_listWants_L150
  (repeat (first | refine itp (by decide) ?_ | refine itn (by decide) ?_))
  exact ct_want (t := wRow) hL (by simp) (fun M2 h2 g2 => hQ M2 h2 (f1.trans g2))
theorem t_lw46 (h : TE G US A S W w c k br nq nl nf nk M) (h112 : mL M 112 0 = 10) (ho : i.1 = 46) (hI : TI1 A S w nl nf nk nq q n i M) (hQ : ∀ M', TWl A (wlist W c (gmt (gc W c) k) i) M' → Fr FW M M' → Q M') : w_Model_listWants 0 (Int32.ofNat 46) (Int32.ofNat q) Q M := by
  have f1 : Fr FW M (sI M 11 0 79 0) := Fr.wI rfl (Fr.rf _ _)
  have hL : TWl A [] (sI M 11 0 79 0) := ⟨h112, by simp only [mI_sI, mI_sR, mI_sJ, mR_sI, mL_sI, mL_sR, mR_sR, Nat.reduceEqDiff, and_false, false_and, if_false, and_self, true_and, and_true, if_true]; rfl, fun j hj => absurd hj (by simp)⟩
  rw [show wlist W c (gmt (gc W c) k) i = [(0, (2, iK i))] by simp [wlist, ho]] at hQ
  have h1 := h.fr f1
  have hI1 := hI.fr f1 h.2.1.1 h.2.1.2.2.2.1
  have hq := hI.2.1
  obtain ⟨⟨p1, p2, p3, p4⟩, -, r1, r2, r3⟩ := rdA h1 hI1 (by omega)
  rw [if_pos (by omega)] at r3
  unfold w_Model_listWants w_Model_listWants_j34 w_Model_listWants_j46 w_Model_listWants_j98 w_Model_listWants_j122 w_Model_listWants_j123 w_Model_listWants_j147 w_Model_listWants_j148 w_Model_listWants_j69
  (repeat (first | refine itp (by decide) ?_ | refine itn (by decide) ?_))
  refine ⟨1, ?_⟩
  unfold w_Model_listWants_L150
  (repeat (first | refine itp (by decide) ?_ | refine itn (by decide) ?_))
  refine ⟨w, h1.r45, _, p1, (vp_oN (by omega)).mpr p2, ?_⟩
  rw [oN_tnc (by omega), p3, ← kt_cls]
  exact ct_want (t := (0, (2, iK i))) hL (by simp) (fun M2 h2 g2 => hQ M2 h2 (f1.trans g2))
theorem t_lw47 (h : TE G US A S W w c k br nq nl nf nk M) (h112 : mL M 112 0 = 10) (ho : i.1 = 47) (hI : TI1 A S w nl nf nk nq q n i M) (hQ : ∀ M', TWl A (wlist W c (gmt (gc W c) k) i) M' → Fr FW M M' → Q M') : w_Model_listWants 0 (Int32.ofNat 47) (Int32.ofNat q) Q M := by
  have f1 : Fr FW M (sI M 11 0 79 0) := Fr.wI rfl (Fr.rf _ _)
  have hL : TWl A [] (sI M 11 0 79 0) := ⟨h112, by simp only [mI_sI, mI_sR, mI_sJ, mR_sI, mL_sI, mL_sR, mR_sR, Nat.reduceEqDiff, and_false, false_and, if_false, and_self, true_and, and_true, if_true]; rfl, fun j hj => absurd hj (by simp)⟩
  rw [show wlist W c (gmt (gc W c) k) i = [(0, iR i), (0, (2, iK i))] by simp [wlist, ho]] at hQ
  have h1 := h.fr f1
  have hI1 := hI.fr f1 h.2.1.1 h.2.1.2.2.2.1
  have hq := hI.2.1
  obtain ⟨⟨p1, p2, p3, p4⟩, -, r1, r2, r3⟩ := rdA h1 hI1 (by omega)
  rw [if_pos (by omega)] at r3
  unfold w_Model_listWants w_Model_listWants_j34 w_Model_listWants_j46 w_Model_listWants_j98 w_Model_listWants_j122 w_Model_listWants_j123 w_Model_listWants_j147 w_Model_listWants_j148 w_Model_listWants_j69
  (repeat (first | refine itp (by decide) ?_ | refine itn (by decide) ?_))
  refine ⟨1, ?_⟩
  unfold w_Model_listWants_L150
  (repeat (first | refine itp (by decide) ?_ | refine itn (by decide) ?_))
  refine ⟨w, h1.r45, _, r1, (vp_oN (by omega)).mpr r2, ?_⟩
  rw [oN_tnc (by omega), r3]
  refine ct_want (t := (0, iR i)) hL (by simp) (fun M2 h2 g2 => ?_)
  have h3 := h1.fr g2
  obtain ⟨⟨p1, p2, p3, p4⟩, -⟩ := rdA h3 (hI1.fr g2 h.2.1.1 h.2.1.2.2.2.1) (by omega)
  refine ⟨w, h3.r45, _, p1, (vp_oN (by omega)).mpr p2, ?_⟩
  rw [p3, ← kt_cls]
  exact ct_want (t := (0, (2, iK i))) h2 (by simp) (fun M3 h3 g3 => hQ M3 h3 ((f1.trans g2).trans g3))
theorem t_lw48 (h : TE G US A S W w c k br nq nl nf nk M) (h112 : mL M 112 0 = 10) (ho : i.1 = 48) (hI : TI1 A S w nl nf nk nq q n i M) (hQ : ∀ M', TWl A (wlist W c (gmt (gc W c) k) i) M' → Fr FW M M' → Q M') : w_Model_listWants 0 (Int32.ofNat 48) (Int32.ofNat q) Q M := by
  have f1 : Fr FW M (sI M 11 0 79 0) := Fr.wI rfl (Fr.rf _ _)
  have hL : TWl A [] (sI M 11 0 79 0) := ⟨h112, by simp only [mI_sI, mI_sR, mI_sJ, mR_sI, mL_sI, mL_sR, mR_sR, Nat.reduceEqDiff, and_false, false_and, if_false, and_self, true_and, and_true, if_true]; rfl, fun j hj => absurd hj (by simp)⟩
  rw [show wlist W c (gmt (gc W c) k) i = [] by simp [wlist, ho]] at hQ
  unfold w_Model_listWants w_Model_listWants_j34 w_Model_listWants_j46 w_Model_listWants_j98 w_Model_listWants_j122 w_Model_listWants_j123 w_Model_listWants_j147 w_Model_listWants_j148 w_Model_listWants_j69
  (repeat (first | refine itp (by decide) ?_ | refine itn (by decide) ?_))
  refine ⟨1, ?_⟩
  unfold w_Model_listWants_L150
  (repeat (first | refine itp (by decide) ?_ | refine itn (by decide) ?_))
  exact hQ _ hL f1
theorem t_lw49 (h : TE G US A S W w c k br nq nl nf nk M) (h112 : mL M 112 0 = 10) (ho : i.1 = 49) (hI : TI1 A S w nl nf nk nq q n i M) (hQ : ∀ M', TWl A (wlist W c (gmt (gc W c) k) i) M' → Fr FW M M' → Q M') : w_Model_listWants 0 (Int32.ofNat 49) (Int32.ofNat q) Q M := by
  have f1 : Fr FW M (sI M 11 0 79 0) := Fr.wI rfl (Fr.rf _ _)
  have hL : TWl A [] (sI M 11 0 79 0) := ⟨h112, by simp only [mI_sI, mI_sR, mI_sJ, mR_sI, mL_sI, mL_sR, mR_sR, Nat.reduceEqDiff, and_false, false_and, if_false, and_self, true_and, and_true, if_true]; rfl, fun j hj => absurd hj (by simp)⟩
  rw [show wlist W c (gmt (gc W c) k) i = [(0, iR i)] by simp [wlist, ho]] at hQ
  have h1 := h.fr f1
  have hI1 := hI.fr f1 h.2.1.1 h.2.1.2.2.2.1
  have hq := hI.2.1
  obtain ⟨⟨p1, p2, p3, p4⟩, -, r1, r2, r3⟩ := rdA h1 hI1 (by omega)
  rw [if_pos (by omega)] at r3
  unfold w_Model_listWants w_Model_listWants_j34 w_Model_listWants_j46 w_Model_listWants_j98 w_Model_listWants_j122 w_Model_listWants_j123 w_Model_listWants_j147 w_Model_listWants_j148 w_Model_listWants_j69
  (repeat (first | refine itp (by decide) ?_ | refine itn (by decide) ?_))
  refine ⟨1, ?_⟩
  unfold w_Model_listWants_L150
  (repeat (first | refine itp (by decide) ?_ | refine itn (by decide) ?_))
  refine ⟨w, h1.r45, _, r1, (vp_oN (by omega)).mpr r2, ?_⟩
  rw [oN_tnc (by omega), r3]
  exact ct_want (t := (0, iR i)) hL (by simp) (fun M2 h2 g2 => hQ M2 h2 (f1.trans g2))
theorem t_lw50 (h : TE G US A S W w c k br nq nl nf nk M) (h112 : mL M 112 0 = 10) (ho : i.1 = 50) (hI : TI1 A S w nl nf nk nq q n i M) (hQ : ∀ M', TWl A (wlist W c (gmt (gc W c) k) i) M' → Fr FW M M' → Q M') : w_Model_listWants 0 (Int32.ofNat 50) (Int32.ofNat q) Q M := by
  have f1 : Fr FW M (sI M 11 0 79 0) := Fr.wI rfl (Fr.rf _ _)
  have hL : TWl A [] (sI M 11 0 79 0) := ⟨h112, by simp only [mI_sI, mI_sR, mI_sJ, mR_sI, mL_sI, mL_sR, mR_sR, Nat.reduceEqDiff, and_false, false_and, if_false, and_self, true_and, and_true, if_true]; rfl, fun j hj => absurd hj (by simp)⟩
  have hq := hI.2.1
  have hw3 : isMo i.1 := by omega
  obtain ⟨-, -, -, hk6, -⟩ := hI.2.2
  obtain ⟨-, ⟨-, -, -, -, -, -, t7⟩, -⟩ := hI.1
  have hsg : sg A (iA i) (iR i) ∈ S := (t7 hw3).1
  rw [wlist_call hw3] at hQ
  have h1 := h.fr f1
  have hI1 := hI.fr f1 h.2.1.1 h.2.1.2.2.2.1
  obtain ⟨-, -, r1, r2, r3⟩ := rdA h1 hI1 (by omega)
  rw [if_neg (by omega)] at r3
  obtain ⟨⟨g0, gF, gC, gR⟩, eC, eR, o', eF, b1, b2, eT⟩ := te_sig h1 hsg
  unfold w_Model_listWants w_Model_listWants_j34 w_Model_listWants_j46 w_Model_listWants_j98 w_Model_listWants_j122 w_Model_listWants_j123 w_Model_listWants_j147 w_Model_listWants_j148 w_Model_listWants_j69
  (repeat (first | refine itp (by decide) ?_ | refine itn (by decide) ?_))
  refine ⟨w, h1.r45, _, r1, (vp_oN (by omega)).mpr r2, ?_⟩
  rw [oN_tnc (k := q) (by omega), r3]
  (repeat (first | refine itp (by decide) ?_ | refine itn (by decide) ?_))
  refine ⟨rdI (sI M 11 0 79 0) sC, h1.sl5 (s := sC) (X5_in h.2.1.2.1 (by simp)), (by show vp_in _ (rl (sI M 11 0 79 0) sC); exact (vp_oN (by omega)).mpr gC), (iA i).length + 1, ?_⟩
  rw [oN_tnc (k := S.idxOf (sg A (iA i) (iR i))) (by omega), show mI (sI M 11 0 79 0) 300 (rdI (sI M 11 0 79 0) sC) (S.idxOf (sg A (iA i) (iR i))) = Int32.ofNat (iA i).length from eC]
  have loop : ∀ m j M2, Fr FW M M2 → TWl A (((iA i).reverse.map (fun κ => ((0 : Nat), κ))).take j) M2 → j ≤ (iA i).length → (iA i).length - j < m → w_Model_listWants_L150 0 Q m (Int32.ofNat 50) (Int32.ofNat q) (Int32.ofNat (S.idxOf (sg A (iA i) (iR i)))) (Int32.ofNat (iA i).length - Int32.ofNat (j + 1)) M2 := by
    intro m
    induction m with
    | zero => intro j M2 _ _ _ hn; exact absurd hn (by omega)
    | succ m ih =>
      intro j M2 f2 hL2 hj hn
      have h2 := h.fr f2
      have hI2 := hI.fr f2 h.2.1.1 h.2.1.2.2.2.1
      unfold w_Model_listWants_L150
      by_cases cj : j = (iA i).length
      · have el : ((iA i).reverse.map (fun κ => ((0 : Nat), κ))).take j = (iA i).reverse.map (fun κ => ((0 : Nat), κ)) := List.take_of_length_le (by rw [List.length_map, List.length_reverse]; omega)
        rw [el] at hL2
        have l6 : ((iA i).reverse.map (fun κ => ((0 : Nat), κ))).length < 10 := by rw [List.length_map, List.length_reverse]; omega
        have em : Int32.ofNat (iA i).length - Int32.ofNat (j + 1) = -1 := by
          rw [cj]; exact i32_m1 _
        rw [em]
        refine itp (by decide) ?_
        (repeat (first | refine itp (by decide) ?_ | refine itn (by decide) ?_))
        obtain ⟨⟨p1, p2, p3, p4⟩, -⟩ := rdA h2 hI2 (by omega)
        refine ⟨w, h2.r45, _, p1, (vp_oN (by omega)).mpr p2, ?_⟩
        rw [oN_tnc (k := q) (by omega), p3, ← kt_cls]
        refine ct_want (t := (0, (2, iK i))) hL2 l6 (fun M3 h3 g3 => hQ M3 ?_ (f2.trans g3))
        unfold callT
        rw [if_neg (by omega), if_neg (by omega)]
        exact h3
      · obtain ⟨⟨g0, gF, gC, gR⟩, eC, eR, o', eF, b1, b2, eT⟩ := te_sig h2 hsg
        have em : Int32.ofNat (iA i).length - Int32.ofNat (j + 1) = Int32.ofNat ((iA i).length - 1 - j) := by
          rw [oN_sub (by omega)]; congr 1; omega
        rw [em]
        refine itn (oN_nonneg (by omega)) ⟨rdI M2 sTy, h2.sl5 (s := sTy) (X5_in h.2.1.2.1 (by simp)), rdI M2 sF, h2.sl5 (s := sF) (X5_in h.2.1.2.1 (by simp)), (by show vp_in _ (rl M2 sF); exact (vp_oN (by omega)).mpr gF), ?_⟩
        rw [oN_tnc (k := S.idxOf (sg A (iA i) (iR i))) (by omega), show mI M2 300 (rdI M2 sF) (S.idxOf (sg A (iA i) (iR i))) = Int32.ofNat o' from eF, oN_add, oN_tnc (k := o' + ((iA i).length - 1 - j)) (by omega), show mI M2 300 (rdI M2 sTy) (o' + ((iA i).length - 1 - j)) = kt A (gk (iA i) ((iA i).length - 1 - j)) from eT _ (by omega)]
        refine ⟨(by show vp_in _ (rl M2 sTy); exact (vp_oN (by omega)).mpr (by omega)), ct_want (t := (0, gk (iA i) ((iA i).length - 1 - j))) hL2 (by rw [List.length_take]; omega) (fun M3 h3 g3 => ?_)⟩
        have en : Int32.ofNat ((iA i).length - 1 - j) + (-1 : Int32) = Int32.ofNat (iA i).length - Int32.ofNat (j + 1 + 1) := by
          rw [← em, show Int32.ofNat (j + 1 + 1) = Int32.ofNat (j + 1) + 1 from (oN_add (j + 1) 1).symm]
          generalize Int32.ofNat (iA i).length = x
          generalize Int32.ofNat (j + 1) = y
          rw [Int32.sub_eq_add_neg, Int32.sub_eq_add_neg, Int32.neg_add, Int32.sub_eq_add_neg, Int32.add_assoc]
        rw [en]
        refine ih (j + 1) M3 (f2.trans g3) ?_ (by omega) (by omega)
        have et : ((iA i).reverse.map (fun κ => ((0 : Nat), κ))).take (j + 1) = ((iA i).reverse.map (fun κ => ((0 : Nat), κ))).take j ++ [(0, gk (iA i) ((iA i).length - 1 - j))] := by
          have hl : j < ((iA i).reverse.map (fun κ => ((0 : Nat), κ))).length := by rw [List.length_map, List.length_reverse]; omega
          rw [List.take_add_one, List.getElem?_eq_getElem hl, List.getElem_map, List.getElem_reverse]
          show _ ++ [((0 : Nat), (iA i)[(iA i).length - 1 - j])] = _
          congr 3
          show _ = (iA i).getD _ _
          rw [List.getD_eq_getElem?_getD, List.getElem?_eq_getElem (by omega)]; rfl
        rw [et]; exact h3
  exact loop _ 0 _ f1 hL (by omega) (by omega)
theorem t_lw51 (h : TE G US A S W w c k br nq nl nf nk M) (h112 : mL M 112 0 = 10) (ho : i.1 = 51) (hI : TI1 A S w nl nf nk nq q n i M) (hQ : ∀ M', TWl A (wlist W c (gmt (gc W c) k) i) M' → Fr FW M M' → Q M') : w_Model_listWants 0 (Int32.ofNat 51) (Int32.ofNat q) Q M := by
  have f1 : Fr FW M (sI M 11 0 79 0) := Fr.wI rfl (Fr.rf _ _)
  have hL : TWl A [] (sI M 11 0 79 0) := ⟨h112, by simp only [mI_sI, mI_sR, mI_sJ, mR_sI, mL_sI, mL_sR, mR_sR, Nat.reduceEqDiff, and_false, false_and, if_false, and_self, true_and, and_true, if_true]; rfl, fun j hj => absurd hj (by simp)⟩
  have hq := hI.2.1
  have hw3 : isMo i.1 := by omega
  obtain ⟨-, -, -, hk6, -⟩ := hI.2.2
  obtain ⟨-, ⟨-, -, -, -, -, -, t7⟩, -⟩ := hI.1
  have hsg : sg A (iA i) (iR i) ∈ S := (t7 hw3).1
  rw [wlist_call hw3] at hQ
  have h1 := h.fr f1
  have hI1 := hI.fr f1 h.2.1.1 h.2.1.2.2.2.1
  obtain ⟨-, -, r1, r2, r3⟩ := rdA h1 hI1 (by omega)
  rw [if_neg (by omega)] at r3
  obtain ⟨⟨g0, gF, gC, gR⟩, eC, eR, o', eF, b1, b2, eT⟩ := te_sig h1 hsg
  unfold w_Model_listWants w_Model_listWants_j34 w_Model_listWants_j46 w_Model_listWants_j98 w_Model_listWants_j122 w_Model_listWants_j123 w_Model_listWants_j147 w_Model_listWants_j148 w_Model_listWants_j69
  (repeat (first | refine itp (by decide) ?_ | refine itn (by decide) ?_))
  refine ⟨w, h1.r45, _, r1, (vp_oN (by omega)).mpr r2, ?_⟩
  rw [oN_tnc (k := q) (by omega), r3]
  (repeat (first | refine itp (by decide) ?_ | refine itn (by decide) ?_))
  refine ⟨rdI (sI M 11 0 79 0) sC, h1.sl5 (s := sC) (X5_in h.2.1.2.1 (by simp)), (by show vp_in _ (rl (sI M 11 0 79 0) sC); exact (vp_oN (by omega)).mpr gC), (iA i).length + 1, ?_⟩
  rw [oN_tnc (k := S.idxOf (sg A (iA i) (iR i))) (by omega), show mI (sI M 11 0 79 0) 300 (rdI (sI M 11 0 79 0) sC) (S.idxOf (sg A (iA i) (iR i))) = Int32.ofNat (iA i).length from eC]
  have loop : ∀ m j M2, Fr FW M M2 → TWl A (((iA i).reverse.map (fun κ => ((0 : Nat), κ))).take j) M2 → j ≤ (iA i).length → (iA i).length - j < m → w_Model_listWants_L150 0 Q m (Int32.ofNat 51) (Int32.ofNat q) (Int32.ofNat (S.idxOf (sg A (iA i) (iR i)))) (Int32.ofNat (iA i).length - Int32.ofNat (j + 1)) M2 := by
    intro m
    induction m with
    | zero => intro j M2 _ _ _ hn; exact absurd hn (by omega)
    | succ m ih =>
      intro j M2 f2 hL2 hj hn
      have h2 := h.fr f2
      have hI2 := hI.fr f2 h.2.1.1 h.2.1.2.2.2.1
      unfold w_Model_listWants_L150
      by_cases cj : j = (iA i).length
      · have el : ((iA i).reverse.map (fun κ => ((0 : Nat), κ))).take j = (iA i).reverse.map (fun κ => ((0 : Nat), κ)) := List.take_of_length_le (by rw [List.length_map, List.length_reverse]; omega)
        rw [el] at hL2
        have l6 : ((iA i).reverse.map (fun κ => ((0 : Nat), κ))).length < 10 := by rw [List.length_map, List.length_reverse]; omega
        have em : Int32.ofNat (iA i).length - Int32.ofNat (j + 1) = -1 := by
          rw [cj]; exact i32_m1 _
        rw [em]
        refine itp (by decide) ?_
        (repeat (first | refine itp (by decide) ?_ | refine itn (by decide) ?_))
        obtain ⟨-, ⟨p1, p2, p3, p4⟩, -⟩ := rdA h2 hI2 (by omega)
        have hK := h2.1.2.2.1
        refine ⟨w, h2.r45, _, p1, (vp_oN (by omega)).mpr p2, ?_⟩
        rw [oN_tnc (k := q) (by omega), p3, hK.make.1]
        unfold w_Model_listWants_j639
        unfold callT at hQ
        rw [if_neg (by omega), if_pos ho] at hQ
        by_cases cm : iM i = nMake
        · rw [if_pos cm] at hQ
          refine itp (by rw [cm]) (ct_want (t := wAny) hL2 l6 (fun M3 h3 g3 => hQ M3 h3 (f2.trans g3)))
        · rw [if_neg cm] at hQ
          have hcn := h2.cl.1.2 c h2.lc.1
          refine itn (fun z => cm ((nc_inj (by have := h.la; omega) p4 hK.make.2).mp z)) ⟨w, h2.r45, ?_⟩
          have hc51 := h2.lc
          rw [h2.c76, oN_tnc (k := c) (by omega), h2.cl.1.1.2.1, hcn.1, ← kt_cls]
          exact ⟨(vp_oN (by omega)).mpr (by omega), ct_want (t := (0, (2, (gc W c).1))) hL2 l6 (fun M3 h3 g3 => hQ M3 h3 (f2.trans g3))⟩
      · obtain ⟨⟨g0, gF, gC, gR⟩, eC, eR, o', eF, b1, b2, eT⟩ := te_sig h2 hsg
        have em : Int32.ofNat (iA i).length - Int32.ofNat (j + 1) = Int32.ofNat ((iA i).length - 1 - j) := by
          rw [oN_sub (by omega)]; congr 1; omega
        rw [em]
        refine itn (oN_nonneg (by omega)) ⟨rdI M2 sTy, h2.sl5 (s := sTy) (X5_in h.2.1.2.1 (by simp)), rdI M2 sF, h2.sl5 (s := sF) (X5_in h.2.1.2.1 (by simp)), (by show vp_in _ (rl M2 sF); exact (vp_oN (by omega)).mpr gF), ?_⟩
        rw [oN_tnc (k := S.idxOf (sg A (iA i) (iR i))) (by omega), show mI M2 300 (rdI M2 sF) (S.idxOf (sg A (iA i) (iR i))) = Int32.ofNat o' from eF, oN_add, oN_tnc (k := o' + ((iA i).length - 1 - j)) (by omega), show mI M2 300 (rdI M2 sTy) (o' + ((iA i).length - 1 - j)) = kt A (gk (iA i) ((iA i).length - 1 - j)) from eT _ (by omega)]
        refine ⟨(by show vp_in _ (rl M2 sTy); exact (vp_oN (by omega)).mpr (by omega)), ct_want (t := (0, gk (iA i) ((iA i).length - 1 - j))) hL2 (by rw [List.length_take]; omega) (fun M3 h3 g3 => ?_)⟩
        have en : Int32.ofNat ((iA i).length - 1 - j) + (-1 : Int32) = Int32.ofNat (iA i).length - Int32.ofNat (j + 1 + 1) := by
          rw [← em, show Int32.ofNat (j + 1 + 1) = Int32.ofNat (j + 1) + 1 from (oN_add (j + 1) 1).symm]
          generalize Int32.ofNat (iA i).length = x
          generalize Int32.ofNat (j + 1) = y
          rw [Int32.sub_eq_add_neg, Int32.sub_eq_add_neg, Int32.neg_add, Int32.sub_eq_add_neg, Int32.add_assoc]
        rw [en]
        refine ih (j + 1) M3 (f2.trans g3) ?_ (by omega) (by omega)
        have et : ((iA i).reverse.map (fun κ => ((0 : Nat), κ))).take (j + 1) = ((iA i).reverse.map (fun κ => ((0 : Nat), κ))).take j ++ [(0, gk (iA i) ((iA i).length - 1 - j))] := by
          have hl : j < ((iA i).reverse.map (fun κ => ((0 : Nat), κ))).length := by rw [List.length_map, List.length_reverse]; omega
          rw [List.take_add_one, List.getElem?_eq_getElem hl, List.getElem_map, List.getElem_reverse]
          show _ ++ [((0 : Nat), (iA i)[(iA i).length - 1 - j])] = _
          congr 3
          show _ = (iA i).getD _ _
          rw [List.getD_eq_getElem?_getD, List.getElem?_eq_getElem (by omega)]; rfl
        rw [et]; exact h3
  exact loop _ 0 _ f1 hL (by omega) (by omega)
theorem t_lw52 (h : TE G US A S W w c k br nq nl nf nk M) (h112 : mL M 112 0 = 10) (ho : i.1 = 52) (hI : TI1 A S w nl nf nk nq q n i M) (hQ : ∀ M', TWl A (wlist W c (gmt (gc W c) k) i) M' → Fr FW M M' → Q M') : w_Model_listWants 0 (Int32.ofNat 52) (Int32.ofNat q) Q M := by
  have f1 : Fr FW M (sI M 11 0 79 0) := Fr.wI rfl (Fr.rf _ _)
  have hL : TWl A [] (sI M 11 0 79 0) := ⟨h112, by simp only [mI_sI, mI_sR, mI_sJ, mR_sI, mL_sI, mL_sR, mR_sR, Nat.reduceEqDiff, and_false, false_and, if_false, and_self, true_and, and_true, if_true]; rfl, fun j hj => absurd hj (by simp)⟩
  have hq := hI.2.1
  have hw3 : isMo i.1 := by omega
  obtain ⟨-, -, -, hk6, -⟩ := hI.2.2
  obtain ⟨-, ⟨-, -, -, -, -, -, t7⟩, -⟩ := hI.1
  have hsg : sg A (iA i) (iR i) ∈ S := (t7 hw3).1
  rw [wlist_call hw3] at hQ
  have h1 := h.fr f1
  have hI1 := hI.fr f1 h.2.1.1 h.2.1.2.2.2.1
  obtain ⟨-, -, r1, r2, r3⟩ := rdA h1 hI1 (by omega)
  rw [if_neg (by omega)] at r3
  obtain ⟨⟨g0, gF, gC, gR⟩, eC, eR, o', eF, b1, b2, eT⟩ := te_sig h1 hsg
  unfold w_Model_listWants w_Model_listWants_j34 w_Model_listWants_j46 w_Model_listWants_j98 w_Model_listWants_j122 w_Model_listWants_j123 w_Model_listWants_j147 w_Model_listWants_j148 w_Model_listWants_j69
  (repeat (first | refine itp (by decide) ?_ | refine itn (by decide) ?_))
  refine ⟨w, h1.r45, _, r1, (vp_oN (by omega)).mpr r2, ?_⟩
  rw [oN_tnc (k := q) (by omega), r3]
  (repeat (first | refine itp (by decide) ?_ | refine itn (by decide) ?_))
  refine ⟨rdI (sI M 11 0 79 0) sC, h1.sl5 (s := sC) (X5_in h.2.1.2.1 (by simp)), (by show vp_in _ (rl (sI M 11 0 79 0) sC); exact (vp_oN (by omega)).mpr gC), (iA i).length + 1, ?_⟩
  rw [oN_tnc (k := S.idxOf (sg A (iA i) (iR i))) (by omega), show mI (sI M 11 0 79 0) 300 (rdI (sI M 11 0 79 0) sC) (S.idxOf (sg A (iA i) (iR i))) = Int32.ofNat (iA i).length from eC]
  have loop : ∀ m j M2, Fr FW M M2 → TWl A (((iA i).reverse.map (fun κ => ((0 : Nat), κ))).take j) M2 → j ≤ (iA i).length → (iA i).length - j < m → w_Model_listWants_L150 0 Q m (Int32.ofNat 52) (Int32.ofNat q) (Int32.ofNat (S.idxOf (sg A (iA i) (iR i)))) (Int32.ofNat (iA i).length - Int32.ofNat (j + 1)) M2 := by
    intro m
    induction m with
    | zero => intro j M2 _ _ _ hn; exact absurd hn (by omega)
    | succ m ih =>
      intro j M2 f2 hL2 hj hn
      have h2 := h.fr f2
      have hI2 := hI.fr f2 h.2.1.1 h.2.1.2.2.2.1
      unfold w_Model_listWants_L150
      by_cases cj : j = (iA i).length
      · have el : ((iA i).reverse.map (fun κ => ((0 : Nat), κ))).take j = (iA i).reverse.map (fun κ => ((0 : Nat), κ)) := List.take_of_length_le (by rw [List.length_map, List.length_reverse]; omega)
        rw [el] at hL2
        have l6 : ((iA i).reverse.map (fun κ => ((0 : Nat), κ))).length < 10 := by rw [List.length_map, List.length_reverse]; omega
        have em : Int32.ofNat (iA i).length - Int32.ofNat (j + 1) = -1 := by
          rw [cj]; exact i32_m1 _
        rw [em]
        refine itp (by decide) ?_
        (repeat (first | refine itp (by decide) ?_ | refine itn (by decide) ?_))
        refine hQ M2 ?_ f2
        unfold callT
        rw [if_pos ho, List.append_nil]
        exact hL2
      · obtain ⟨⟨g0, gF, gC, gR⟩, eC, eR, o', eF, b1, b2, eT⟩ := te_sig h2 hsg
        have em : Int32.ofNat (iA i).length - Int32.ofNat (j + 1) = Int32.ofNat ((iA i).length - 1 - j) := by
          rw [oN_sub (by omega)]; congr 1; omega
        rw [em]
        refine itn (oN_nonneg (by omega)) ⟨rdI M2 sTy, h2.sl5 (s := sTy) (X5_in h.2.1.2.1 (by simp)), rdI M2 sF, h2.sl5 (s := sF) (X5_in h.2.1.2.1 (by simp)), (by show vp_in _ (rl M2 sF); exact (vp_oN (by omega)).mpr gF), ?_⟩
        rw [oN_tnc (k := S.idxOf (sg A (iA i) (iR i))) (by omega), show mI M2 300 (rdI M2 sF) (S.idxOf (sg A (iA i) (iR i))) = Int32.ofNat o' from eF, oN_add, oN_tnc (k := o' + ((iA i).length - 1 - j)) (by omega), show mI M2 300 (rdI M2 sTy) (o' + ((iA i).length - 1 - j)) = kt A (gk (iA i) ((iA i).length - 1 - j)) from eT _ (by omega)]
        refine ⟨(by show vp_in _ (rl M2 sTy); exact (vp_oN (by omega)).mpr (by omega)), ct_want (t := (0, gk (iA i) ((iA i).length - 1 - j))) hL2 (by rw [List.length_take]; omega) (fun M3 h3 g3 => ?_)⟩
        have en : Int32.ofNat ((iA i).length - 1 - j) + (-1 : Int32) = Int32.ofNat (iA i).length - Int32.ofNat (j + 1 + 1) := by
          rw [← em, show Int32.ofNat (j + 1 + 1) = Int32.ofNat (j + 1) + 1 from (oN_add (j + 1) 1).symm]
          generalize Int32.ofNat (iA i).length = x
          generalize Int32.ofNat (j + 1) = y
          rw [Int32.sub_eq_add_neg, Int32.sub_eq_add_neg, Int32.neg_add, Int32.sub_eq_add_neg, Int32.add_assoc]
        rw [en]
        refine ih (j + 1) M3 (f2.trans g3) ?_ (by omega) (by omega)
        have et : ((iA i).reverse.map (fun κ => ((0 : Nat), κ))).take (j + 1) = ((iA i).reverse.map (fun κ => ((0 : Nat), κ))).take j ++ [(0, gk (iA i) ((iA i).length - 1 - j))] := by
          have hl : j < ((iA i).reverse.map (fun κ => ((0 : Nat), κ))).length := by rw [List.length_map, List.length_reverse]; omega
          rw [List.take_add_one, List.getElem?_eq_getElem hl, List.getElem_map, List.getElem_reverse]
          show _ ++ [((0 : Nat), (iA i)[(iA i).length - 1 - j])] = _
          congr 3
          show _ = (iA i).getD _ _
          rw [List.getD_eq_getElem?_getD, List.getElem?_eq_getElem (by omega)]; rfl
        rw [et]; exact h3
  exact loop _ 0 _ f1 hL (by omega) (by omega)
theorem t_lw53 (h : TE G US A S W w c k br nq nl nf nk M) (h112 : mL M 112 0 = 10) (ho : i.1 = 53) (hI : TI1 A S w nl nf nk nq q n i M) (hQ : ∀ M', TWl A (wlist W c (gmt (gc W c) k) i) M' → Fr FW M M' → Q M') : w_Model_listWants 0 (Int32.ofNat 53) (Int32.ofNat q) Q M := by
  have f1 : Fr FW M (sI M 11 0 79 0) := Fr.wI rfl (Fr.rf _ _)
  have hL : TWl A [] (sI M 11 0 79 0) := ⟨h112, by simp only [mI_sI, mI_sR, mI_sJ, mR_sI, mL_sI, mL_sR, mR_sR, Nat.reduceEqDiff, and_false, false_and, if_false, and_self, true_and, and_true, if_true]; rfl, fun j hj => absurd hj (by simp)⟩
  have hq := hI.2.1
  have hw3 : isMo i.1 := by omega
  obtain ⟨-, -, -, hk6, -⟩ := hI.2.2
  obtain ⟨-, ⟨-, -, -, -, -, -, t7⟩, -⟩ := hI.1
  have hsg : sg A (iA i) (iR i) ∈ S := (t7 hw3).1
  rw [wlist_call hw3] at hQ
  have h1 := h.fr f1
  have hI1 := hI.fr f1 h.2.1.1 h.2.1.2.2.2.1
  obtain ⟨-, -, r1, r2, r3⟩ := rdA h1 hI1 (by omega)
  rw [if_neg (by omega)] at r3
  obtain ⟨⟨g0, gF, gC, gR⟩, eC, eR, o', eF, b1, b2, eT⟩ := te_sig h1 hsg
  unfold w_Model_listWants w_Model_listWants_j34 w_Model_listWants_j46 w_Model_listWants_j98 w_Model_listWants_j122 w_Model_listWants_j123 w_Model_listWants_j147 w_Model_listWants_j148 w_Model_listWants_j69
  (repeat (first | refine itp (by decide) ?_ | refine itn (by decide) ?_))
  refine ⟨w, h1.r45, _, r1, (vp_oN (by omega)).mpr r2, ?_⟩
  rw [oN_tnc (k := q) (by omega), r3]
  (repeat (first | refine itp (by decide) ?_ | refine itn (by decide) ?_))
  refine ⟨rdI (sI M 11 0 79 0) sC, h1.sl5 (s := sC) (X5_in h.2.1.2.1 (by simp)), (by show vp_in _ (rl (sI M 11 0 79 0) sC); exact (vp_oN (by omega)).mpr gC), (iA i).length + 1, ?_⟩
  rw [oN_tnc (k := S.idxOf (sg A (iA i) (iR i))) (by omega), show mI (sI M 11 0 79 0) 300 (rdI (sI M 11 0 79 0) sC) (S.idxOf (sg A (iA i) (iR i))) = Int32.ofNat (iA i).length from eC]
  have loop : ∀ m j M2, Fr FW M M2 → TWl A (((iA i).reverse.map (fun κ => ((0 : Nat), κ))).take j) M2 → j ≤ (iA i).length → (iA i).length - j < m → w_Model_listWants_L150 0 Q m (Int32.ofNat 53) (Int32.ofNat q) (Int32.ofNat (S.idxOf (sg A (iA i) (iR i)))) (Int32.ofNat (iA i).length - Int32.ofNat (j + 1)) M2 := by
    intro m
    induction m with
    | zero => intro j M2 _ _ _ hn; exact absurd hn (by omega)
    | succ m ih =>
      intro j M2 f2 hL2 hj hn
      have h2 := h.fr f2
      have hI2 := hI.fr f2 h.2.1.1 h.2.1.2.2.2.1
      unfold w_Model_listWants_L150
      by_cases cj : j = (iA i).length
      · have el : ((iA i).reverse.map (fun κ => ((0 : Nat), κ))).take j = (iA i).reverse.map (fun κ => ((0 : Nat), κ)) := List.take_of_length_le (by rw [List.length_map, List.length_reverse]; omega)
        rw [el] at hL2
        have l6 : ((iA i).reverse.map (fun κ => ((0 : Nat), κ))).length < 10 := by rw [List.length_map, List.length_reverse]; omega
        have em : Int32.ofNat (iA i).length - Int32.ofNat (j + 1) = -1 := by
          rw [cj]; exact i32_m1 _
        rw [em]
        refine itp (by decide) ?_
        (repeat (first | refine itp (by decide) ?_ | refine itn (by decide) ?_))
        obtain ⟨⟨p1, p2, p3, p4⟩, -⟩ := rdA h2 hI2 (by omega)
        refine ⟨w, h2.r45, _, p1, (vp_oN (by omega)).mpr p2, ?_⟩
        rw [oN_tnc (k := q) (by omega), p3, ← kt_cls]
        refine ct_want (t := (0, (2, iK i))) hL2 l6 (fun M3 h3 g3 => hQ M3 ?_ (f2.trans g3))
        unfold callT
        rw [if_neg (by omega), if_neg (by omega)]
        exact h3
      · obtain ⟨⟨g0, gF, gC, gR⟩, eC, eR, o', eF, b1, b2, eT⟩ := te_sig h2 hsg
        have em : Int32.ofNat (iA i).length - Int32.ofNat (j + 1) = Int32.ofNat ((iA i).length - 1 - j) := by
          rw [oN_sub (by omega)]; congr 1; omega
        rw [em]
        refine itn (oN_nonneg (by omega)) ⟨rdI M2 sTy, h2.sl5 (s := sTy) (X5_in h.2.1.2.1 (by simp)), rdI M2 sF, h2.sl5 (s := sF) (X5_in h.2.1.2.1 (by simp)), (by show vp_in _ (rl M2 sF); exact (vp_oN (by omega)).mpr gF), ?_⟩
        rw [oN_tnc (k := S.idxOf (sg A (iA i) (iR i))) (by omega), show mI M2 300 (rdI M2 sF) (S.idxOf (sg A (iA i) (iR i))) = Int32.ofNat o' from eF, oN_add, oN_tnc (k := o' + ((iA i).length - 1 - j)) (by omega), show mI M2 300 (rdI M2 sTy) (o' + ((iA i).length - 1 - j)) = kt A (gk (iA i) ((iA i).length - 1 - j)) from eT _ (by omega)]
        refine ⟨(by show vp_in _ (rl M2 sTy); exact (vp_oN (by omega)).mpr (by omega)), ct_want (t := (0, gk (iA i) ((iA i).length - 1 - j))) hL2 (by rw [List.length_take]; omega) (fun M3 h3 g3 => ?_)⟩
        have en : Int32.ofNat ((iA i).length - 1 - j) + (-1 : Int32) = Int32.ofNat (iA i).length - Int32.ofNat (j + 1 + 1) := by
          rw [← em, show Int32.ofNat (j + 1 + 1) = Int32.ofNat (j + 1) + 1 from (oN_add (j + 1) 1).symm]
          generalize Int32.ofNat (iA i).length = x
          generalize Int32.ofNat (j + 1) = y
          rw [Int32.sub_eq_add_neg, Int32.sub_eq_add_neg, Int32.neg_add, Int32.sub_eq_add_neg, Int32.add_assoc]
        rw [en]
        refine ih (j + 1) M3 (f2.trans g3) ?_ (by omega) (by omega)
        have et : ((iA i).reverse.map (fun κ => ((0 : Nat), κ))).take (j + 1) = ((iA i).reverse.map (fun κ => ((0 : Nat), κ))).take j ++ [(0, gk (iA i) ((iA i).length - 1 - j))] := by
          have hl : j < ((iA i).reverse.map (fun κ => ((0 : Nat), κ))).length := by rw [List.length_map, List.length_reverse]; omega
          rw [List.take_add_one, List.getElem?_eq_getElem hl, List.getElem_map, List.getElem_reverse]
          show _ ++ [((0 : Nat), (iA i)[(iA i).length - 1 - j])] = _
          congr 3
          show _ = (iA i).getD _ _
          rw [List.getD_eq_getElem?_getD, List.getElem?_eq_getElem (by omega)]; rfl
        rw [et]; exact h3
  exact loop _ 0 _ f1 hL (by omega) (by omega)
theorem t_lw54 (h : TE G US A S W w c k br nq nl nf nk M) (h112 : mL M 112 0 = 10) (ho : i.1 = 54) (hI : TI1 A S w nl nf nk nq q n i M) (hQ : ∀ M', TWl A (wlist W c (gmt (gc W c) k) i) M' → Fr FW M M' → Q M') : w_Model_listWants 0 (Int32.ofNat 54) (Int32.ofNat q) Q M := by
  have f1 : Fr FW M (sI M 11 0 79 0) := Fr.wI rfl (Fr.rf _ _)
  have hL : TWl A [] (sI M 11 0 79 0) := ⟨h112, by simp only [mI_sI, mI_sR, mI_sJ, mR_sI, mL_sI, mL_sR, mR_sR, Nat.reduceEqDiff, and_false, false_and, if_false, and_self, true_and, and_true, if_true]; rfl, fun j hj => absurd hj (by simp)⟩
  rw [show wlist W c (gmt (gc W c) k) i = [wRef] by simp [wlist, ho]] at hQ
  unfold w_Model_listWants w_Model_listWants_j34 w_Model_listWants_j46 w_Model_listWants_j98 w_Model_listWants_j122 w_Model_listWants_j123 w_Model_listWants_j147 w_Model_listWants_j148 w_Model_listWants_j69
  (repeat (first | refine itp (by decide) ?_ | refine itn (by decide) ?_))
  refine ⟨1, ?_⟩
  unfold w_Model_listWants_L150
  (repeat (first | refine itp (by decide) ?_ | refine itn (by decide) ?_))
  exact ct_want (t := wRef) hL (by simp) (fun M2 h2 g2 => hQ M2 h2 (f1.trans g2))
theorem t_lw55 (h : TE G US A S W w c k br nq nl nf nk M) (h112 : mL M 112 0 = 10) (ho : i.1 = 55) (hI : TI1 A S w nl nf nk nq q n i M) (hQ : ∀ M', TWl A (wlist W c (gmt (gc W c) k) i) M' → Fr FW M M' → Q M') : w_Model_listWants 0 (Int32.ofNat 55) (Int32.ofNat q) Q M := by
  have f1 : Fr FW M (sI M 11 0 79 0) := Fr.wI rfl (Fr.rf _ _)
  have hL : TWl A [] (sI M 11 0 79 0) := ⟨h112, by simp only [mI_sI, mI_sR, mI_sJ, mR_sI, mL_sI, mL_sR, mR_sR, Nat.reduceEqDiff, and_false, false_and, if_false, and_self, true_and, and_true, if_true]; rfl, fun j hj => absurd hj (by simp)⟩
  rw [show wlist W c (gmt (gc W c) k) i = [wRef] by simp [wlist, ho]] at hQ
  unfold w_Model_listWants w_Model_listWants_j34 w_Model_listWants_j46 w_Model_listWants_j98 w_Model_listWants_j122 w_Model_listWants_j123 w_Model_listWants_j147 w_Model_listWants_j148 w_Model_listWants_j69
  (repeat (first | refine itp (by decide) ?_ | refine itn (by decide) ?_))
  refine ⟨1, ?_⟩
  unfold w_Model_listWants_L150
  (repeat (first | refine itp (by decide) ?_ | refine itn (by decide) ?_))
  exact ct_want (t := wRef) hL (by simp) (fun M2 h2 g2 => hQ M2 h2 (f1.trans g2))
theorem t_lw56 (h : TE G US A S W w c k br nq nl nf nk M) (h112 : mL M 112 0 = 10) (ho : i.1 = 56) (hI : TI1 A S w nl nf nk nq q n i M) (hQ : ∀ M', TWl A (wlist W c (gmt (gc W c) k) i) M' → Fr FW M M' → Q M') : w_Model_listWants 0 (Int32.ofNat 56) (Int32.ofNat q) Q M := by
  have f1 : Fr FW M (sI M 11 0 79 0) := Fr.wI rfl (Fr.rf _ _)
  have hL : TWl A [] (sI M 11 0 79 0) := ⟨h112, by simp only [mI_sI, mI_sR, mI_sJ, mR_sI, mL_sI, mL_sR, mR_sR, Nat.reduceEqDiff, and_false, false_and, if_false, and_self, true_and, and_true, if_true]; rfl, fun j hj => absurd hj (by simp)⟩
  rw [show wlist W c (gmt (gc W c) k) i = [(0, (2, nFault))] by simp [wlist, ho]] at hQ
  have h1 := h.fr f1
  unfold w_Model_listWants w_Model_listWants_j34 w_Model_listWants_j46 w_Model_listWants_j98 w_Model_listWants_j122 w_Model_listWants_j123 w_Model_listWants_j147 w_Model_listWants_j148 w_Model_listWants_j69
  (repeat (first | refine itp (by decide) ?_ | refine itn (by decide) ?_))
  refine ⟨1, ?_⟩
  unfold w_Model_listWants_L150
  (repeat (first | refine itp (by decide) ?_ | refine itn (by decide) ?_))
  rw [h1.1.2.2.1.thing.1, Int32.add_assoc, h1.fault.1, ← kt_cls]
  exact ct_want (t := (0, (2, nFault))) hL (by simp) (fun M2 h2 g2 => hQ M2 h2 (f1.trans g2))
theorem t_lw57 (h : TE G US A S W w c k br nq nl nf nk M) (h112 : mL M 112 0 = 10) (ho : i.1 = 57) (hI : TI1 A S w nl nf nk nq q n i M) (hQ : ∀ M', TWl A (wlist W c (gmt (gc W c) k) i) M' → Fr FW M M' → Q M') : w_Model_listWants 0 (Int32.ofNat 57) (Int32.ofNat q) Q M := by
  have f1 : Fr FW M (sI M 11 0 79 0) := Fr.wI rfl (Fr.rf _ _)
  have hL : TWl A [] (sI M 11 0 79 0) := ⟨h112, by simp only [mI_sI, mI_sR, mI_sJ, mR_sI, mL_sI, mL_sR, mR_sR, Nat.reduceEqDiff, and_false, false_and, if_false, and_self, true_and, and_true, if_true]; rfl, fun j hj => absurd hj (by simp)⟩
  rw [show wlist W c (gmt (gc W c) k) i = [] by simp [wlist, ho]] at hQ
  unfold w_Model_listWants w_Model_listWants_j34 w_Model_listWants_j46 w_Model_listWants_j98 w_Model_listWants_j122 w_Model_listWants_j123 w_Model_listWants_j147 w_Model_listWants_j148 w_Model_listWants_j69
  (repeat (first | refine itp (by decide) ?_ | refine itn (by decide) ?_))
  refine ⟨1, ?_⟩
  unfold w_Model_listWants_L150
  (repeat (first | refine itp (by decide) ?_ | refine itn (by decide) ?_))
  exact hQ _ hL f1
theorem t_lw58 (h : TE G US A S W w c k br nq nl nf nk M) (h112 : mL M 112 0 = 10) (ho : i.1 = 58) (hI : TI1 A S w nl nf nk nq q n i M) (hQ : ∀ M', TWl A (wlist W c (gmt (gc W c) k) i) M' → Fr FW M M' → Q M') : w_Model_listWants 0 (Int32.ofNat 58) (Int32.ofNat q) Q M := by
  have f1 : Fr FW M (sI M 11 0 79 0) := Fr.wI rfl (Fr.rf _ _)
  have hL : TWl A [] (sI M 11 0 79 0) := ⟨h112, by simp only [mI_sI, mI_sR, mI_sJ, mR_sI, mL_sI, mL_sR, mR_sR, Nat.reduceEqDiff, and_false, false_and, if_false, and_self, true_and, and_true, if_true]; rfl, fun j hj => absurd hj (by simp)⟩
  rw [show wlist W c (gmt (gc W c) k) i = [wNum] by simp [wlist, ho]] at hQ
  unfold w_Model_listWants w_Model_listWants_j34 w_Model_listWants_j46 w_Model_listWants_j98 w_Model_listWants_j122 w_Model_listWants_j123 w_Model_listWants_j147 w_Model_listWants_j148 w_Model_listWants_j69
  (repeat (first | refine itp (by decide) ?_ | refine itn (by decide) ?_))
  exact ct_want (t := wNum) hL (by simp) (fun M2 h2 g2 => hQ M2 h2 (f1.trans g2))
theorem t_lw59 (h : TE G US A S W w c k br nq nl nf nk M) (h112 : mL M 112 0 = 10) (ho : i.1 = 59) (hI : TI1 A S w nl nf nk nq q n i M) (hQ : ∀ M', TWl A (wlist W c (gmt (gc W c) k) i) M' → Fr FW M M' → Q M') : w_Model_listWants 0 (Int32.ofNat 59) (Int32.ofNat q) Q M := by
  have f1 : Fr FW M (sI M 11 0 79 0) := Fr.wI rfl (Fr.rf _ _)
  have hL : TWl A [] (sI M 11 0 79 0) := ⟨h112, by simp only [mI_sI, mI_sR, mI_sJ, mR_sI, mL_sI, mL_sR, mR_sR, Nat.reduceEqDiff, and_false, false_and, if_false, and_self, true_and, and_true, if_true]; rfl, fun j hj => absurd hj (by simp)⟩
  have hws : wlist W c (gmt (gc W c) k) i = [if (gmt (gc W c) k).2.2.1.1 = 1 ∨ (gmt (gc W c) k).2.2.1.1 = 2 then (0, (gmt (gc W c) k).2.2.1) else wRef] := by simp [wlist, ho]
  rw [hws] at hQ
  have h1 := h.fr f1
  have hm := h.mlt
  obtain ⟨e145, hsg⟩ := h1.hd.2.1
  have hsg : sg A (gmt (gc W c) k).2.1 (gmt (gc W c) k).2.2.1 ∈ S := hsg
  obtain ⟨⟨g0, gF, gC, gR⟩, eC, eR, -⟩ := te_sig h1 hsg
  obtain ⟨hko, hkd⟩ := h1.hd.2.2.1.2.1
  have hκ : kwf A (co (gmt (gc W c) k)) (gmt (gc W c) k).2.2.1 := kwf_kd hkd hko
  have hla := h.la
  unfold w_Model_listWants w_Model_listWants_j34 w_Model_listWants_j46 w_Model_listWants_j98 w_Model_listWants_j122 w_Model_listWants_j123 w_Model_listWants_j147 w_Model_listWants_j148 w_Model_listWants_j69
  (repeat (first | refine itp (by decide) ?_ | refine itn (by decide) ?_))
  refine ⟨1, ?_⟩
  unfold w_Model_listWants_L150
  (repeat (first | refine itp (by decide) ?_ | refine itn (by decide) ?_))
  refine ⟨rdI (sI M 11 0 79 0) sRe, h1.sl5 (s := sRe) (X5_in h.2.1.2.1 (by simp)), w, h1.r45, ?_⟩
  rw [h1.m75, oN_tnc (k := 12 * c + k) (by omega), h1.ml (by omega) (by omega), e145, oN_tnc (k := S.idxOf _) (by omega), show mI (sI M 11 0 79 0) 300 (rdI (sI M 11 0 79 0) sRe) (S.idxOf (sg A (gmt (gc W c) k).2.1 (gmt (gc W c) k).2.2.1)) = kt A (gmt (gc W c) k).2.2.1 from eR]
  refine ⟨(vp_oN (by omega)).mpr hm, (by show vp_in _ (rl (sI M 11 0 79 0) sRe); exact (vp_oN (by omega)).mpr gR), _, rfl, ?_⟩
  generalize (gmt (gc W c) k).2.2.1 = κ at hκ hkd hQ
  unfold w_Model_listWants_j694
  have kc := kt_cases hκ hla
  have hk4 : κ.1 = 0 ∨ κ.1 = 1 ∨ κ.1 = 2 ∨ κ.1 = -4 := by
    rcases hkd with z | z | z | z
    · rw [z]; exact Or.inl rfl
    · rw [z]; exact Or.inr (Or.inl rfl)
    · rw [z]; exact Or.inr (Or.inr (Or.inr rfl))
    · exact Or.inr (Or.inr (Or.inl z))
  have h1i : (1 : Int32).toInt = 1 := rfl
  by_cases c1 : κ.1 = 1 ∨ κ.1 = 2
  · rw [if_pos c1] at hQ
    refine itn (fun z => ?_) (ct_want (t := (0, κ)) hL (by simp) (fun M2 h2 g2 => hQ M2 h2 (f1.trans g2)))
    rw [Int32.le_iff_toInt_le, h1i] at z
    omega
  · rw [if_neg c1] at hQ
    refine itp ?_ (ct_want (t := wRef) hL (by simp) (fun M2 h2 g2 => hQ M2 h2 (f1.trans g2)))
    rw [Int32.le_iff_toInt_le, h1i]
    omega
theorem t_lw60 (h : TE G US A S W w c k br nq nl nf nk M) (h112 : mL M 112 0 = 10) (ho : i.1 = 60) (hI : TI1 A S w nl nf nk nq q n i M) (hQ : ∀ M', TWl A (wlist W c (gmt (gc W c) k) i) M' → Fr FW M M' → Q M') : w_Model_listWants 0 (Int32.ofNat 60) (Int32.ofNat q) Q M := by
  have f1 : Fr FW M (sI M 11 0 79 0) := Fr.wI rfl (Fr.rf _ _)
  have hL : TWl A [] (sI M 11 0 79 0) := ⟨h112, by simp only [mI_sI, mI_sR, mI_sJ, mR_sI, mL_sI, mL_sR, mR_sR, Nat.reduceEqDiff, and_false, false_and, if_false, and_self, true_and, and_true, if_true]; rfl, fun j hj => absurd hj (by simp)⟩
  rw [show wlist W c (gmt (gc W c) k) i = [wRef] by simp [wlist, ho]] at hQ
  unfold w_Model_listWants w_Model_listWants_j34 w_Model_listWants_j46 w_Model_listWants_j98 w_Model_listWants_j122 w_Model_listWants_j123 w_Model_listWants_j147 w_Model_listWants_j148 w_Model_listWants_j69
  (repeat (first | refine itp (by decide) ?_ | refine itn (by decide) ?_))
  refine ⟨1, ?_⟩
  unfold w_Model_listWants_L150
  (repeat (first | refine itp (by decide) ?_ | refine itn (by decide) ?_))
  exact ct_want (t := wRef) hL (by simp) (fun M2 h2 g2 => hQ M2 h2 (f1.trans g2))
theorem t_lw61 (h : TE G US A S W w c k br nq nl nf nk M) (h112 : mL M 112 0 = 10) (ho : i.1 = 61) (hI : TI1 A S w nl nf nk nq q n i M) (hQ : ∀ M', TWl A (wlist W c (gmt (gc W c) k) i) M' → Fr FW M M' → Q M') : w_Model_listWants 0 (Int32.ofNat 61) (Int32.ofNat q) Q M := by
  have f1 : Fr FW M (sI M 11 0 79 0) := Fr.wI rfl (Fr.rf _ _)
  have hL : TWl A [] (sI M 11 0 79 0) := ⟨h112, by simp only [mI_sI, mI_sR, mI_sJ, mR_sI, mL_sI, mL_sR, mR_sR, Nat.reduceEqDiff, and_false, false_and, if_false, and_self, true_and, and_true, if_true]; rfl, fun j hj => absurd hj (by simp)⟩
  rw [show wlist W c (gmt (gc W c) k) i = [wRef] by simp [wlist, ho]] at hQ
  unfold w_Model_listWants w_Model_listWants_j34 w_Model_listWants_j46 w_Model_listWants_j98 w_Model_listWants_j122 w_Model_listWants_j123 w_Model_listWants_j147 w_Model_listWants_j148 w_Model_listWants_j69
  (repeat (first | refine itp (by decide) ?_ | refine itn (by decide) ?_))
  refine ⟨1, ?_⟩
  unfold w_Model_listWants_L150
  (repeat (first | refine itp (by decide) ?_ | refine itn (by decide) ?_))
  exact ct_want (t := wRef) hL (by simp) (fun M2 h2 g2 => hQ M2 h2 (f1.trans g2))
theorem ct_listWants (h : TE G US A S W w c k br nq nl nf nk M) (h112 : mL M 112 0 = 10) (hI : TI1 A S w nl nf nk nq q n i M) (hQ : ∀ M', TWl A (wlist W c (gmt (gc W c) k) i) M' → Fr FW M M' → Q M') : w_Model_listWants 0 (Int32.ofNat i.1) (Int32.ofNat q) Q M := by
  have o62 := hI.2.2.1
  obtain ⟨o, ho⟩ : ∃ o, i.1 = o := ⟨_, rfl⟩
  rw [ho]
  match o, ho with
  | 0, ho => exact t_lw0 h h112 ho hI hQ
  | 1, ho => exact t_lw1 h h112 ho hI hQ
  | 2, ho => exact t_lw2 h h112 ho hI hQ
  | 3, ho => exact t_lw3 h h112 ho hI hQ
  | 4, ho => exact t_lw4 h h112 ho hI hQ
  | 5, ho => exact t_lw5 h h112 ho hI hQ
  | 6, ho => exact t_lw6 h h112 ho hI hQ
  | 7, ho => exact t_lw7 h h112 ho hI hQ
  | 8, ho => exact t_lw8 h h112 ho hI hQ
  | 9, ho => exact t_lw9 h h112 ho hI hQ
  | 10, ho => exact t_lw10 h h112 ho hI hQ
  | 11, ho => exact t_lw11 h h112 ho hI hQ
  | 12, ho => exact t_lw12 h h112 ho hI hQ
  | 13, ho => exact t_lw13 h h112 ho hI hQ
  | 14, ho => exact t_lw14 h h112 ho hI hQ
  | 15, ho => exact t_lw15 h h112 ho hI hQ
  | 16, ho => exact t_lw16 h h112 ho hI hQ
  | 17, ho => exact t_lw17 h h112 ho hI hQ
  | 18, ho => exact t_lw18 h h112 ho hI hQ
  | 19, ho => exact t_lw19 h h112 ho hI hQ
  | 20, ho => exact t_lw20 h h112 ho hI hQ
  | 21, ho => exact t_lw21 h h112 ho hI hQ
  | 22, ho => exact t_lw22 h h112 ho hI hQ
  | 23, ho => exact t_lw23 h h112 ho hI hQ
  | 24, ho => exact t_lw24 h h112 ho hI hQ
  | 25, ho => exact t_lw25 h h112 ho hI hQ
  | 26, ho => exact t_lw26 h h112 ho hI hQ
  | 27, ho => exact t_lw27 h h112 ho hI hQ
  | 28, ho => exact t_lw28 h h112 ho hI hQ
  | 29, ho => exact t_lw29 h h112 ho hI hQ
  | 30, ho => exact t_lw30 h h112 ho hI hQ
  | 31, ho => exact t_lw31 h h112 ho hI hQ
  | 32, ho => exact t_lw32 h h112 ho hI hQ
  | 33, ho => exact t_lw33 h h112 ho hI hQ
  | 34, ho => exact t_lw34 h h112 ho hI hQ
  | 35, ho => exact t_lw35 h h112 ho hI hQ
  | 36, ho => exact t_lw36 h h112 ho hI hQ
  | 37, ho => exact t_lw37 h h112 ho hI hQ
  | 38, ho => exact t_lw38 h h112 ho hI hQ
  | 39, ho => exact t_lw39 h h112 ho hI hQ
  | 40, ho => exact t_lw40 h h112 ho hI hQ
  | 41, ho => exact t_lw41 h h112 ho hI hQ
  | 42, ho => exact t_lw42 h h112 ho hI hQ
  | 43, ho => exact t_lw43 h h112 ho hI hQ
  | 44, ho => exact t_lw44 h h112 ho hI hQ
  | 45, ho => exact t_lw45 h h112 ho hI hQ
  | 46, ho => exact t_lw46 h h112 ho hI hQ
  | 47, ho => exact t_lw47 h h112 ho hI hQ
  | 48, ho => exact t_lw48 h h112 ho hI hQ
  | 49, ho => exact t_lw49 h h112 ho hI hQ
  | 50, ho => exact t_lw50 h h112 ho hI hQ
  | 51, ho => exact t_lw51 h h112 ho hI hQ
  | 52, ho => exact t_lw52 h h112 ho hI hQ
  | 53, ho => exact t_lw53 h h112 ho hI hQ
  | 54, ho => exact t_lw54 h h112 ho hI hQ
  | 55, ho => exact t_lw55 h h112 ho hI hQ
  | 56, ho => exact t_lw56 h h112 ho hI hQ
  | 57, ho => exact t_lw57 h h112 ho hI hQ
  | 58, ho => exact t_lw58 h h112 ho hI hQ
  | 59, ho => exact t_lw59 h h112 ho hI hQ
  | 60, ho => exact t_lw60 h h112 ho hI hQ
  | 61, ho => exact t_lw61 h h112 ho hI hQ
  | o + 62, ho => omega
end
