/-! THE OPERATION world: a world of the works begins (printed by gen/wb.py) -/
/-- what the classes from the beginning are in the rows -/
def bgT (f c : Nat) : Int32 := if f = 36 then Int32.ofNat (81 + c) else if f = 37 then (if c = 0 then -1 else if c = 1 then 81 else if c ≤ 10 then 82 else 91) else if f = 43 ∨ f = 55 then Int32.ofNat c else if f = 44 ∨ f = 45 then 1 else if f = 46 then 2 else if f = 56 then 79 else if f = 59 then -4 else 0
abbrev bgL : List Nat := [36, 37, 39, 40, 41, 42, 43, 44, 45, 46, 47, 48, 55, 56, 57, 58, 59, 60, 61, 62, 63, 64, 65]
abbrev SBg : Nat := (7704975127590817066514400456385050481173182772353357050108766337679908703463407559972513238816222548912936100609047729291817661132485594631335907915804891462020427276394194617345263188940393603590800832757807810020865120976604275392876457254702219207074739254562174744232822367512666879211584705998529755828411893882742039903947345331882309934127056992776791886687106347585891814841171146019676413894173819780710990831759111857642695555972022174207468345622330211620389148644491867039284770936032509182893901270282092124257908965781858381007600065764175620391779744804618446891577095665086640318869964897386496)
/-- k of the classes are there -/
def BgJ (w k : Nat) (M0 M : Mem) : Prop := (∀ f ∈ bgL, ∀ c, c < k → mI M f w c = bgT f c) ∧ (mI M 5 w 2 = Int32.ofNat k ∧ mI M 5 w 26 = Int32.ofNat k) ∧ Fr SBg M0 M ∧ (∀ f i j, i ≠ w → mI M f i j = mI M0 f i j) ∧ (∀ j, j ≠ 2 → j ≠ 26 → mI M 5 w j = mI M0 5 w j) ∧ ∀ f i j, f ∉ 5 :: bgL → mI M f i j = mI M0 f i j
section
variable {w k : Nat} {M M' M0 : Mem} {Q : Mem → Prop}
theorem bg_addC {Q : Int32 → Mem → Prop} {a1 a2 a3 : Int32} (hk : k < 51) (e2 : mI M 5 w 2 = Int32.ofNat k) (e17 : mI M 5 w 17 = 0) (e26 : mI M 5 w 26 = Int32.ofNat k) (hl : ∀ f, 36 ≤ f → f ≤ 48 → f ≠ 38 → mL M f w = 51) (hQ : ∀ M', M' = (sI (sI (sI (sI (sI (sI (sI (sI (sI (sI (sI (sI (sI M 5 w 2 (Int32.ofNat (k + 1))) 36 w k a1) 37 w k a2) 39 w k 0) 40 w k a3) 41 w k 0) 42 w k 0) 43 w k (Int32.ofNat k)) 44 w k 0) 45 w k 0) 46 w k 0) 47 w k 0) 48 w k 0) → Q (Int32.ofNat k) M') : w_World_addClass w a1 a2 a3 Q M := by
  have l1 : ∀ f, 36 ≤ f → f ≤ 48 → f ≠ 38 → vp_in (Int32.ofNat k) (mL M f w) := fun f a b c => by rw [hl f a b c]; exact (vp_oN (by omega)).mpr (by omega)
  have e3 : Int32.ofNat k + 1 = Int32.ofNat (k + 1) := by rw [lit32 1, oN_add]
  unfold w_World_addClass
  rw [e2, e3, oN_tnc (k := k) (by omega)]
  refine ⟨l1 36 (by omega) (by omega) (by omega), _, rfl, l1 37 (by omega) (by omega) (by omega), l1 39 (by omega) (by omega) (by omega), _, rfl, l1 40 (by omega) (by omega) (by omega), l1 41 (by omega) (by omega) (by omega), _, rfl, l1 42 (by omega) (by omega) (by omega), l1 43 (by omega) (by omega) (by omega), _, rfl, l1 44 (by omega) (by omega) (by omega), l1 45 (by omega) (by omega) (by omega), _, rfl, l1 46 (by omega) (by omega) (by omega), l1 47 (by omega) (by omega) (by omega), _, rfl, l1 48 (by omega) (by omega) (by omega), ?_⟩
  refine hQ _ ?_
  simp only [mI_sI, Nat.reduceEqDiff, and_false, false_and, if_false, e17, e26]
theorem bg_addM {Q : Int32 → Mem → Prop} {a1 a2 : Int32} (hk : k < 51) (e2 : mI M 5 w 2 = Int32.ofNat (k + 1)) (e39 : mI M 5 w 39 = 0) (e51 : mI M 5 w 51 = 0) (e26 : mI M 5 w 26 = Int32.ofNat k) (hl : ∀ f, 55 ≤ f → f ≤ 65 → mL M f w = 381) (hQ : ∀ M', M' = (sI (sI (sI (sI (sI (sI (sI (sI (sI (sI (sI M 5 w 26 (Int32.ofNat (k + 1))) 55 w k (Int32.ofNat k)) 56 w k a1) 57 w k a2) 58 w k 0) 60 w k 0) 61 w k 0) 62 w k 0) 63 w k 0) 64 w k 0) 65 w k 0) → Q (Int32.ofNat k) M') : w_World_addMethod w a1 a2 Q M := by
  have l2 : ∀ f, 55 ≤ f → f ≤ 65 → vp_in (Int32.ofNat k) (mL M f w) := fun f a b => by rw [hl f a b]; exact (vp_oN (by omega)).mpr (by omega)
  have e3 : Int32.ofNat k + 1 = Int32.ofNat (k + 1) := by rw [lit32 1, oN_add]
  have e4 : Int32.ofNat (k + 1) - 1 = Int32.ofNat k := sub_n (n := 1) (by omega)
  unfold w_World_addMethod
  rw [e26, e3, oN_tnc (k := k) (by omega)]
  refine ⟨l2 55 (by omega) (by omega), _, rfl, l2 56 (by omega) (by omega), l2 57 (by omega) (by omega), _, rfl, l2 58 (by omega) (by omega), l2 60 (by omega) (by omega), _, rfl, l2 61 (by omega) (by omega), l2 62 (by omega) (by omega), _, rfl, l2 63 (by omega) (by omega), l2 64 (by omega) (by omega), _, rfl, l2 65 (by omega) (by omega), ?_⟩
  refine hQ _ ?_
  simp only [mI_sI, Nat.reduceEqDiff, and_false, false_and, if_false, e2, e39, e51, e4]

theorem bg_step {n : Nat} {v2 s0 : Int32} (hk : k < 21) (hv : v2 = Int32.ofNat k) (hs : s0 = bgT 37 k) (h : BgJ w k M0 M) (h17 : mI M0 5 w 17 = 0) (h39 : mI M0 5 w 39 = 0) (h51 : mI M0 5 w 51 = 0) (hl1 : ∀ f, 36 ≤ f → f ≤ 48 → f ≠ 38 → mL M0 f w = 51) (hl2 : ∀ f, 55 ≤ f → f ≤ 65 → mL M0 f w = 381)
    (hQ : ∀ M', BgJ w (k + 1) M0 M' → w_World_begin_L65 w Q n (Int32.ofNat (k + 1)) M') : w_World_begin_j102 w Q (w_World_begin_L65 w Q n) v2 s0 M := by
  obtain ⟨hr, ⟨e2, e26⟩, hf, hi, h5, h6⟩ := h
  have ll1 : ∀ f, 36 ≤ f → f ≤ 48 → f ≠ 38 → mL M f w = 51 := fun f a b c => by
    have : SBg.testBit (5000 + f) = false := by
      have : f = 36 ∨ f = 37 ∨ f = 39 ∨ f = 40 ∨ f = 41 ∨ f = 42 ∨ f = 43 ∨ f = 44 ∨ f = 45 ∨ f = 46 ∨ f = 47 ∨ f = 48 := by omega
      rcases this with z | z | z | z | z | z | z | z | z | z | z | z <;> subst z <;> rfl
    rw [hf.L this w, hl1 f a b c]
  have ll2 : ∀ f, 55 ≤ f → f ≤ 65 → mL M f w = 381 := fun f a b => by
    have : SBg.testBit (5000 + f) = false := by
      have : f = 55 ∨ f = 56 ∨ f = 57 ∨ f = 58 ∨ f = 59 ∨ f = 60 ∨ f = 61 ∨ f = 62 ∨ f = 63 ∨ f = 64 ∨ f = 65 := by omega
      rcases this with z | z | z | z | z | z | z | z | z | z | z <;> subst z <;> rfl
    rw [hf.L this w, hl2 f a b]
  have c17 : mI M 5 w 17 = 0 := (h5 17 (by decide) (by decide)).trans h17
  have c39 : mI M 5 w 39 = 0 := (h5 39 (by decide) (by decide)).trans h39
  have c51 : mI M 5 w 51 = 0 := (h5 51 (by decide) (by decide)).trans h51
  have e3 : Int32.ofNat k + 1 = Int32.ofNat (k + 1) := by rw [lit32 1, oN_add]
  have e5 : (81 : Int32) + Int32.ofNat k = Int32.ofNat (81 + k) := by rw [lit32 81, oN_add]
  unfold w_World_begin_j102
  rw [hv, hs, e5]
  refine bg_addC (by omega) e2 c17 e26 ll1 (fun M8 h8 => ?_)
  have k2 : mI M8 5 w 2 = Int32.ofNat (k + 1) := by rw [h8]; simp only [mI_sI, Nat.reduceEqDiff, and_false, false_and, if_false, and_self, true_and, and_true, if_true]
  have k26 : mI M8 5 w 26 = Int32.ofNat k := by rw [h8]; simp only [mI_sI, Nat.reduceEqDiff, and_false, false_and, if_false]; exact e26
  have k39 : mI M8 5 w 39 = 0 := by rw [h8]; simp only [mI_sI, Nat.reduceEqDiff, and_false, false_and, if_false]; exact c39
  have k51 : mI M8 5 w 51 = 0 := by rw [h8]; simp only [mI_sI, Nat.reduceEqDiff, and_false, false_and, if_false]; exact c51
  have L8 : ∀ f i, mL M8 f i = mL M f i := fun f i => by rw [h8]; rfl
  refine bg_addM (by omega) k2 k39 k51 k26 (fun f a b => (L8 f w).trans (ll2 f a b)) (fun M10 h10 => ?_)
  have L10 : ∀ f i, mL M10 f i = mL M f i := fun f i => by rw [h10]; exact L8 f i
  have v1 : ∀ f, 36 ≤ f → f ≤ 48 → f ≠ 38 → vp_in (Int32.ofNat k) (mL M10 f w) := fun f a b c => by rw [L10, ll1 f a b c]; exact (vp_oN (by omega)).mpr (by omega)
  refine ⟨by rw [L10, ll2 59 (by omega) (by omega)]; exact (vp_oN (by omega)).mpr (by omega), v1 44 (by omega) (by omega) (by omega), _, rfl, v1 45 (by omega) (by omega) (by omega), v1 46 (by omega) (by omega) (by omega), _, rfl, ?_⟩
  rw [h10, h8, e3, oN_tnc (k := k) (by omega)]
  refine hQ _ ⟨fun f hm c hc => ?_, ⟨?_, ?_⟩, ?_, fun f i j hne => ?_, fun j j2 j26 => ?_, fun f i j hno => ?_⟩
  · have hc' : c = k ∨ (c ≠ k ∧ c < k) := by omega
    have hold := hr f hm
    simp only [List.mem_cons, List.not_mem_nil, or_false] at hm
    rcases hm with z | z | z | z | z | z | z | z | z | z | z | z | z | z | z | z | z | z | z | z | z | z | z <;> subst z
    · rcases hc' with z | ⟨z, z2⟩
      · subst z; simp only [mI_sI, Nat.reduceEqDiff, and_false, false_and, if_false, and_self, true_and, and_true, if_true] <;> rfl
      · simp only [mI_sI, Nat.reduceEqDiff, and_false, false_and, if_false, and_self, true_and, and_true, if_true, z]; exact hold c z2
    · rcases hc' with z | ⟨z, z2⟩
      · subst z; simp only [mI_sI, Nat.reduceEqDiff, and_false, false_and, if_false, and_self, true_and, and_true, if_true] <;> rfl
      · simp only [mI_sI, Nat.reduceEqDiff, and_false, false_and, if_false, and_self, true_and, and_true, if_true, z]; exact hold c z2
    · rcases hc' with z | ⟨z, z2⟩
      · subst z; simp only [mI_sI, Nat.reduceEqDiff, and_false, false_and, if_false, and_self, true_and, and_true, if_true] <;> rfl
      · simp only [mI_sI, Nat.reduceEqDiff, and_false, false_and, if_false, and_self, true_and, and_true, if_true, z]; exact hold c z2
    · rcases hc' with z | ⟨z, z2⟩
      · subst z; simp only [mI_sI, Nat.reduceEqDiff, and_false, false_and, if_false, and_self, true_and, and_true, if_true] <;> rfl
      · simp only [mI_sI, Nat.reduceEqDiff, and_false, false_and, if_false, and_self, true_and, and_true, if_true, z]; exact hold c z2
    · rcases hc' with z | ⟨z, z2⟩
      · subst z; simp only [mI_sI, Nat.reduceEqDiff, and_false, false_and, if_false, and_self, true_and, and_true, if_true] <;> rfl
      · simp only [mI_sI, Nat.reduceEqDiff, and_false, false_and, if_false, and_self, true_and, and_true, if_true, z]; exact hold c z2
    · rcases hc' with z | ⟨z, z2⟩
      · subst z; simp only [mI_sI, Nat.reduceEqDiff, and_false, false_and, if_false, and_self, true_and, and_true, if_true] <;> rfl
      · simp only [mI_sI, Nat.reduceEqDiff, and_false, false_and, if_false, and_self, true_and, and_true, if_true, z]; exact hold c z2
    · rcases hc' with z | ⟨z, z2⟩
      · subst z; simp only [mI_sI, Nat.reduceEqDiff, and_false, false_and, if_false, and_self, true_and, and_true, if_true] <;> rfl
      · simp only [mI_sI, Nat.reduceEqDiff, and_false, false_and, if_false, and_self, true_and, and_true, if_true, z]; exact hold c z2
    · rcases hc' with z | ⟨z, z2⟩
      · subst z; simp only [mI_sI, Nat.reduceEqDiff, and_false, false_and, if_false, and_self, true_and, and_true, if_true] <;> rfl
      · simp only [mI_sI, Nat.reduceEqDiff, and_false, false_and, if_false, and_self, true_and, and_true, if_true, z]; exact hold c z2
    · rcases hc' with z | ⟨z, z2⟩
      · subst z; simp only [mI_sI, Nat.reduceEqDiff, and_false, false_and, if_false, and_self, true_and, and_true, if_true] <;> rfl
      · simp only [mI_sI, Nat.reduceEqDiff, and_false, false_and, if_false, and_self, true_and, and_true, if_true, z]; exact hold c z2
    · rcases hc' with z | ⟨z, z2⟩
      · subst z; simp only [mI_sI, Nat.reduceEqDiff, and_false, false_and, if_false, and_self, true_and, and_true, if_true] <;> rfl
      · simp only [mI_sI, Nat.reduceEqDiff, and_false, false_and, if_false, and_self, true_and, and_true, if_true, z]; exact hold c z2
    · rcases hc' with z | ⟨z, z2⟩
      · subst z; simp only [mI_sI, Nat.reduceEqDiff, and_false, false_and, if_false, and_self, true_and, and_true, if_true] <;> rfl
      · simp only [mI_sI, Nat.reduceEqDiff, and_false, false_and, if_false, and_self, true_and, and_true, if_true, z]; exact hold c z2
    · rcases hc' with z | ⟨z, z2⟩
      · subst z; simp only [mI_sI, Nat.reduceEqDiff, and_false, false_and, if_false, and_self, true_and, and_true, if_true] <;> rfl
      · simp only [mI_sI, Nat.reduceEqDiff, and_false, false_and, if_false, and_self, true_and, and_true, if_true, z]; exact hold c z2
    · rcases hc' with z | ⟨z, z2⟩
      · subst z; simp only [mI_sI, Nat.reduceEqDiff, and_false, false_and, if_false, and_self, true_and, and_true, if_true] <;> rfl
      · simp only [mI_sI, Nat.reduceEqDiff, and_false, false_and, if_false, and_self, true_and, and_true, if_true, z]; exact hold c z2
    · rcases hc' with z | ⟨z, z2⟩
      · subst z; simp only [mI_sI, Nat.reduceEqDiff, and_false, false_and, if_false, and_self, true_and, and_true, if_true] <;> rfl
      · simp only [mI_sI, Nat.reduceEqDiff, and_false, false_and, if_false, and_self, true_and, and_true, if_true, z]; exact hold c z2
    · rcases hc' with z | ⟨z, z2⟩
      · subst z; simp only [mI_sI, Nat.reduceEqDiff, and_false, false_and, if_false, and_self, true_and, and_true, if_true] <;> rfl
      · simp only [mI_sI, Nat.reduceEqDiff, and_false, false_and, if_false, and_self, true_and, and_true, if_true, z]; exact hold c z2
    · rcases hc' with z | ⟨z, z2⟩
      · subst z; simp only [mI_sI, Nat.reduceEqDiff, and_false, false_and, if_false, and_self, true_and, and_true, if_true] <;> rfl
      · simp only [mI_sI, Nat.reduceEqDiff, and_false, false_and, if_false, and_self, true_and, and_true, if_true, z]; exact hold c z2
    · rcases hc' with z | ⟨z, z2⟩
      · subst z; simp only [mI_sI, Nat.reduceEqDiff, and_false, false_and, if_false, and_self, true_and, and_true, if_true] <;> rfl
      · simp only [mI_sI, Nat.reduceEqDiff, and_false, false_and, if_false, and_self, true_and, and_true, if_true, z]; exact hold c z2
    · rcases hc' with z | ⟨z, z2⟩
      · subst z; simp only [mI_sI, Nat.reduceEqDiff, and_false, false_and, if_false, and_self, true_and, and_true, if_true] <;> rfl
      · simp only [mI_sI, Nat.reduceEqDiff, and_false, false_and, if_false, and_self, true_and, and_true, if_true, z]; exact hold c z2
    · rcases hc' with z | ⟨z, z2⟩
      · subst z; simp only [mI_sI, Nat.reduceEqDiff, and_false, false_and, if_false, and_self, true_and, and_true, if_true] <;> rfl
      · simp only [mI_sI, Nat.reduceEqDiff, and_false, false_and, if_false, and_self, true_and, and_true, if_true, z]; exact hold c z2
    · rcases hc' with z | ⟨z, z2⟩
      · subst z; simp only [mI_sI, Nat.reduceEqDiff, and_false, false_and, if_false, and_self, true_and, and_true, if_true] <;> rfl
      · simp only [mI_sI, Nat.reduceEqDiff, and_false, false_and, if_false, and_self, true_and, and_true, if_true, z]; exact hold c z2
    · rcases hc' with z | ⟨z, z2⟩
      · subst z; simp only [mI_sI, Nat.reduceEqDiff, and_false, false_and, if_false, and_self, true_and, and_true, if_true] <;> rfl
      · simp only [mI_sI, Nat.reduceEqDiff, and_false, false_and, if_false, and_self, true_and, and_true, if_true, z]; exact hold c z2
    · rcases hc' with z | ⟨z, z2⟩
      · subst z; simp only [mI_sI, Nat.reduceEqDiff, and_false, false_and, if_false, and_self, true_and, and_true, if_true] <;> rfl
      · simp only [mI_sI, Nat.reduceEqDiff, and_false, false_and, if_false, and_self, true_and, and_true, if_true, z]; exact hold c z2
    · rcases hc' with z | ⟨z, z2⟩
      · subst z; simp only [mI_sI, Nat.reduceEqDiff, and_false, false_and, if_false, and_self, true_and, and_true, if_true] <;> rfl
      · simp only [mI_sI, Nat.reduceEqDiff, and_false, false_and, if_false, and_self, true_and, and_true, if_true, z]; exact hold c z2
  · simp only [mI_sI, Nat.reduceEqDiff, and_false, false_and, if_false, and_self, true_and, and_true, if_true]
  · simp only [mI_sI, Nat.reduceEqDiff, and_false, false_and, if_false, and_self, true_and, and_true, if_true]
  · exact Fr.wIa rfl rfl (Fr.wIa rfl rfl (Fr.wIa rfl rfl (Fr.wIa rfl rfl (Fr.wIa rfl rfl (Fr.wIa rfl rfl (Fr.wIa rfl rfl (Fr.wIa rfl rfl (Fr.wIa rfl rfl (Fr.wIa rfl rfl (Fr.wIa rfl rfl (Fr.wIa rfl rfl (Fr.wIa rfl rfl (Fr.wIa rfl rfl (Fr.wI rfl (Fr.wIa rfl rfl (Fr.wIa rfl rfl (Fr.wIa rfl rfl (Fr.wIa rfl rfl (Fr.wIa rfl rfl (Fr.wIa rfl rfl (Fr.wIa rfl rfl (Fr.wIa rfl rfl (Fr.wIa rfl rfl (Fr.wIa rfl rfl (Fr.wIa rfl rfl (Fr.wIa rfl rfl (Fr.wI rfl (hf))))))))))))))))))))))))))))
  · simp only [mI_sI, hne, false_and, and_false, if_false]; exact hi f i j hne
  · simp only [mI_sI, j2, j26, Nat.reduceEqDiff, false_and, and_false, if_false]; exact h5 j j2 j26
  · have hn : ∀ g ∈ 5 :: bgL, f ≠ g := fun g hg e => hno (e ▸ hg)
    simp only [mI_sI, hn 5 (by decide), hn 36 (by decide), hn 37 (by decide), hn 39 (by decide), hn 40 (by decide), hn 41 (by decide), hn 42 (by decide), hn 43 (by decide), hn 44 (by decide), hn 45 (by decide), hn 46 (by decide), hn 47 (by decide), hn 48 (by decide), hn 55 (by decide), hn 56 (by decide), hn 57 (by decide), hn 58 (by decide), hn 59 (by decide), hn 60 (by decide), hn 61 (by decide), hn 62 (by decide), hn 63 (by decide), hn 64 (by decide), hn 65 (by decide), false_and, if_false]; exact h6 f i j hno
end
