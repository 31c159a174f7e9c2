/-! THE OPERATION world: a world of the twin begins (printed by gen/wbt.py) -/
def btT (th mk ps : Int32) (f c : Nat) : Int32 := if f = 130 then th + Int32.ofNat c else if f = 131 then (if c = 0 then -2 else if c = 1 then th else if 10 < c then th + 10 else th + 1) else if f = 136 ∨ f = 138 then 1 else if f = 137 then 2 else if f = 144 then mk else if f = 145 then ps else 0
def btX (f c : Nat) : Nat := if f < 144 then c else 12 * c
abbrev btL : List Nat := [130, 131, 132, 134, 135, 136, 137, 138, 144, 145, 146, 147, 148, 149, 150, 151]
abbrev SBt : Nat := (5687374673747553829280096469235484901666455552)
def BtJ (th mk ps : Int32) (w k : Nat) (M0 M : Mem) : Prop := (∀ f ∈ btL, ∀ c, c < k → mI M f w (btX f c) = btT th mk ps f c) ∧ Fr SBt M0 M ∧ (∀ f i j, i ≠ w → mI M f i j = mI M0 f i j) ∧ ∀ f i j, f ∉ btL → mI M f i j = mI M0 f i j
section
variable {w k : Nat} {M M' M0 : Mem} {Q : Mem → Prop} {th mk ps : Int32}
theorem bt_step {n : Nat} {v3 s0 s1 : Int32} {s2 : Nat} (hk : k < 21) (hv : v3 = Int32.ofNat k) (h1 : s1 = v3) (h2 : s2 = w) (hs : s0 = btT th mk ps 131 k) (h : BtJ th mk ps w k M0 M) (hth : mI M0 11 0 8 = th) (hmk : mI M0 11 0 6 = mk) (hps : mI M0 11 0 38 = ps) (hl1 : ∀ f ∈ btL, mL M0 f w = if f < 144 then 51 else 612)
    (hQ : ∀ M', BtJ th mk ps w (k + 1) M0 M' → w_Model_beginWorld_L18 0 Q n w (Int32.ofNat (k + 1)) M') : w_Model_beginWorld_j84 0 Q (w_Model_beginWorld_L18 0 Q n) w v3 s0 s1 s2 (sI M 130 w v3.toNatClampNeg (mI M 11 0 8 + v3)) := by
  obtain ⟨hr, hf, hi, h6⟩ := h
  subst h1
  subst h2
  have e12 : (12 : Int32) * s1 = Int32.ofNat (12 * k) := by rw [hv, lit32 12, oN_mul]
  have c8 : mI M 11 0 8 = th := (h6 11 0 8 (by decide)).trans hth
  have c6 : mI M 11 0 6 = mk := (h6 11 0 6 (by decide)).trans hmk
  have c38 : mI M 11 0 38 = ps := (h6 11 0 38 (by decide)).trans hps
  have bl : ∀ f ∈ btL, SBt.testBit (5000 + f) = false := by decide
  have l1 : ∀ f ∈ btL, f < 144 → vp_in s1 (mL M f s2) := fun f a b => by
    rw [hv, hf.L (bl f a) s2, hl1 f a, if_pos b]; exact (vp_oN (by omega)).mpr (by omega)
  have l2 : ∀ f ∈ btL, ¬ f < 144 → vp_in ((12 : Int32) * s1) (mL M f s2) := fun f a b => by
    rw [e12, hf.L (bl f a) s2, hl1 f a, if_neg b]; exact (vp_oN (by omega)).mpr (by omega)
  unfold w_Model_beginWorld_j84
  refine ⟨l1 131 (by decide) (by decide), l1 132 (by decide) (by decide), _, rfl, l1 134 (by decide) (by decide), l1 135 (by decide) (by decide), _, rfl, l1 136 (by decide) (by decide), l1 137 (by decide) (by decide), _, rfl, l1 138 (by decide) (by decide), l2 144 (by decide) (by decide), _, rfl, l2 145 (by decide) (by decide), l2 146 (by decide) (by decide), _, rfl, l2 147 (by decide) (by decide), l2 148 (by decide) (by decide), _, rfl, l2 149 (by decide) (by decide), l2 150 (by decide) (by decide), _, rfl, l2 151 (by decide) (by decide), ?_⟩
  show w_Model_beginWorld_L18 0 Q n s2 (s1 + 1) (sI (sI (sI (sI (sI (sI (sI (sI (sI (sI (sI (sI (sI (sI (sI (sI M 130 s2 s1.toNatClampNeg (mI M 11 0 8 + s1)) 131 s2 s1.toNatClampNeg s0) 132 s2 s1.toNatClampNeg 0) 134 s2 s1.toNatClampNeg 0) 135 s2 s1.toNatClampNeg 0) 136 s2 s1.toNatClampNeg 1) 137 s2 s1.toNatClampNeg 2) 138 s2 s1.toNatClampNeg 1) 144 s2 ((12 : Int32) * s1).toNatClampNeg (mI M 11 0 6)) 145 s2 ((12 : Int32) * s1).toNatClampNeg (mI M 11 0 38)) 146 s2 ((12 : Int32) * s1).toNatClampNeg 0) 147 s2 ((12 : Int32) * s1).toNatClampNeg 0) 148 s2 ((12 : Int32) * s1).toNatClampNeg 0) 149 s2 ((12 : Int32) * s1).toNatClampNeg 0) 150 s2 ((12 : Int32) * s1).toNatClampNeg 0) 151 s2 ((12 : Int32) * s1).toNatClampNeg 0)
  have e3 : Int32.ofNat k + 1 = Int32.ofNat (k + 1) := by rw [lit32 1, oN_add]
  rw [e12, c8, c6, c38, hs, hv, e3, oN_tnc (k := k) (by omega), oN_tnc (k := 12 * k) (by omega)]
  refine hQ _ ⟨fun f hm c hc => ?_, ?_, fun f i j hne => ?_, fun f i j hno => ?_⟩
  · have hc' : c = k ∨ (c ≠ k ∧ c < k) := by omega
    have hold := hr f hm
    simp only [List.mem_cons, List.not_mem_nil, or_false] at hm
    rcases hm with z | z | z | z | z | z | z | z | z | z | z | z | z | z | z | z <;> subst z
    · have ex : btX 130 c = c := rfl
      have hold := hold c
      rw [ex] at hold ⊢
      rcases hc' with z | ⟨z, z2⟩
      · subst z; simp only [mI_sI, Nat.reduceEqDiff, and_false, false_and, if_false, and_self, true_and, and_true, if_true] <;> rfl
      · simp only [mI_sI, Nat.reduceEqDiff, and_false, false_and, if_false, and_self, true_and, and_true, if_true, z]; exact hold z2
    · have ex : btX 131 c = c := rfl
      have hold := hold c
      rw [ex] at hold ⊢
      rcases hc' with z | ⟨z, z2⟩
      · subst z; simp only [mI_sI, Nat.reduceEqDiff, and_false, false_and, if_false, and_self, true_and, and_true, if_true] <;> rfl
      · simp only [mI_sI, Nat.reduceEqDiff, and_false, false_and, if_false, and_self, true_and, and_true, if_true, z]; exact hold z2
    · have ex : btX 132 c = c := rfl
      have hold := hold c
      rw [ex] at hold ⊢
      rcases hc' with z | ⟨z, z2⟩
      · subst z; simp only [mI_sI, Nat.reduceEqDiff, and_false, false_and, if_false, and_self, true_and, and_true, if_true] <;> rfl
      · simp only [mI_sI, Nat.reduceEqDiff, and_false, false_and, if_false, and_self, true_and, and_true, if_true, z]; exact hold z2
    · have ex : btX 134 c = c := rfl
      have hold := hold c
      rw [ex] at hold ⊢
      rcases hc' with z | ⟨z, z2⟩
      · subst z; simp only [mI_sI, Nat.reduceEqDiff, and_false, false_and, if_false, and_self, true_and, and_true, if_true] <;> rfl
      · simp only [mI_sI, Nat.reduceEqDiff, and_false, false_and, if_false, and_self, true_and, and_true, if_true, z]; exact hold z2
    · have ex : btX 135 c = c := rfl
      have hold := hold c
      rw [ex] at hold ⊢
      rcases hc' with z | ⟨z, z2⟩
      · subst z; simp only [mI_sI, Nat.reduceEqDiff, and_false, false_and, if_false, and_self, true_and, and_true, if_true] <;> rfl
      · simp only [mI_sI, Nat.reduceEqDiff, and_false, false_and, if_false, and_self, true_and, and_true, if_true, z]; exact hold z2
    · have ex : btX 136 c = c := rfl
      have hold := hold c
      rw [ex] at hold ⊢
      rcases hc' with z | ⟨z, z2⟩
      · subst z; simp only [mI_sI, Nat.reduceEqDiff, and_false, false_and, if_false, and_self, true_and, and_true, if_true] <;> rfl
      · simp only [mI_sI, Nat.reduceEqDiff, and_false, false_and, if_false, and_self, true_and, and_true, if_true, z]; exact hold z2
    · have ex : btX 137 c = c := rfl
      have hold := hold c
      rw [ex] at hold ⊢
      rcases hc' with z | ⟨z, z2⟩
      · subst z; simp only [mI_sI, Nat.reduceEqDiff, and_false, false_and, if_false, and_self, true_and, and_true, if_true] <;> rfl
      · simp only [mI_sI, Nat.reduceEqDiff, and_false, false_and, if_false, and_self, true_and, and_true, if_true, z]; exact hold z2
    · have ex : btX 138 c = c := rfl
      have hold := hold c
      rw [ex] at hold ⊢
      rcases hc' with z | ⟨z, z2⟩
      · subst z; simp only [mI_sI, Nat.reduceEqDiff, and_false, false_and, if_false, and_self, true_and, and_true, if_true] <;> rfl
      · simp only [mI_sI, Nat.reduceEqDiff, and_false, false_and, if_false, and_self, true_and, and_true, if_true, z]; exact hold z2
    · have ex : btX 144 c = (12 * c) := rfl
      have hold := hold c
      rw [ex] at hold ⊢
      rcases hc' with z | ⟨z, z2⟩
      · subst z; simp only [mI_sI, Nat.reduceEqDiff, and_false, false_and, if_false, and_self, true_and, and_true, if_true] <;> rfl
      · have z3 : 12 * c ≠ 12 * k := by omega
        simp only [mI_sI, Nat.reduceEqDiff, and_false, false_and, if_false, and_self, true_and, and_true, if_true, z3]; exact hold z2
    · have ex : btX 145 c = (12 * c) := rfl
      have hold := hold c
      rw [ex] at hold ⊢
      rcases hc' with z | ⟨z, z2⟩
      · subst z; simp only [mI_sI, Nat.reduceEqDiff, and_false, false_and, if_false, and_self, true_and, and_true, if_true] <;> rfl
      · have z3 : 12 * c ≠ 12 * k := by omega
        simp only [mI_sI, Nat.reduceEqDiff, and_false, false_and, if_false, and_self, true_and, and_true, if_true, z3]; exact hold z2
    · have ex : btX 146 c = (12 * c) := rfl
      have hold := hold c
      rw [ex] at hold ⊢
      rcases hc' with z | ⟨z, z2⟩
      · subst z; simp only [mI_sI, Nat.reduceEqDiff, and_false, false_and, if_false, and_self, true_and, and_true, if_true] <;> rfl
      · have z3 : 12 * c ≠ 12 * k := by omega
        simp only [mI_sI, Nat.reduceEqDiff, and_false, false_and, if_false, and_self, true_and, and_true, if_true, z3]; exact hold z2
    · have ex : btX 147 c = (12 * c) := rfl
      have hold := hold c
      rw [ex] at hold ⊢
      rcases hc' with z | ⟨z, z2⟩
      · subst z; simp only [mI_sI, Nat.reduceEqDiff, and_false, false_and, if_false, and_self, true_and, and_true, if_true] <;> rfl
      · have z3 : 12 * c ≠ 12 * k := by omega
        simp only [mI_sI, Nat.reduceEqDiff, and_false, false_and, if_false, and_self, true_and, and_true, if_true, z3]; exact hold z2
    · have ex : btX 148 c = (12 * c) := rfl
      have hold := hold c
      rw [ex] at hold ⊢
      rcases hc' with z | ⟨z, z2⟩
      · subst z; simp only [mI_sI, Nat.reduceEqDiff, and_false, false_and, if_false, and_self, true_and, and_true, if_true] <;> rfl
      · have z3 : 12 * c ≠ 12 * k := by omega
        simp only [mI_sI, Nat.reduceEqDiff, and_false, false_and, if_false, and_self, true_and, and_true, if_true, z3]; exact hold z2
    · have ex : btX 149 c = (12 * c) := rfl
      have hold := hold c
      rw [ex] at hold ⊢
      rcases hc' with z | ⟨z, z2⟩
      · subst z; simp only [mI_sI, Nat.reduceEqDiff, and_false, false_and, if_false, and_self, true_and, and_true, if_true] <;> rfl
      · have z3 : 12 * c ≠ 12 * k := by omega
        simp only [mI_sI, Nat.reduceEqDiff, and_false, false_and, if_false, and_self, true_and, and_true, if_true, z3]; exact hold z2
    · have ex : btX 150 c = (12 * c) := rfl
      have hold := hold c
      rw [ex] at hold ⊢
      rcases hc' with z | ⟨z, z2⟩
      · subst z; simp only [mI_sI, Nat.reduceEqDiff, and_false, false_and, if_false, and_self, true_and, and_true, if_true] <;> rfl
      · have z3 : 12 * c ≠ 12 * k := by omega
        simp only [mI_sI, Nat.reduceEqDiff, and_false, false_and, if_false, and_self, true_and, and_true, if_true, z3]; exact hold z2
    · have ex : btX 151 c = (12 * c) := rfl
      have hold := hold c
      rw [ex] at hold ⊢
      rcases hc' with z | ⟨z, z2⟩
      · subst z; simp only [mI_sI, Nat.reduceEqDiff, and_false, false_and, if_false, and_self, true_and, and_true, if_true] <;> rfl
      · have z3 : 12 * c ≠ 12 * k := by omega
        simp only [mI_sI, Nat.reduceEqDiff, and_false, false_and, if_false, and_self, true_and, and_true, if_true, z3]; exact hold z2
  · exact Fr.wIa rfl rfl (Fr.wIa rfl rfl (Fr.wIa rfl rfl (Fr.wIa rfl rfl (Fr.wIa rfl rfl (Fr.wIa rfl rfl (Fr.wIa rfl rfl (Fr.wIa rfl rfl (Fr.wIa rfl rfl (Fr.wIa rfl rfl (Fr.wIa rfl rfl (Fr.wIa rfl rfl (Fr.wIa rfl rfl (Fr.wIa rfl rfl (Fr.wIa rfl rfl (Fr.wIa rfl rfl (hf))))))))))))))))
  · simp only [mI_sI, hne, false_and, and_false, if_false]; exact hi f i j hne
  · have hn : ∀ g ∈ btL, f ≠ g := fun g hg e => hno (e ▸ hg)
    simp only [mI_sI, hn 130 (by decide), hn 131 (by decide), hn 132 (by decide), hn 134 (by decide), hn 135 (by decide), hn 136 (by decide), hn 137 (by decide), hn 138 (by decide), hn 144 (by decide), hn 145 (by decide), hn 146 (by decide), hn 147 (by decide), hn 148 (by decide), hn 149 (by decide), hn 150 (by decide), hn 151 (by decide), false_and, if_false]; exact h6 f i j hno
/-- the rest of it: threads -/
theorem bt_thr (h7 : mL M 704 w = 3) (r7 : ∀ t, t < 3 → mR M 704 w t = some (13, 3 * w + t)) (l169 : mL M 169 w = 62) (l524 : mL M 524 w = 801)
    (hQ : ∀ M', ((mI M' 12 w 63 = 0 ∧ mI M' 12 w 65 = 50 ∧ mI M' 12 w 64 = 50) ∧ mI M' 12 w 70 = 0 ∧ mI M' 12 w 50 = 0 ∧ mI M' 12 w 52 = 0 ∧ mI M' 12 w 56 = 0 ∧ mI M' 12 w 60 = 0) → (∀ t, t < 3 → mI M' 13 (3 * w + t) 0 = -2 ∧ mI M' 13 (3 * w + t) 1 = 0) → (∀ o, o < 62 → mI M' 169 w o = 0) → (∀ r, r < 801 → mI M' 524 w r = 0) → Fr (15314599543025836772132527954704845760308972368247822057734258321809731792456450844737341824489591578670147026635122783862245891614797780474102022395624314581262444432772780330568528725111644463265413618437528220779197279692672145862139996937935390984164566172959014265565817283051520783029520749275868371002898509962711895338651388652006357788573259472586384020593658695482938385686787372274517018596451966277667351151833259393750702744729761921288560310940934000551508398479010941823843734642669257403440065444431520817882032219683166267679392351284731930355659132509380778162387782970506359634828468534089043661410837387361037402094170942315632629684260324724856908759761896628999604940332551639224212610626700911689415291906145968646991059150128605516598578086365116161782408971739924168972692859292544218133259506037884814218826014127988627970583319090386187737419536224621610050872173383920945435407903890664179552063803146056012344557956049183320412008260347062443535343489693982999739139902313359604495948191146965428183051285913226427113822373639496387136843598084735309447168) M M' → (∀ f i j, f ≠ 13 → i ≠ w → mI M' f i j = mI M f i j) → (∀ i j, (∀ t, t < 3 → i ≠ 3 * w + t) → mI M' 13 i j = mI M 13 i j) → (∀ i j, j ≠ 0 → j ≠ 1 → mI M' 13 i j = mI M 13 i j) → Q M') : ∃ n23 : Nat, w_Model_beginWorld_L255 0 Q n23 w (0 : Int32) M := by
  have p3 : ∀ d r M1, 801 - r < d → r ≤ 801 → (∀ M', (∀ q, q < 801 → mI M' 524 w q = 0) → (mI M' 12 w 52 = 0 ∧ mI M' 12 w 56 = 0 ∧ mI M' 12 w 60 = 0) → Fr (3905779117493280363161201615533567642565780503339818939727083154200819266519728942680488436072396946118148471847939204668272164298776201761387427190142044397353236608946557937647999668854471579076913088408423919412022534981392732713776696480764052952178948184708255620572678949896959405801448209630026949329447882637856490094814310295273078437701332449685465266340684550653886488020454153118658511064644882039929890857699480662056153960993497739985562306291146669614858516078456215678277709599493333131085405944590682729613901739860651072688068013046124921307178824965436116846508447607482245493347592788350788726931807594071010367698934986283447598165356322849508937593385211037255943327231791965978075313358947324485837888802336547605737232747328757886709921719279358693104443193194629634088568371244202992334728921520018795796625100644173607090145537584416640606487866961632476680078620489934351575218473183644644783052313128444850861914352574991401174210987020873203857165577353165749443294923527758564024207405723470672638675584364314624) M1 M' → (∀ f i j, f ≠ 524 → f ≠ 12 → mI M' f i j = mI M1 f i j) → (∀ f i j, i ≠ w → mI M' f i j = mI M1 f i j) → Q M') → (∀ q, q < r → mI M1 524 w q = 0) → mL M1 524 w = 801 → w_Model_beginWorld_L337 0 Q d w (Int32.ofNat r) M1 := by
    intro d
    induction d with
    | zero => intro r M1 h; omega
    | succ d ih =>
      intro r M1 hd hr hq hz hl
      unfold w_Model_beginWorld_L337
      by_cases c : r = 801
      · subst c
        refine itp (by decide) ⟨_, rfl, hq _ (fun q h => ?_) ⟨?_, ?_, ?_⟩ (Fr.wI rfl (Fr.wI rfl (Fr.wI rfl (Fr.rf _ _)))) (fun f i j h1 h2 => ?_) (fun f i j h1 => ?_)⟩
        · simp only [mI_sI, Nat.reduceEqDiff, false_and, if_false]; exact hz q h
        · simp only [mI_sI, mI_sR, mI_sJ, mR_sI, mL_sI, mL_sR, mR_sR, Nat.reduceEqDiff, and_false, false_and, if_false, and_self, true_and, and_true, if_true]
        · simp only [mI_sI, mI_sR, mI_sJ, mR_sI, mL_sI, mL_sR, mR_sR, Nat.reduceEqDiff, and_false, false_and, if_false, and_self, true_and, and_true, if_true]
        · simp only [mI_sI, mI_sR, mI_sJ, mR_sI, mL_sI, mL_sR, mR_sR, Nat.reduceEqDiff, and_false, false_and, if_false, and_self, true_and, and_true, if_true]
        · simp only [mI_sI, h2, false_and, if_false]
        · simp only [mI_sI, h1, false_and, and_false, if_false]
      · refine itn (nlt_oN (a := 800) (by omega) (by omega)) ⟨by rw [hl]; exact (vp_oN (by omega)).mpr (by omega), ?_⟩
        rw [oN_tnc (k := r) (by omega), lit32 1, oN_add]
        refine ih (r + 1) _ (by omega) (by omega) (fun M' a b c d' e => hq M' a b ((Fr.wIa rfl rfl (Fr.rf _ _)).trans c) (fun f i j h1 h2 => ?_) (fun f i j h1 => ?_)) (fun q hq' => ?_) hl
        · rw [d' f i j h1 h2, mI_sI, if_neg (fun z => h1 z.1)]
        · rw [e f i j h1, mI_sI, if_neg (fun z => h1 z.2.1)]
        · rw [mI_sI]
          by_cases cq : q = r
          · rw [if_pos ⟨rfl, rfl, cq⟩]; rfl
          · rw [if_neg (fun z => cq z.2.2)]; exact hz q (by omega)
  have p2 : ∀ d r M1, 62 - r < d → r ≤ 62 → (∀ M', (∀ q, q < 801 → mI M' 524 w q = 0) → (∀ q, q < 62 → mI M' 169 w q = 0) → (mI M' 12 w 50 = 0 ∧ mI M' 12 w 52 = 0 ∧ mI M' 12 w 56 = 0 ∧ mI M' 12 w 60 = 0) → Fr (3909355838296845638219041543752920726487544038599287638389836893353017818961596826327631740501034672259282307444869551925294391555460062752011408350572577405043120525255117056638519815071371278325152019808065333257637940233207194923221546935416767286384240261800479297880895688862066511484416568796354812836159831248330717649846191531807211293413513157056972102665172357018954149639520503075726879664520930466706383431744993006984776812606129148172362271773098269129157837063876047377616791751141220798787865107543604600245416301893490496747306170567229431308375875171448420982814774024705214582627215126069058679978448443516130340563128150190300572156350238896074421968470728629780902982293359541038494796246638668189579498590617075579735160616144993012979802599974669461138421621027225448771799660961459588481555596356575589565669629124616989514220762435684421412904064642000271988393660510180371086846219170803300454881355397351484290869150374320446885592620542642852413374405453638941688615377010468409639800497676493863914745327737896960) M1 M' → (∀ f i j, f ≠ 524 → f ≠ 169 → f ≠ 12 → mI M' f i j = mI M1 f i j) → (∀ f i j, i ≠ w → mI M' f i j = mI M1 f i j) → Q M') → (∀ q, q < r → mI M1 169 w q = 0) → mL M1 169 w = 62 → mL M1 524 w = 801 → w_Model_beginWorld_L311 0 Q d w (Int32.ofNat r) M1 := by
    intro d
    induction d with
    | zero => intro r M1 h; omega
    | succ d ih =>
      intro r M1 hd hr hq hz hl hl2
      unfold w_Model_beginWorld_L311
      by_cases c : r = 62
      · subst c
        refine itp (by decide) ⟨802, p3 802 0 _ (by omega) (by omega) (fun M' a b c d' e => hq M' a (fun q hq' => ?_) ⟨?_, b⟩ ((Fr.wI rfl (Fr.rf _ _)).trans (c.sub rfl)) (fun f i j h1 h2 h3 => ?_) (fun f i j h1 => ?_)) (fun q hq' => absurd hq' (Nat.not_lt_zero q)) hl2⟩
        · rw [d' 169 w q (by decide) (by decide), mI_sI, if_neg (fun z => absurd z.1 (by decide))]; exact hz q hq'
        · rw [c.I (f := 12) (k := 50) rfl, mI_sI, if_pos ⟨rfl, rfl, rfl⟩]
        · rw [d' f i j h1 h3, mI_sI, if_neg (fun z => h3 z.1)]
        · rw [e f i j h1, mI_sI, if_neg (fun z => h1 z.2.1)]
      · refine itn (nle_oN (a := 62) (by omega) (by omega)) ⟨by rw [hl]; exact (vp_oN (by omega)).mpr (by omega), ?_⟩
        rw [oN_tnc (k := r) (by omega), lit32 1, oN_add]
        refine ih (r + 1) _ (by omega) (by omega) (fun M' a a2 b c d' e => hq M' a a2 b ((Fr.wIa rfl rfl (Fr.rf _ _)).trans c) (fun f i j h1 h2 h3 => ?_) (fun f i j h1 => ?_)) (fun q hq' => ?_) hl hl2
        · rw [d' f i j h1 h2 h3, mI_sI, if_neg (fun z => h2 z.1)]
        · rw [e f i j h1, mI_sI, if_neg (fun z => h1 z.2.1)]
        · rw [mI_sI]
          by_cases cq : q = r
          · rw [if_pos ⟨rfl, rfl, cq⟩]
          · rw [if_neg (fun z => cq z.2.2)]; exact hz q (by omega)
  have p1 : ∀ d t M1, 3 - t < d → t ≤ 3 → Fr (15314599543025836772132527954704845760305012891820904851896653769351841076964967628279151601976840573630054250500793292382370840749338245345427031649959660073224497570669409323754903468759958826823612154593041264788144601068663359098249272772424150518688319558932131011701645046695055529777917751137774561314897573110731782955231536466212250624417545105459477952215150752183578370686279070865063121196371746290054703859925762128726576815875177924217434937069089243055038829646757008752749744454597571370317031222398956668901576869740983196993089925926729031582254302649721108816298372498595892704873318394380744822565962061251786721663468379371117454152239298058066312239452829672982573643640403654767616056110156825035582129277474862676630906140176748049088467409811324047703040847898057273135293215911386158879660944707639423618898094404219251700296281299544941796768245617900539943449386495644445601554689647927185364420045693205024265887512360845649128118631039677822142109508842598647185561840576343572121813310599684661776992348974318524165729528980972469906102751873674539696128) M M1 → (∀ t', t' < t → mI M1 13 (3 * w + t') 0 = -2 ∧ mI M1 13 (3 * w + t') 1 = 0) → (∀ f i j, f ≠ 13 → mI M1 f i j = mI M f i j) → (∀ i j, (∀ t, t < 3 → i ≠ 3 * w + t) → mI M1 13 i j = mI M 13 i j) → (∀ i j, j ≠ 0 → j ≠ 1 → mI M1 13 i j = mI M 13 i j) → w_Model_beginWorld_L255 0 Q d w (Int32.ofNat t) M1 := by
    intro d
    induction d with
    | zero => intro t M1 h; omega
    | succ d ih =>
      intro t M1 hd ht hf hc hn hi hj
      unfold w_Model_beginWorld_L255
      by_cases c : t = 3
      · subst c
        refine itp (by decide) ⟨_, rfl, 63, ?_⟩
        refine p2 63 0 _ (by omega) (by omega) (fun M' a a2 b c d' e => hQ M' ⟨⟨?_, ?_, ?_⟩, ?_, b⟩ (fun t ht => ?_) a2 a ?_ (fun f i j h1 h2 => ?_) (fun i j h1 => ?_) (fun i j h1 h2 => ?_)) (fun q hq' => absurd hq' (Nat.not_lt_zero q)) ((hf.L (f := 169) rfl w).trans l169) ((hf.L (f := 524) rfl w).trans l524)
        · rw [c.I (f := 12) (k := 63) rfl]; simp only [mI_sI, mI_sR, mI_sJ, mR_sI, mL_sI, mL_sR, mR_sR, Nat.reduceEqDiff, and_false, false_and, if_false, and_self, true_and, and_true, if_true]
        · rw [c.I (f := 12) (k := 65) rfl]; simp only [mI_sI, mI_sR, mI_sJ, mR_sI, mL_sI, mL_sR, mR_sR, Nat.reduceEqDiff, and_false, false_and, if_false, and_self, true_and, and_true, if_true]
        · rw [c.I (f := 12) (k := 64) rfl]; simp only [mI_sI, mI_sR, mI_sJ, mR_sI, mL_sI, mL_sR, mR_sR, Nat.reduceEqDiff, and_false, false_and, if_false, and_self, true_and, and_true, if_true]
        · rw [c.I (f := 12) (k := 70) rfl]; simp only [mI_sI, mI_sR, mI_sJ, mR_sI, mL_sI, mL_sR, mR_sR, Nat.reduceEqDiff, and_false, false_and, if_false, and_self, true_and, and_true, if_true]
        · rw [d' 13 _ 0 (by decide) (by decide) (by decide), d' 13 _ 1 (by decide) (by decide) (by decide)]
          simp only [mI_sI, Nat.reduceEqDiff, false_and, if_false]; exact hc t ht
        · exact Fr.trans (Fr.wI rfl (Fr.wI rfl (Fr.wI rfl (Fr.wI rfl (hf.sub rfl))))) (c.sub rfl)
        · rw [e f i j h2]; simp only [mI_sI, h2, false_and, and_false, if_false]; exact hn f i j h1
        · rw [d' 13 i j (by decide) (by decide) (by decide)]; simp only [mI_sI, Nat.reduceEqDiff, false_and, if_false]; exact hi i j h1
        · rw [d' 13 i j (by decide) (by decide) (by decide)]; simp only [mI_sI, Nat.reduceEqDiff, false_and, if_false]; exact hj i j h1 h2
      · have hr := (hf.Ra (f := 704) rfl rfl w t).trans (r7 t (by omega))
        have hl : vp_in (Int32.ofNat t) (mL M1 704 w) := by rw [hf.L (f := 704) rfl, h7]; exact (vp_oN (by omega)).mpr (by omega)
        refine itn (nle_oN (a := 3) (by omega) (by omega)) ⟨hl, 3 * w + t, by rw [oN_tnc (k := t) (by omega)]; exact hr, hl, 3 * w + t, by rw [oN_tnc (k := t) (by omega)]; exact hr, Or.inl rfl, ?_⟩
        rw [lit32 1, oN_add]
        refine ih (t + 1) _ (by omega) (by omega) (Fr.wI rfl (Fr.wI rfl hf)) (fun t' ht' => ?_) (fun f i j h1 => ?_) (fun i j h1 => ?_) (fun i j h1 h2 => ?_)
        · by_cases e : t' = t
          · subst e; refine ⟨?_, ?_⟩ <;> simp only [mI_sI, mI_sR, mI_sJ, mR_sI, mL_sI, mL_sR, mR_sR, Nat.reduceEqDiff, and_false, false_and, if_false, and_self, true_and, and_true, if_true]
          · have := hc t' (by omega)
            have e2 : 3 * w + t' ≠ 3 * w + t := by omega
            simp only [mI_sI, e2, false_and, and_false, if_false]; exact this
        · simp only [mI_sI, h1, false_and, if_false]; exact hn f i j h1
        · have := h1 t (by omega)
          simp only [mI_sI, this, false_and, and_false, if_false]; exact hi i j h1
        · simp only [mI_sI, h1, h2, and_false, if_false]; exact hj i j h1 h2
  exact ⟨4, p1 4 0 M (by omega) (by omega) (Fr.rf _ _) (fun t' h => absurd h (Nat.not_lt_zero t')) (fun _ _ _ _ => rfl) (fun _ _ _ => rfl) (fun _ _ _ _ => rfl)⟩
end
