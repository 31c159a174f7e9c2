/-! THE OPERATION fewest, in the twin -/
set_option maxRecDepth 100000 in
theorem i64_32 : ∀ x, x < 256 → (Int64.ofNat x).toInt32 = Int32.ofNat x := by decide
theorem or64 (a b : Nat) : Int64.ofNat a ||| Int64.ofNat b = Int64.ofNat (a ||| b) := by
  apply Int64.toBitVec_inj.mp
  rw [Int64.toBitVec_or]
  show BitVec.ofNat 64 a ||| BitVec.ofNat 64 b = BitVec.ofNat 64 (a ||| b)
  apply BitVec.eq_of_getLsbD_eq
  intro i hi
  rw [BitVec.getLsbD_or, BitVec.getLsbD_ofNat, BitVec.getLsbD_ofNat, BitVec.getLsbD_ofNat, Nat.testBit_or, decide_eq_true hi, Bool.true_and, Bool.true_and, Bool.true_and]
section
variable {G : List Sl} {U1 : List (List Kd × Kd)} {BB A : List Nm} {S : List Sg} {B F t b : Nat} {T : List Trl} {L : Trl} {M M' M0 : Mem} {Q : Int32 → Mem → Prop} {Q' X : Mem → Prop} {a c d v : Int32} {f f' h : Nat → Nat} {g r x n : Nat}
theorem tg_fb : ∀ n, n ≤ 40 → tg fb T 40 n = Int64.ofNat (orZ (fNt T) (fun _ => true) n)
  | 0, _ => rfl
  | n + 1, hn => by
    unfold tg orZ
    rw [if_neg (by omega), if_pos rfl, tg_fb n (by omega), ← or64]
    congr 1
    show (fnK (gTr T n) 8).toInt64 = Int64.ofNat (fnN (gTr T n) 8)
    have := fnN_lt (gTr T n) 8
    rw [fnK_eq, n32 (by omega)]
theorem MdT.w0 (h : MdT G U1 BB A S B F T M) (hf : Fr (638029437976759618993827388934565396480) M M') : MdT G U1 BB A S B F T M' := ⟨h.1.fr (hf.sub rfl), ⟨h.2.1.1.fr hf, h.2.1.2.fr hf⟩, h.2.2⟩
theorem k_look (h : w_Model_look 0 a (fun M' => Fr F_Model_look M M' → Q' M') (fun M' => X M') M) : w_Model_look 0 a Q' X M := mf_w_Model_look (fun _ hf hp => hp hf) (fun _ _ hp => hp) h
/-- trials as the twin has them, all of them looked at -/
def MdL (G : List Sl) (U1 : List (List Kd × Kd)) (BB A : List Nm) (S : List Sg) (B F : Nat) (T : List Trl) (M : Mem) : Prop := MdT G U1 BB A S B F T M ∧ ∀ i, i < T.length → mI M 522 0 i ≠ 0
theorem MdL.w0 (h : MdL G U1 BB A S B F T M) (hf : Fr (638029437976759618993827388934565396480) M M') : MdL G U1 BB A S B F T M' := ⟨h.1.w0 hf, fun i hi => by rw [hf.Ia (f := 522) rfl rfl]; exact h.2 i hi⟩
theorem Ar.cp {a b : Nat} (hA : Ar a f M) (hb : mL M b 0 = 256) : Ar b f (cpI M a 0 0 b 0 0 256) := ⟨hb, fun k hk => by
  rw [mI_cpI, if_pos ⟨rfl, rfl⟩, if_pos ⟨Nat.zero_le _, by omega⟩, Nat.sub_zero, Nat.zero_add]
  exact hA.2 k hk⟩
theorem ct_addTrial (hg : g < 256) (p1 : MdL G U1 BB A S B F T M) (p5 : Ar 125 f' M) (p2 : Ar 126 f M) (p3 : Ar 127 h M) (l8 : mL M 128 0 = 256) (hQ : ∀ h' M', MdL G U1 BB A S B F T M' → Ar 125 f' M' → Ar 126 f M' → Ar 127 h' M' → mL M' 128 0 = 256 → moI (fun j => min (f j) (h j)) h g 256 h' → Q' M') : w_Model_addTrial 0 (Int32.ofNat g) Q' M := by
  unfold w_Model_addTrial
  rw [show (0 : Int32).toNatClampNeg = 0 from rfl, show (256 : Int32).toNatClampNeg = 256 from rfl]
  refine ⟨by decide, by decide, by decide, by rw [p3.1]; omega, by rw [l8]; omega, _, rfl, 257, ?_⟩
  have f1 : Fr (638029437976759618993827388934565396480) M (cpI M 127 0 0 128 0 0 256) := Fr.wcp rfl rfl (Fr.rf _ _)
  have f2 : Fr (340282366920938463463374607431768211456) M (cpI M 127 0 0 128 0 0 256) := Fr.wcp rfl rfl (Fr.rf _ _)
  have loop : ∀ n k c M, 256 - k < n → k ≤ 256 → MdL G U1 BB A S B F T M → Ar 125 f' M → Ar 126 f M → Ar 127 h M → Ar 128 c M → moI (fun j => min (f j) (h j)) h g k c → w_Model_addTrial_L18 0 Q' n (Int32.ofNat g) (Int32.ofNat k) M := by
    intro n
    induction n with
    | zero => intro k c M z; exact absurd z (by omega)
    | succ n ih =>
      intro k c M hn hk q1 q5 q2 q3 q4 q6
      unfold w_Model_addTrial_L18
      rw [show (0 : Int32).toNatClampNeg = 0 from rfl, show (256 : Int32).toNatClampNeg = 256 from rfl]
      by_cases e : k = 256
      · subst e
        refine itp (by decide) ⟨by decide, by decide, by decide, by rw [q4.1]; omega, by rw [q3.1]; omega, _, rfl, ?_⟩
        have g1 : Fr (638029437976759618993827388934565396480) M (cpI M 128 0 0 127 0 0 256) := Fr.wcp rfl rfl (Fr.rf _ _)
        have g2 : Fr (170141183460469231731687303715884105728) M (cpI M 128 0 0 127 0 0 256) := Fr.wcp rfl rfl (Fr.rf _ _)
        exact hQ c _ (q1.w0 g1) (q5.fr g2) (q2.fr g2) (q4.cp q3.1) q4.1 q6
      refine itn (nle_oN (a := 256) (by omega) (by omega)) ?_
      have hx := or_lt (show k < 256 by omega) hg
      have b1 := (q4.2 _ hx).2
      have b2' := (q2.2 k (by omega)).2
      have b3 := (q3.2 k (by omega)).2
      rw [or32, oN_tnc (k := k ||| g) (by omega), oN_tnc (k := k) (by omega), (q4.2 _ hx).1, (q2.2 k (by omega)).1, (q3.2 k (by omega)).1]
      refine ⟨by rw [q4.1]; exact (vp_oN (by omega)).mpr hx, by rw [q2.1]; exact (vp_oN (by omega)).mpr (by omega), by rw [q3.1]; exact (vp_oN (by omega)).mpr (by omega), c_minN (by omega) (by omega) ?_⟩
      rw [lit32 1, oN_add, oN_add]
      refine c_minN (by omega) (by omega) ⟨by rw [q4.1]; exact (vp_oN (by omega)).mpr hx, ?_⟩
      rw [Nat.add_comm 1 (min (f k) (h k))]
      have g1 : Fr (638029437976759618993827388934565396480) M (sI M 128 0 (k ||| g) (Int32.ofNat (min (c (k ||| g)) (min (f k) (h k) + 1)))) := Fr.wIa rfl rfl (Fr.rf _ _)
      have g2 : Fr (340282366920938463463374607431768211456) M (sI M 128 0 (k ||| g) (Int32.ofNat (min (c (k ||| g)) (min (f k) (h k) + 1)))) := Fr.wIa rfl rfl (Fr.rf _ _)
      exact ih (k + 1) _ _ (by omega) (by omega) (q1.w0 g1) (q5.fr g2) (q2.fr g2) (q3.fr g2) (q4.set hx (Nat.le_trans (Nat.min_le_left _ _) b1)) (q6.st hg (by omega))
  exact loop 257 0 h _ (by omega) (by omega) (p1.w0 f1) (p5.fr f2) (p2.fr f2) (p3.fr f2) (p3.cp l8) ⟨fun x _ => Nat.le_refl _, fun j hj => absurd hj (by omega), fun x _ _ => Or.inl rfl⟩
theorem ct_wfewest (h : MdT G U1 BB A S B F T M) (l5 : mL M 125 0 = 256) (l6 : mL M 126 0 = 256) (l7 : mL M 127 0 = 256) (l8 : mL M 128 0 = 256) (hF : F < 1000000) (hCF : 601 < F) (hQ : ∀ v A' S' M', IsF (mNt T) (fNt T) T.length v → A <+: A' → S <+: S' → MdT G U1 BB A' S' B F T M' → (mL M' 125 0 = 256 ∧ mL M' 126 0 = 256 ∧ mL M' 127 0 = 256 ∧ mL M' 128 0 = 256) → Q (Int32.ofNat v) M') : w_Model_fewest 0 Q X M := by
  have hT : ∀ L ∈ T, TrO L := fun L hL => (h.2.2 L hL).1
  have h40 := h.n
  have hg : ∀ i, i < T.length → fNt T i < 256 := fun _ _ => fNt_lt
  have all256 := fo_lt (T := T) (E := fun _ => true) (t := T.length)
  -- the rules
  have l64 : ∀ n r f A1 S1 M1, 60 - r < n → r ≤ 60 → A <+: A1 → S <+: S1 → MdL G U1 BB A1 S1 B F T M1 → Ar 125 f M1 → mL M1 126 0 = 256 → mL M1 127 0 = 256 → mL M1 128 0 = 256 → (sndW (mNt T) (fNt T) T.length r f ∧ cmpT (mNt T) (fNt T) T.length r f) → w_Model_fewest_L64 0 Q X n (Int32.ofNat (orZ (fNt T) (fun _ => true) T.length)) (Int32.ofNat r) M1 := by
    intro n
    induction n with
    | zero => intro r f A1 S1 M1 z; exact absurd z (by omega)
    | succ n ih =>
      intro r f A1 S1 M1 hn hr p1 p2 p3 p4 p5 p6 p7 p8
      unfold w_Model_fewest_L64
      by_cases e : r = 60
      · subst e
        refine itp (by decide) ?_
        rw [oN_tnc (k := orZ (fNt T) (fun _ => true) T.length) (by omega), (p4.2 _ all256).1]
        exact ⟨by rw [p4.1]; exact (vp_oN (by omega)).mpr all256, hQ _ A1 S1 M1 (T_fin h40.2 (fun i hi => (mNt_eq hT hi).2.1) hg p8) p1 p2 p3.1 ⟨p4.1, p5, p6, p7⟩⟩
      refine itn (nle_oN (a := 60) (by omega) (by omega)) ⟨257, ?_⟩
      have j214 : ∀ f2 M2, MdL G U1 BB A1 S1 B F T M2 → Ar 125 f2 M2 → mL M2 126 0 = 256 → mL M2 127 0 = 256 → mL M2 128 0 = 256 → (sndW (mNt T) (fNt T) T.length (r + 1) f2 ∧ cmpT (mNt T) (fNt T) T.length (r + 1) f2) → w_Model_fewest_j214 0 Q X (w_Model_fewest_L64 0 Q X n) (Int32.ofNat (orZ (fNt T) (fun _ => true) T.length)) (Int32.ofNat r) M2 := fun f2 M2 q1 q2 q3 q4 q5 q6 => by
        unfold w_Model_fewest_j214
        rw [lit32 1, oN_add]
        exact ih (r + 1) f2 A1 S1 M2 (by omega) (by omega) p1 p2 q1 q2 q3 q4 q5 q6
      have r0 : Int32.ofNat r = 0 ↔ r = 0 := ⟨fun z => (oN_inj (by omega) (by omega)).mp (z.trans (show (0 : Int32) = Int32.ofNat 0 from rfl)), fun z => by rw [z]; rfl⟩
      -- the row is written back
      have l158 : ∀ m k c h1 M2, 256 - k < m → k ≤ 256 → MdL G U1 BB A1 S1 B F T M2 → Ar 125 c M2 → Ar 126 f M2 → Ar 127 h1 M2 → mL M2 128 0 = 256 → oneI (mNt T) (fNt T) T.length r f T.length h1 → (∃ i, i < T.length ∧ mNt T i = r) → (∀ j, j < 256 → c j = if j < k then (if r = 0 then min (f j) (h1 j) else h1 j) else f j) → w_Model_fewest_L158 0 Q X (w_Model_fewest_L64 0 Q X n) m (Int32.ofNat (orZ (fNt T) (fun _ => true) T.length)) (Int32.ofNat r) (b2 true) (Int32.ofNat k) M2 := by
        intro m
        induction m with
        | zero => intro k c h1 M2 z; exact absurd z (by omega)
        | succ m im =>
          intro k c h1 M2 hm hk q1 q2 q3 q4 q5 q6 q7 q8
          unfold w_Model_fewest_L158
          by_cases e : k = 256
          · subst e
            refine itp (by decide) (j214 c M2 q1 q2 q3.1 q4.1 q5 ?_)
            have e8 : ∀ j, j < 256 → c j = if r = 0 then min (f j) (h1 j) else h1 j := fun j hj => by rw [q8 j hj, if_pos hj]
            by_cases er : r = 0
            · subst er
              exact T_00 p8 q6 (fun j hj => by rw [e8 j hj, if_pos rfl]) hg
            · obtain ⟨x1, x2⟩ := T_ru (f := f) (by omega) q6 q7
              refine ⟨fun j hj hlt => ?_, fun Z hZ => ?_⟩
              · rw [e8 j hj, if_neg er] at hlt ⊢; exact x1 j hj hlt
              · rw [e8 _ (orZ_lt hg), if_neg er]; exact x2 Z hZ
          refine itn (nle_oN (a := 256) (by omega) (by omega)) (itn (by decide) ?_)
          have nx : ∀ v, v = (if r = 0 then min (f k) (h1 k) else h1 k) → w_Model_fewest_j207 0 Q X (w_Model_fewest_L64 0 Q X n) (w_Model_fewest_L158 0 Q X (w_Model_fewest_L64 0 Q X n) m) (Int32.ofNat (orZ (fNt T) (fun _ => true) T.length)) (Int32.ofNat r) (b2 true) (Int32.ofNat k) (Int32.ofNat v) (Int32.ofNat k) M2 := fun v ev => by
            unfold w_Model_fewest_j207
            rw [oN_tnc (k := k) (by omega), lit32 1, oN_add]
            have g1 : Fr (638029437976759618993827388934565396480) M2 (sI M2 125 0 k (Int32.ofNat v)) := Fr.wIa rfl rfl (Fr.rf _ _)
            have g2 : Fr (42535295865117307932921825928971026432) M2 (sI M2 125 0 k (Int32.ofNat v)) := Fr.wIa rfl rfl (Fr.rf _ _)
            have hv : v ≤ 1000 := by
              have a1 := (q3.2 k (by omega)).2
              have a2 := (q4.2 k (by omega)).2
              rw [ev]; split <;> omega
            refine ⟨by rw [q2.1]; exact (vp_oN (by omega)).mpr (by omega), im (k + 1) _ h1 _ (by omega) (by omega) (q1.w0 g1) (q2.set (by omega) hv) (q3.fr g2) (q4.fr g2) q5 q6 q7 (fun j hj => ?_)⟩
            unfold up1
            by_cases ej : j = k
            · rw [if_pos ej, ev, ej, if_pos (show k < k + 1 by omega)]
            · rw [if_neg ej, q8 j hj]
              by_cases cj : j < k
              · rw [if_pos cj, if_pos (show j < k + 1 by omega)]
              · rw [if_neg cj, if_neg (show ¬ j < k + 1 by omega)]
          rw [oN_tnc (k := k) (by omega), (q3.2 k (by omega)).1, (q4.2 k (by omega)).1]
          have a1 := (q3.2 k (by omega)).2
          have a2 := (q4.2 k (by omega)).2
          by_cases er : r = 0
          · rw [if_pos er] at nx
            exact itp (r0.mpr er) ⟨by rw [q3.1]; exact (vp_oN (by omega)).mpr (by omega), by rw [q4.1]; exact (vp_oN (by omega)).mpr (by omega), c_minN (by omega) (by omega) (nx _ rfl)⟩
          · rw [if_neg er] at nx
            exact itn (fun z => er (r0.mp z)) ⟨by rw [q4.1]; exact (vp_oN (by omega)).mpr (by omega), nx _ rfl⟩
      -- the trials of the rule
      have l116 : ∀ m t fl h1 M2, T.length - t < m → t ≤ T.length → MdL G U1 BB A1 S1 B F T M2 → Ar 125 f M2 → Ar 126 f M2 → Ar 127 h1 M2 → mL M2 128 0 = 256 → (fl = true ↔ ∃ i, i < t ∧ mNt T i = r) → oneI (mNt T) (fNt T) T.length r f t h1 → w_Model_fewest_L116 0 Q X (w_Model_fewest_L64 0 Q X n) m (Int32.ofNat (orZ (fNt T) (fun _ => true) T.length)) (Int32.ofNat r) (b2 fl) (Int32.ofNat t) M2 := by
        intro m
        induction m with
        | zero => intro t fl h1 M2 z; exact absurd z (by omega)
        | succ m im =>
          intro t fl h1 M2 hm ht q1 q0 q3 q4 q5 q6 q7
          unfold w_Model_fewest_L116
          rw [q1.1.n.1]
          by_cases et : t = T.length
          · subst et
            refine itp (le_oN (Nat.le_refl _) (by omega)) ⟨257, ?_⟩
            cases fl with
            | true => exact l158 257 0 f h1 M2 (by omega) (by omega) q1 q0 q3 q4 q5 q7 (q6.mp rfl) (fun j _ => by rw [if_neg (by omega)])
            | false =>
              unfold w_Model_fewest_L158
              refine itn (by decide) (itp rfl (j214 f M2 q1 q0 q3.1 q4.1 q5 (T_no p8 (fun i hi z => absurd (q6.mpr ⟨i, hi, z⟩) (by decide)))))
          refine itn (nle_oN (by omega) (by omega)) ?_
          obtain ⟨em, hm60, -⟩ := mNt_eq hT (show t < T.length by omega)
          obtain ⟨e123, e124⟩ := q1.1.2.1.2.2 t (by omega) (q1.2 t (by omega))
          rw [oN_tnc (k := t) (by omega), e123, e124, em, fnK_eq]
          refine ⟨by rw [q1.1.2.1.2.1.2.1]; exact (vp_oN (by omega)).mpr (by omega), ?_⟩
          by_cases ce : mNt T t = r
          · rw [ce]
            refine itp rfl ⟨by rw [q1.1.2.1.2.1.2.2.1]; exact (vp_oN (by omega)).mpr (by omega), ct_addTrial (g := fNt T t) fNt_lt q1 q0 q3 q4 q5 (fun h' M3 x1 x5 x2 x3 x4 x6 => ?_)⟩
            unfold w_Model_fewest_j149
            rw [lit32 1, oN_add]
            refine im (t + 1) true h' M3 (by omega) (by omega) x1 x5 x2 x3 x4 ⟨fun _ => ⟨t, by omega, ce⟩, fun _ => rfl⟩ (one_st hg (by omega) ce p8.1 p8.2 q7 x6.1 (fun k hk => ?_) (fun k hk hlt => ?_))
            · have := x6.2.1 k hk
              dsimp only at this
              omega
            · rcases x6.2.2 k hk hlt with z | ⟨j, y1, y2, y3⟩
              · exact Or.inl z
              · exact Or.inr ⟨j, y1, y2, by dsimp only at y3; omega⟩
          · refine itn (fun z => ce ((oN_inj (by omega) (by omega)).mp z)) ?_
            unfold w_Model_fewest_j149
            rw [lit32 1, oN_add]
            refine im (t + 1) fl h1 M2 (by clear q6 q7; omega) (by clear q6 q7; omega) q1 q0 q3 q4 q5 ⟨fun z => ?_, fun ⟨i, x1, x2⟩ => q6.mpr ⟨i, ?_, x2⟩⟩ (one_no q7 ce)
            · obtain ⟨i, x1, x2⟩ := q6.mp z
              exact ⟨i, by omega, x2⟩
            · have : i ≠ t := fun z => ce (z ▸ x2)
              omega
      -- rows at the beginning of a rule
      have l75 : ∀ m k M2, 256 - k < m → k ≤ 256 → MdL G U1 BB A1 S1 B F T M2 → Ar 125 f M2 → mL M2 126 0 = 256 → mL M2 127 0 = 256 → mL M2 128 0 = 256 → (∀ j, j < k → (mI M2 126 0 j = Int32.ofNat (f j) ∧ mI M2 127 0 j = Int32.ofNat 1000)) → w_Model_fewest_L75 0 Q X (w_Model_fewest_L64 0 Q X n) m (Int32.ofNat (orZ (fNt T) (fun _ => true) T.length)) (Int32.ofNat r) 0 (Int32.ofNat k) M2 := by
        intro m
        induction m with
        | zero => intro k M2 z; exact absurd z (by omega)
        | succ m im =>
          intro k M2 hm hk q1 q2 q3 q4 q5 q6
          unfold w_Model_fewest_L75
          by_cases e : k = 256
          · subst e
            exact itp (by decide) ⟨T.length + 1, l116 (T.length + 1) 0 false (fun _ => 1000) M2 (by omega) (Nat.zero_le _) q1 q2 ⟨q3, fun j hj => ⟨(q6 j hj).1, (q2.2 j hj).2⟩⟩ ⟨q4, fun j hj => ⟨(q6 j hj).2, Nat.le_refl _⟩⟩ q5 ⟨fun z => (by cases z), fun ⟨i, x, _⟩ => absurd x (by omega)⟩ one_0⟩
          refine itn (nle_oN (a := 256) (by omega) (by omega)) ?_
          rw [oN_tnc (k := k) (by omega), (q2.2 k (by omega)).1, lit32 1, oN_add]
          refine ⟨by rw [q2.1]; exact (vp_oN (by omega)).mpr (by omega), by rw [q3]; exact (vp_oN (by omega)).mpr (by omega), show vp_in _ (mL M2 127 0) from by rw [q4]; exact (vp_oN (by omega)).mpr (by omega), _, rfl, ?_⟩
          have g1 : Fr (638029437976759618993827388934565396480) M2 (sI (sI M2 126 0 k (Int32.ofNat (f k))) 127 0 k 1000) := Fr.wIa rfl rfl (Fr.wIa rfl rfl (Fr.rf _ _))
          have g2 : Fr (255211775190703847597530955573826158592) M2 (sI (sI M2 126 0 k (Int32.ofNat (f k))) 127 0 k 1000) := Fr.wIa rfl rfl (Fr.wIa rfl rfl (Fr.rf _ _))
          refine im (k + 1) _ (by omega) (by omega) (q1.w0 g1) (q2.fr g2) q3 q4 q5 (fun j hj => ⟨?_, ?_⟩)
          · rw [mI_sI, if_neg (fun z => absurd z.1 (by decide)), mI_sI]
            by_cases ej : j = k
            · rw [if_pos ⟨rfl, rfl, ej⟩, ej]
            · rw [if_neg (fun z => ej z.2.2)]; exact (q6 j (by omega)).1
          · rw [mI_sI]
            by_cases ej : j = k
            · rw [if_pos ⟨rfl, rfl, ej⟩]; rfl
            · rw [if_neg (fun z => ej z.2.2), mI_sI, if_neg (fun z => absurd z.1 (by decide))]; exact (q6 j (by omega)).2
      exact l75 257 0 M1 (by omega) (by omega) p3 p4 p5 p6 p7 (fun j hj => absurd hj (by omega))
  -- the first row
  have l32 : ∀ n k A1 S1 M1, 256 - k < n → k ≤ 256 → A <+: A1 → S <+: S1 → MdL G U1 BB A1 S1 B F T M1 → mL M1 125 0 = 256 → mL M1 126 0 = 256 → mL M1 127 0 = 256 → mL M1 128 0 = 256 → (∀ j, j < k → mI M1 125 0 j = Int32.ofNat (if j = 0 then 0 else 1000)) → w_Model_fewest_L32 0 Q X n (Int32.ofNat (orZ (fNt T) (fun _ => true) T.length)) (Int32.ofNat k) M1 := by
    intro n
    induction n with
    | zero => intro k A1 S1 M1 z; exact absurd z (by omega)
    | succ n ih =>
      intro k A1 S1 M1 hn hk p1 p2 p3 p4 p5 p6 p7 p8
      unfold w_Model_fewest_L32
      by_cases e : k = 256
      · subst e
        refine itp (by decide) ⟨61, l64 61 0 (fun k => if k = 0 then 0 else 1000) A1 S1 M1 (by omega) (by omega) p1 p2 p3 ⟨p4, fun j hj => ⟨p8 j hj, ?_⟩⟩ p5 p6 p7 (T_0 rfl (fun k _ hk => if_neg hk))⟩
        dsimp only
        split <;> omega
      refine itn (nle_oN (a := 256) (by omega) (by omega)) ?_
      have nx : ∀ v, v = Int32.ofNat (if k = 0 then 0 else 1000) → w_Model_fewest_j55 0 Q X (w_Model_fewest_L32 0 Q X n) (Int32.ofNat (orZ (fNt T) (fun _ => true) T.length)) (Int32.ofNat k) v (Int32.ofNat k) M1 := fun v ev => by
        unfold w_Model_fewest_j55
        rw [oN_tnc (k := k) (by omega), lit32 1, oN_add]
        have g1 : Fr (638029437976759618993827388934565396480) M1 (sI M1 125 0 k v) := Fr.wIa rfl rfl (Fr.rf _ _)
        refine ⟨by rw [p4]; exact (vp_oN (by omega)).mpr (by omega), ih (k + 1) A1 S1 _ (by omega) (by omega) p1 p2 (p3.w0 g1) p4 p5 p6 p7 (fun j hj => ?_)⟩
        rw [mI_sI]
        by_cases ej : j = k
        · rw [if_pos ⟨rfl, rfl, ej⟩, ev, ej]
        · rw [if_neg (fun z => ej z.2.2)]; exact p8 j (by omega)
      by_cases e0 : k = 0
      · rw [if_pos e0] at nx
        exact itp (by rw [e0]; rfl) (nx _ rfl)
      · rw [if_neg e0] at nx
        exact itn (fun z => e0 ((oN_inj (by omega) (by omega)).mp (z.trans (show (0 : Int32) = Int32.ofNat 0 from rfl)))) (nx _ rfl)
  have l2 : ∀ n k A1 S1 M1, T.length - k < n → k ≤ T.length → A <+: A1 → S <+: S1 → MdT G U1 BB A1 S1 B F T M1 → (mL M1 125 0 = 256 ∧ mL M1 126 0 = 256 ∧ mL M1 127 0 = 256 ∧ mL M1 128 0 = 256) → (∀ i, i < k → mI M1 522 0 i ≠ 0) → w_Model_fewest_L2 0 Q X n (Int32.ofNat k) M1 := by
    intro n
    induction n with
    | zero => intro k A1 S1 M1 z; exact absurd z (by omega)
    | succ n ih =>
      intro k A1 S1 M1 hn hk p1 p2 p3 p5 p4
      have h40 := p3.n
      unfold w_Model_fewest_L2
      rw [h40.1]
      by_cases ek : k = T.length
      · subst ek
        have hv : ∀ o, o < T.length → (Int32.ofNat o = -2 ↔ o = 40) := fun o ho => ⟨fun z => absurd z (fun z => by
          have := congrArg Int32.toInt z
          rw [oN_toInt (by omega), show (-2 : Int32).toInt = -2 from rfl] at this
          omega), fun z => absurd z (by omega)⟩
        refine itp (le_oN (Nat.le_refl _) (by omega)) (ct_together p3 p4 hv ?_)
        rw [if_neg (show ¬ (1 : Int32) = 0 by decide), tg_fb _ h40.2, i64_32 _ all256]
        exact ⟨257, l32 257 0 A1 S1 M1 (by omega) (by omega) p1 p2 ⟨p3, p4⟩ p5.1 p5.2.1 p5.2.2.1 p5.2.2.2 (fun j hj => absurd hj (by omega))⟩
      refine itn (nle_oN (by omega) (by omega)) (k_look (ct_look p3 (by omega) hF hCF (fun A2 S2 M2 p6 p7 p8 p9 p10 g1 => ?_)))
      rw [lit32 1, oN_add]
      refine ih (k + 1) A2 S2 M2 (by omega) (by omega) (p1.trans p6) (p2.trans p7) p8 ⟨(g1.L (f := 125) rfl 0).trans p5.1, (g1.L (f := 126) rfl 0).trans p5.2.1, (g1.L (f := 127) rfl 0).trans p5.2.2.1, (g1.L (f := 128) rfl 0).trans p5.2.2.2⟩ (fun i hi => ?_)
      by_cases e : i = k
      · rw [e]; exact p9
      · rw [p10 i e]; exact p4 i (by omega)
  unfold w_Model_fewest
  exact ⟨T.length + 1, l2 (T.length + 1) 0 A S M (by omega) (Nat.zero_le _) List.prefix_rfl List.prefix_rfl h ⟨l5, l6, l7, l8⟩ (fun i hi => absurd hi (by omega))⟩
end
