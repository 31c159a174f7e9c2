/-! THE OPERATION fewest, in the works: the whole -/
section
variable {BB A : List Nm} {B F t b : Nat} {T : List Trl} {L : Trl} {M M' M0 : Mem} {Q : Int32 → Mem → Prop} {Q' X : Mem → Prop} {a c d v : Int32} {f f' f2 h0 : Nat → Nat} {g r x n : Nat}
/-- in place: one more trial -/
def erI (f : Nat → Nat) (g k : Nat) (h : Nat → Nat) : Prop := (∀ x, x < 256 → h x ≤ f x) ∧ (∀ j, j < k → h (j ||| g) ≤ f j + 1) ∧ ∀ P : Nat → Nat → Prop, (∀ k v, k < 256 → P k v → P (k ||| g) (v + 1)) → (∀ k, k < 256 → f k < 1000 → P k (f k)) → ∀ k, k < 256 → h k < 1000 → P k (h k)
theorem erI.st {h : Nat → Nat} {k : Nat} (hg : g < 256) (hk : k < 256) (hI : erI f g k h) : erI f g (k + 1) (up1 h (k ||| g) (min (h (k ||| g)) (h k + 1))) := by
  obtain ⟨a, b, c⟩ := hI
  have hx := or_lt hk hg
  refine ⟨fun x hx => ?_, fun j hj => ?_, fun P p1 p2 x hx h1 => ?_⟩
  · unfold up1
    split
    · rename_i e; rw [e]; exact Nat.le_trans (Nat.min_le_left _ _) (a _ (by rw [← e]; exact hx))
    · exact a x hx
  · unfold up1
    by_cases ej : j = k
    · rw [ej, if_pos rfl]
      exact Nat.le_trans (Nat.min_le_right _ _) (Nat.succ_le_succ (a k hk))
    · have := b j (by omega)
      split
      · rename_i e
        rw [e] at this
        exact Nat.le_trans (Nat.min_le_left _ _) this
      · exact this
  · unfold up1 at h1 ⊢
    by_cases e : x = k ||| g
    · rw [if_pos e] at h1 ⊢
      by_cases cm : h (k ||| g) ≤ h k + 1
      · rw [Nat.min_eq_left cm] at h1 ⊢
        rw [← e] at h1 ⊢
        exact c P p1 p2 x hx h1
      · rw [Nat.min_eq_right (by omega)] at h1 ⊢
        rw [e]
        exact p1 k _ hk (c P p1 p2 k hk (by omega))
    · rw [if_neg e] at h1 ⊢
      exact c P p1 p2 x hx h1
theorem c_fw98 {K1 : Int32 → Int32 → Mem → Prop} {K : Int32 → Int32 → Int32 → Mem → Prop} {v1 v2 : Int32} {t : Nat} (hg : g < 256) (hQ : ∀ h M', WkT BB A B F T M' → Ar 103 h M' → mL M' 104 0 = 256 → erI f g 256 h → K v1 v2 (Int32.ofNat (t + 1)) M') : ∀ n k h M, 256 - k < n → k ≤ 256 → WkT BB A B F T M → Ar 103 h M → mL M 104 0 = 256 → erI f g k h → w_Works_fewest_L98 0 Q X K1 K n v1 v2 (Int32.ofNat t) (Int32.ofNat g) (Int32.ofNat k) M := by
  intro n
  induction n with
  | zero => intro k h M z; exact absurd z (by omega)
  | succ n ih =>
    intro k h M hn hk p1 p3 p5 p4
    unfold w_Works_fewest_L98
    by_cases e : k = 256
    · subst e
      refine itp (by decide) ?_
      rw [lit32 1, oN_add]
      exact hQ h M p1 p3 p5 p4
    refine itn (nle_oN (a := 256) (by omega) (by omega)) ?_
    have hx := or_lt (show k < 256 by omega) hg
    rw [or32, oN_tnc (k := k ||| g) (by omega), oN_tnc (k := k) (by omega), (p3.2 _ hx).1, (p3.2 k (by omega)).1, lit32 1, oN_add, oN_add]
    have b1 := (p3.2 _ hx).2
    have b2' := (p3.2 k (by omega)).2
    refine ⟨by rw [p3.1]; exact (vp_oN (by omega)).mpr hx, by rw [p3.1]; exact (vp_oN (by omega)).mpr (by omega), c_minN (by omega) (by omega) ⟨by rw [p3.1]; exact (vp_oN (by omega)).mpr hx, ?_⟩⟩
    have f1 : Fr (30423614405477505635920876929024) M (sI M 103 0 (k ||| g) (Int32.ofNat (min (h (k ||| g)) (h k + 1)))) := Fr.wIa rfl rfl (Fr.rf _ _)
    exact ih (k + 1) _ _ (by omega) (by omega) (p1.w0 f1) (p3.set hx (Nat.le_trans (Nat.min_le_left _ _) b1)) p5 (p4.st hg (by omega))
/-- a round over all trials up to t -/
def rnI (T : List Trl) (t : Nat) (f h : Nat → Nat) : Prop := (∀ (E : Nat → Bool) k, k < 256 → h (k ||| orZ (fNt T) E t) ≤ f k + cnZ E t) ∧ ∀ P : Nat → Nat → Prop, (∀ i, i < T.length → ∀ k v, k < 256 → P k v → P (k ||| fNt T i) (v + 1)) → (∀ k, k < 256 → f k < 1000 → P k (f k)) → ∀ k, k < 256 → h k < 1000 → P k (h k)
theorem rnI.rf : rnI T 0 f f := ⟨fun E k _ => by show f (k ||| 0) ≤ f k + 0; rw [Nat.or_zero]; exact Nat.le_refl _, fun P _ h => h⟩
theorem fo_lt {E : Nat → Bool} {t : Nat} : orZ (fNt T) E t < 256 := orZ_lt (fun _ _ => fNt_lt)
theorem rnI.st {h : Nat → Nat} (ht : t < T.length) (hI : rnI T t f h) (hE : erI h (fNt T t) 256 f') : rnI T (t + 1) f f' := by
  refine ⟨fun E k hk => ?_, fun P p1 p2 k hk hlt => hE.2.2 P (p1 t ht) (hI.2 P p1 p2) k hk hlt⟩
  have hx := or_lt hk (fo_lt (T := T) (E := E) (t := t))
  have q := hI.1 E k hk
  unfold orZ cnZ
  cases E t with
  | true =>
    rw [if_pos rfl, if_pos rfl, ← Nat.or_assoc]
    have := hE.2.1 _ hx
    omega
  | false =>
    rw [if_neg (by decide), if_neg (by decide)]
    have := hE.1 _ hx
    omega
theorem rnI.tr (h : rnI T T.length f f') (h2 : rnI T T.length f' f2) : rnI T T.length f f2 := by
  refine ⟨fun E k hk => ?_, fun P p1 p2 => h2.2 P p1 (h.2 P p1 p2)⟩
  have a := h.1 E k hk
  have b := h2.1 (fun _ => false) _ (or_lt hk (fo_lt (T := T) (E := E) (t := T.length)))
  obtain ⟨z1, z2⟩ := or0 (g := fNt T) (Z := fun _ => false) (n := T.length) (fun _ _ => rfl)
  rw [z1, z2, Nat.or_zero] at b
  omega
theorem c_wfewest (h : WkT BB A B F T M) (h3 : mL M 103 0 = 256) (h4 : mL M 104 0 = 256) (hF : F < 1000000) (hCF : 601 < F) (hQ : ∀ v A' M', IsF (mNt T) (fNt T) T.length v → A <+: A' → WkT BB A' B F T M' → mL M' 103 0 = 256 → mL M' 104 0 = 256 → Q (Int32.ofNat v) M') : w_Works_fewest 0 Q X M := by
  have hT : ∀ L ∈ T, TrO L := fun L hL => (h.2.2 L hL).1
  have h40 := h.n
  have all256 := fo_lt (T := T) (E := fun _ => true) (t := T.length)
  -- the rounds
  have l72 : ∀ n j fA fB A1 M1, 8 - j < n → j ≤ 8 → A <+: A1 → WkT BB A1 B F T M1 → Ar 103 fB M1 → mL M1 104 0 = 256 → (sndW (mNt T) (fNt T) T.length 60 fA ∧ cmpW (mNt T) (fNt T) T.length 60 fA) → (j = 0 → fB = fA) → (0 < j → rnI T T.length fA fB) → w_Works_fewest_L72 0 Q X n (Int32.ofNat (orZ (fNt T) (fun _ => true) T.length)) (Int32.ofNat j) M1 := by
    intro n
    induction n with
    | zero => intro j fA fB A1 M1 z; exact absurd z (by omega)
    | succ n ih =>
      intro j fA fB A1 M1 hn hj p1 p2 p3 p4 p5 p6 p7
      unfold w_Works_fewest_L72
      by_cases e8 : j = 8
      · subst e8
        have hr := p7 (by omega)
        refine itp (by decide) ?_
        rw [oN_tnc (k := orZ (fNt T) (fun _ => true) T.length) (by omega), (p3.2 _ all256).1]
        exact ⟨by rw [p3.1]; exact (vp_oN (by omega)).mpr all256, hQ _ A1 M1 (W_fin h40.2 p5 (fun i hi => (mNt_eq hT hi).2.1) (fun _ _ => fNt_lt) hr.1 hr.2) p1 p2 p3.1 p4⟩
      refine itn (nle_oN (a := 8) (by omega) (by omega)) ⟨T.length + 1, ?_⟩
      have l80 : ∀ m t hB A2 M2, T.length - t < m → t ≤ T.length → A <+: A2 → WkT BB A2 B F T M2 → Ar 103 hB M2 → mL M2 104 0 = 256 → rnI T t fB hB → w_Works_fewest_L80 0 Q X (w_Works_fewest_L72 0 Q X n) m (Int32.ofNat (orZ (fNt T) (fun _ => true) T.length)) (Int32.ofNat j) (Int32.ofNat t) M2 := by
        intro m
        induction m with
        | zero => intro t hB A2 M2 z; exact absurd z (by omega)
        | succ m im =>
          intro t hB A2 M2 hm ht q1 q2 q3 q4 q5
          unfold w_Works_fewest_L80
          rw [q2.n.1]
          by_cases et : t = T.length
          · subst et
            refine itp (le_oN (Nat.le_refl _) (by omega)) ?_
            rw [lit32 1, oN_add]
            refine ih (j + 1) fA hB A2 M2 (by omega) (by omega) q1 q2 q3 q4 p5 (fun z => absurd z (by omega)) (fun _ => ?_)
            by_cases e0 : j = 0
            · rw [p6 e0] at q5; exact q5
            · exact (p7 (by omega)).tr q5
          refine itn (nle_oN (by omega) (by omega)) (c_brk q2 (by omega) hF hCF (fun A3 M3 q6 q7 g1 => ⟨257, ?_⟩))
          refine c_fw98 (f := hB) fNt_lt (fun h' M4 x1 x2 x3 x4 => ?_) 257 0 hB M3 (by omega) (by omega) q7 (q3.fr g1) ((g1.L (f := 104) rfl 0).trans q4) ⟨fun _ _ => Nat.le_refl _, fun j hj => absurd hj (by omega), fun P _ hp => hp⟩
          exact im (t + 1) h' A3 M4 (by omega) (by omega) (q1.trans q6) x1 x2 x3 (q5.st (by omega) x4)
      exact l80 (T.length + 1) 0 fB A1 M1 (by omega) (Nat.zero_le _) p1 p2 p3 p4 rnI.rf
  -- the rules
  have l45 : ∀ n r fA A1 M1, 60 - r < n → 1 ≤ r → r ≤ 60 → A <+: A1 → WkT BB A1 B F T M1 → Ar 103 fA M1 → mL M1 104 0 = 256 → (sndW (mNt T) (fNt T) T.length r fA ∧ cmpW (mNt T) (fNt T) T.length r fA) → w_Works_fewest_L45 0 Q X n (Int32.ofNat (orZ (fNt T) (fun _ => true) T.length)) (Int32.ofNat r) M1 := by
    intro n
    induction n with
    | zero => intro r fA A1 M1 z; exact absurd z (by omega)
    | succ n ih =>
      intro r fA A1 M1 hn h1 h2 p1 p2 p3 p4 p5
      unfold w_Works_fewest_L45
      by_cases e : r = 60
      · subst e
        exact itp (by decide) ⟨9, l72 9 0 fA fA A1 M1 (by omega) (by omega) p1 p2 p3 p4 p5 (fun _ => rfl) (fun z => absurd z (by omega))⟩
      refine itn (nle_oN (a := 60) (by omega) (by omega)) (c_isRule ?_)
      have j64 : ∀ fB A2 M2, A <+: A2 → WkT BB A2 B F T M2 → Ar 103 fB M2 → mL M2 104 0 = 256 → (sndW (mNt T) (fNt T) T.length (r + 1) fB ∧ cmpW (mNt T) (fNt T) T.length (r + 1) fB) → w_Works_fewest_j64 0 Q X (w_Works_fewest_L45 0 Q X n) (Int32.ofNat (orZ (fNt T) (fun _ => true) T.length)) (Int32.ofNat r) M2 := fun fB A2 M2 q1 q2 q3 q4 q5 => by
        unfold w_Works_fewest_j64
        rw [lit32 1, oN_add]
        exact ih (r + 1) fB A2 M2 (by omega) (by omega) (by omega) q1 q2 q3 q4 q5
      cases eR : isR (Int32.ofNat r) with
      | false =>
        refine itp rfl (j64 fA A1 M1 p1 p2 p3 p4 (W_no p5 (fun i hi z => ?_)))
        have := (mNt_eq hT hi).2.2
        rw [z] at this
        unfold isR at eR
        rw [this, Bool.true_and, Bool.not_eq_false', beq_iff_eq] at eR
        have := (oN_inj (by omega) (by omega)).mp (eR.trans (show (0 : Int32) = Int32.ofNat 0 from rfl))
        omega
      | true =>
        refine itn (by decide) (c_meetOne p2 (by omega) p3 p4 hF hCF (fun f' A2 M2 q1 q2 q3 q4 q5 => ?_))
        rcases q5 with ⟨x1, x2⟩ | ⟨x1, x2, x3⟩
        · refine j64 f' A2 M2 (p1.trans q1) q2 q3 q4 ?_
          obtain ⟨y1, y2⟩ := W_no p5 x1
          refine ⟨fun k hk hlt => ?_, fun Z hZ => ?_⟩
          · rw [x2 k hk] at hlt ⊢; exact y1 k hk hlt
          · rw [x2 _ (orZ_lt (fun _ _ => fNt_lt))]; exact y2 Z hZ
        · exact j64 f' A2 M2 (p1.trans q1) q2 q3 q4 (W_ru (by omega) (fun _ _ => fNt_lt) p5 x1 x2 x3)
  have l4 : ∀ n t A1 M1, T.length - t < n → t ≤ T.length → A <+: A1 → WkT BB A1 B F T M1 → mL M1 103 0 = 256 → mL M1 104 0 = 256 → w_Works_fewest_L4 0 Q X n (Int32.ofNat (orZ (fNt T) (fun _ => true) t)) (Int32.ofNat t) M1 := by
    intro n
    induction n with
    | zero => intro t A1 M1 z; exact absurd z (by omega)
    | succ n ih =>
      intro t A1 M1 hn ht p1 p2 p3 p4
      unfold w_Works_fewest_L4
      rw [p2.n.1]
      by_cases et : t = T.length
      · subst et
        refine itp (le_oN (Nat.le_refl _) (by omega)) ⟨by rw [p3]; omega, _, rfl, show vp_in (Int32.ofNat 0) (mL M1 103 0) from by rw [p3]; exact (vp_oN (by omega)).mpr (by omega), 60, ?_⟩
        rw [show (0 : Int32).toNatClampNeg = 0 from rfl]
        have f1 : Fr (30423614405477505635920876929024) M1 (sI (flI M1 103 0 (1000 : Int32)) 103 0 0 (0 : Int32)) := Fr.wIa rfl rfl (Fr.wfl rfl rfl (Fr.rf _ _))
        refine l45 60 1 (fun k => if k = 0 then 0 else 1000) A1 _ (by omega) (by omega) (by omega) p1 (p2.w0 f1) ⟨p3, fun k hk => ?_⟩ p4 (W_0 rfl (fun k _ hk => if_neg hk))
        rw [mI_sI]
        dsimp only
        by_cases e0 : k = 0
        · rw [if_pos ⟨rfl, rfl, e0⟩, if_pos e0]; exact ⟨rfl, Nat.zero_le _⟩
        · rw [if_neg (fun z => e0 z.2.2), if_neg e0, mI_flI, if_pos ⟨rfl, rfl, by rw [p3]; exact hk⟩]; exact ⟨rfl, Nat.le_refl _⟩
      refine itn (nle_oN (by omega) (by omega)) (c_brk p2 (by omega) hF hCF (fun A2 M2 q1 q2 g1 => ?_))
      rw [or32, lit32 1, oN_add]
      exact ih (t + 1) A2 M2 (by omega) (by omega) (p1.trans q1) q2 ((g1.L (f := 103) rfl 0).trans p3) ((g1.L (f := 104) rfl 0).trans p4)
  unfold w_Works_fewest
  exact ⟨T.length + 1, l4 (T.length + 1) 0 A M (by omega) (Nat.zero_le _) List.prefix_rfl h h3 h4⟩
end
