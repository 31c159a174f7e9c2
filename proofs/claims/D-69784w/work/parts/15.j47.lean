/-! THE OPERATION fewest, in the works -/
noncomputable def mNt (T : List Trl) (i : Nat) : Nat := (metN (gTr T i)).toNatClampNeg
noncomputable def fNt (T : List Trl) (i : Nat) : Nat := fnN (gTr T i) 8
/-- a row of numbers of trials -/
def Ar (a : Nat) (f : Nat → Nat) (M : Mem) : Prop := mL M a 0 = 256 ∧ ∀ k, k < 256 → mI M a 0 k = Int32.ofNat (f k) ∧ f k ≤ 1000
section
variable {BB A : List Nm} {B F t b : Nat} {T : List Trl} {L : Trl} {M M' M0 : Mem} {Q : Int32 → Mem → Prop} {Q' X : Mem → Prop} {a c d v : Int32} {f h0 : Nat → Nat} {g r x : Nat}
theorem Ar.fr {R a : Nat} (h : Ar a f M) (hf : Fr R M M') (h20 : Nat.ble 20 a = true := by rfl) (h1 : R.testBit a = false := by rfl) (h2 : R.testBit (5000 + a) = false := by rfl) : Ar a f M' := ⟨(hf.L h2 0).trans h.1, fun k hk => ⟨(hf.Ia h20 h1 0 k).trans (h.2 k hk).1, (h.2 k hk).2⟩⟩
theorem mI_flI {f i k i' f' : Nat} {v : Int32} : mI (flI M f i v) f' i' k = if f' = f ∧ i' = i ∧ k < mL M f i then v else mI M f' i' k := rfl
theorem c_minN {p q : Nat} (hp : p < 2147483648) (hq : q < 2147483648) (h : Q (Int32.ofNat (min p q)) M) : w_JMath_min (Int32.ofNat p) (Int32.ofNat q) Q M := by
  unfold w_JMath_min
  by_cases c : q < p
  · rw [Nat.min_eq_right (by omega)] at h
    exact itp ((oN_lt hq hp).mpr c) h
  · rw [Nat.min_eq_left (by omega)] at h
    exact itn (fun z => c ((oN_lt hq hp).mp z)) h
theorem mNt_eq (hT : ∀ L ∈ T, TrO L) {i : Nat} (hi : i < T.length) : metN (gTr T i) = Int32.ofNat (mNt T i) ∧ mNt T i < 60 ∧ ruB (Int32.ofNat (mNt T i)) = true := by
  have h := met_ru (hT _ (gTr_mem hi))
  obtain ⟨x, hx, ex⟩ := ruB_in h
  have : mNt T i = x := by unfold mNt; rw [ex, oN_tnc (by omega)]
  rw [this, ← ex]
  exact ⟨rfl, hx, h⟩
theorem fNt_lt {i : Nat} : fNt T i < 256 := fnN_lt _ 8
theorem WkT.w0 (h : WkT BB A B F T M) (hf : Fr (30423614405477505635920876929024) M M') : WkT BB A B F T M' := ⟨h.1.fr hf, ⟨h.2.1.1.fr hf, h.2.1.2.fr hf⟩, h.2.2⟩
theorem k_brk (h : w_Works_breaksFound 0 a (fun v M' => Fr F_Works_breaksFound M M' → Q v M') (fun M' => X M') M) : w_Works_breaksFound 0 a Q X M := mf_w_Works_breaksFound (fun _ _ hf hp => hp hf) (fun _ _ hp => hp) h
theorem k_ruM (h : w_Works_ruleMet 0 a (fun v M' => Fr F_Works_ruleMet M M' → Q v M') (fun M' => X M') M) : w_Works_ruleMet 0 a Q X M := mf_w_Works_ruleMet (fun _ _ hf hp => hp hf) (fun _ _ hp => hp) h
theorem c_brk (h : WkT BB A B F T M) (ht : t < T.length) (hF : F < 1000000) (hCF : 601 < F) (hQ : ∀ A' M', A <+: A' → WkT BB A' B F T M' → Fr F_Works_breaksFound M M' → Q (Int32.ofNat (fNt T t)) M') : w_Works_breaksFound 0 (Int32.ofNat t) Q X M := by
  refine k_brk ?_
  have loop : ∀ n k A1 M1, 8 - k < n → k ≤ 8 → A <+: A1 → WkT BB A1 B F T M1 → w_Works_breaksFound_L4 0 (fun v M' => Fr F_Works_breaksFound M M' → Q v M') (fun M' => X M') n (Int32.ofNat t) (fnK (gTr T t) k) (Int32.ofNat k) M1 := by
    intro n
    induction n with
    | zero => intro k A1 M1 z; exact absurd z (by omega)
    | succ n ih =>
      intro k A1 M1 hn hk p1 p2
      unfold w_Works_breaksFound_L4
      by_cases e8 : k = 8
      · subst e8
        refine itp (by decide) ?_
        rw [fnK_eq]
        exact hQ A1 M1 p1 p2
      refine itn (nle_oN (a := 8) (by omega) (by omega)) ?_
      have hp : 2 ^ k < 256 := by
        have : 2 ^ k ≤ 2 ^ 7 := Nat.pow_le_pow_right (by decide) (by omega)
        omega
      rw [shl_k k (by omega)]
      refine c_finds0 p2 ht hp hF hCF (fun A2 M2 p3 p4 => ?_)
      have j29 : ∀ v, v = (if fnB (gTr T t) (Int32.ofNat (2 ^ k)) = true then Int32.ofNat (2 ^ k) else 0) → w_Works_breaksFound_j29 0 (fun v M' => Fr F_Works_breaksFound M M' → Q v M') (fun M' => X M') (w_Works_breaksFound_L4 0 (fun v M' => Fr F_Works_breaksFound M M' → Q v M') (fun M' => X M') n) (Int32.ofNat t) (Int32.ofNat k) v (fnK (gTr T t) k) M2 := fun v ev => by
        unfold w_Works_breaksFound_j29
        rw [lit32 1, oN_add, ev]
        exact ih (k + 1) A2 M2 (by omega) (by omega) (p1.trans p3) p4
      cases ef : fnB (gTr T t) (Int32.ofNat (2 ^ k)) with
      | false => exact itp rfl (j29 0 (by rw [ef]; rfl))
      | true => exact itn (by decide) (j29 _ (by rw [ef]; rfl))
  unfold w_Works_breaksFound
  exact ⟨9, loop 9 0 A M (by omega) (by omega) List.prefix_rfl h⟩
theorem or_lt {x y : Nat} (hx : x < 256) (hy : y < 256) : x ||| y < 256 := Nat.or_lt_two_pow (n := 8) hx hy
/-- one more trial of a rule: what the next row has -/
def moI (f h0 : Nat → Nat) (g k : Nat) (h : Nat → Nat) : Prop := (∀ x, x < 256 → h x ≤ h0 x) ∧ (∀ j, j < k → h (j ||| g) ≤ f j + 1) ∧ ∀ x, x < 256 → h x < 1000 → h x = h0 x ∨ ∃ j, j < 256 ∧ x = j ||| g ∧ f j + 1 = h x
theorem Ar.set {a x y : Nat} {h : Nat → Nat} (hA : Ar a h M) (hx : x < 256) (hy : y ≤ 1000) : Ar a (up1 h x y) (sI M a 0 x (Int32.ofNat y)) := by
  refine ⟨hA.1, fun k hk => ?_⟩
  rw [mI_sI]
  unfold up1
  by_cases e : k = x
  · rw [if_pos ⟨rfl, rfl, e⟩, if_pos e]; exact ⟨rfl, hy⟩
  · rw [if_neg (fun z => e z.2.2), if_neg e]; exact hA.2 k hk
theorem moI.st {h : Nat → Nat} {k : Nat} (hg : g < 256) (hk : k < 256) (hI : moI f h0 g k h) : moI f h0 g (k + 1) (up1 h (k ||| g) (min (h (k ||| g)) (f k + 1))) := by
  obtain ⟨a, b, c⟩ := hI
  have hx := or_lt hk hg
  refine ⟨fun x hx => ?_, fun j hj => ?_, fun x hx h1 => ?_⟩
  · unfold up1
    split
    · rename_i e; rw [e]; exact Nat.le_trans (Nat.min_le_left _ _) (a _ (by rw [← e]; exact hx))
    · exact a x hx
  · unfold up1
    by_cases ej : j = k
    · rw [ej, if_pos rfl]; exact Nat.min_le_right _ _
    · have := b j (by omega)
      split
      · rename_i e
        rw [e] at this
        exact Nat.le_trans (Nat.min_le_left _ _) this
      · exact this
  · unfold up1 at h1 ⊢
    by_cases e : x = k ||| g
    · rw [if_pos e] at h1 ⊢
      by_cases cm : h (k ||| g) ≤ f k + 1
      · rw [Nat.min_eq_left cm] at h1 ⊢
        rw [← e] at h1 ⊢
        exact c x hx h1
      · rw [Nat.min_eq_right (by omega)]
        exact Or.inr ⟨k, hk, e, rfl⟩
    · rw [if_neg e] at h1 ⊢
      exact c x hx h1
theorem c_mo46 {K : Int32 → Int32 → Int32 → Mem → Prop} {v1 v2 v3 : Int32} (hg : g < 256) (hQ : ∀ h M', WkT BB A B F T M' → Ar 103 f M' → Ar 104 h M' → moI f h0 g 256 h → w_Works_meetOne_j92 0 Q' X K v1 v2 v3 M') : ∀ n k h M, 256 - k < n → k ≤ 256 → WkT BB A B F T M → Ar 103 f M → Ar 104 h M → moI f h0 g k h → w_Works_meetOne_L46 0 Q' X K n v1 v2 v3 (Int32.ofNat g) (Int32.ofNat k) M := by
  intro n
  induction n with
  | zero => intro k h M z; exact absurd z (by omega)
  | succ n ih =>
    intro k h M hn hk p1 p2 p3 p4
    unfold w_Works_meetOne_L46
    by_cases e : k = 256
    · subst e
      exact itp (by decide) (hQ h M p1 p2 p3 p4)
    refine itn (nle_oN (a := 256) (by omega) (by omega)) ?_
    have hx := or_lt (show k < 256 by omega) hg
    rw [or32, oN_tnc (k := k ||| g) (by omega), oN_tnc (k := k) (by omega), (p3.2 _ hx).1, (p2.2 k (by omega)).1, lit32 1, oN_add, oN_add]
    have b1 := (p3.2 _ hx).2
    have b2' := (p2.2 k (by omega)).2
    refine ⟨by rw [p3.1]; exact (vp_oN (by omega)).mpr hx, by rw [p2.1]; exact (vp_oN (by omega)).mpr (by omega), c_minN (by omega) (by omega) ⟨by rw [p3.1]; exact (vp_oN (by omega)).mpr hx, ?_⟩⟩
    have f1 : Fr (30423614405477505635920876929024) M (sI M 104 0 (k ||| g) (Int32.ofNat (min (h (k ||| g)) (f k + 1)))) := Fr.wIa rfl rfl (Fr.rf _ _)
    have f2 : Fr (20282409603651670423947251286016) M (sI M 104 0 (k ||| g) (Int32.ofNat (min (h (k ||| g)) (f k + 1)))) := Fr.wIa rfl rfl (Fr.rf _ _)
    exact ih (k + 1) _ _ (by omega) (by omega) (p1.w0 f1) (p2.fr f2) (p3.set hx (Nat.le_trans (Nat.min_le_left _ _) b1)) (p4.st hg (by omega))
/-- what meetOne leaves -/
def moO (T : List Trl) (r : Nat) (f f' : Nat → Nat) : Prop := ((∀ i, i < T.length → mNt T i ≠ r) ∧ ∀ k, k < 256 → f' k = f k) ∨ ((∃ i, i < T.length ∧ mNt T i = r) ∧ (∀ t, t < T.length → mNt T t = r → ∀ k, k < 256 → f' (k ||| fNt T t) ≤ f k + 1) ∧ ∀ k, k < 256 → f' k < 1000 → ∃ t, t < T.length ∧ mNt T t = r ∧ ∃ k', k' < 256 ∧ k = k' ||| fNt T t ∧ f k' + 1 ≤ f' k)
theorem c_meetOne (h : WkT BB A B F T M) (hr : r < 60) (hf : Ar 103 f M) (h4 : mL M 104 0 = 256) (hF : F < 1000000) (hCF : 601 < F) (hQ : ∀ f' A' M', A <+: A' → WkT BB A' B F T M' → Ar 103 f' M' → mL M' 104 0 = 256 → moO T r f f' → Q' M') : w_Works_meetOne 0 (Int32.ofNat r) Q' X M := by
  have hT : ∀ L ∈ T, TrO L := fun L hL => (h.2.2 L hL).1
  have h40 := h.n
  unfold w_Works_meetOne
  refine ⟨by rw [h4]; omega, _, rfl, T.length + 1, ?_⟩
  have f1 : Fr (30423614405477505635920876929024) M (flI M 104 0 (1000 : Int32)) := Fr.wfl rfl rfl (Fr.rf _ _)
  have f2 : Fr (20282409603651670423947251286016) M (flI M 104 0 (1000 : Int32)) := Fr.wfl rfl rfl (Fr.rf _ _)
  have loop : ∀ n t fl h1 A1 M1, T.length - t < n → t ≤ T.length → A <+: A1 → WkT BB A1 B F T M1 → Ar 103 f M1 → Ar 104 h1 M1 → (fl = true ↔ ∃ i, i < t ∧ mNt T i = r) → (∀ i, i < t → mNt T i = r → ∀ k, k < 256 → h1 (k ||| fNt T i) ≤ f k + 1) → (∀ k, k < 256 → h1 k < 1000 → ∃ i, i < t ∧ mNt T i = r ∧ ∃ k', k' < 256 ∧ k = k' ||| fNt T i ∧ f k' + 1 ≤ h1 k) → w_Works_meetOne_L14 0 Q' X n (Int32.ofNat r) (b2 fl) (Int32.ofNat t) M1 := by
    intro n
    induction n with
    | zero => intro t fl h1 A1 M1 z; exact absurd z (by omega)
    | succ n ih =>
      intro t fl h1 A1 M1 hn ht p1 p2 p3 p4 p5 p6 p7
      unfold w_Works_meetOne_L14
      rw [p2.n.1]
      by_cases et : t = T.length
      · subst et
        refine itp (le_oN (Nat.le_refl _) (by omega)) ?_
        cases fl with
        | false =>
          exact itp rfl (hQ f A1 M1 p1 p2 p3 p4.1 (Or.inl ⟨fun i hi z => absurd (p5.mpr ⟨i, hi, z⟩) (by decide), fun _ _ => rfl⟩))
        | true =>
          refine itn (by decide) ⟨by decide, by decide, by decide, ?_, ?_, _, rfl, ?_⟩
          · show 0 + 256 ≤ _; rw [p4.1]; omega
          · show 0 + 256 ≤ _; rw [p3.1]; omega
          have g1 : Fr (30423614405477505635920876929024) M1 (cpI M1 104 0 (0 : Int32).toNatClampNeg 103 0 (0 : Int32).toNatClampNeg (256 : Int32).toNatClampNeg) := Fr.wcp rfl rfl (Fr.rf _ _)
          refine hQ h1 A1 _ p1 (p2.w0 g1) ⟨p3.1, fun k hk => ?_⟩ p4.1 (Or.inr ⟨p5.mp rfl, p6, p7⟩)
          rw [mI_cpI, if_pos ⟨rfl, rfl⟩, show (0 : Int32).toNatClampNeg = 0 from rfl, show (256 : Int32).toNatClampNeg = 256 from rfl, if_pos ⟨Nat.zero_le _, by omega⟩, Nat.sub_zero, Nat.zero_add]
          exact p4.2 k hk
      refine itn (nle_oN (by omega) (by omega)) (k_ruM (c_ruleMet p2 (by omega) hF hCF (fun A2 M2 p8 p9 f3 => ?_)))
      obtain ⟨em, hm, -⟩ := mNt_eq hT (show t < T.length by omega)
      have q3 : Ar 103 f M2 := p3.fr f3
      have q4 : Ar 104 h1 M2 := p4.fr f3
      rw [em]
      by_cases ce : mNt T t = r
      · rw [ce]
        refine itp rfl (c_brk p9 (by omega) hF hCF (fun A3 M3 p10 p11 f4 => ⟨257, ?_⟩))
        refine c_mo46 (h0 := h1) fNt_lt (fun h' M4 g1 g2 g3 g4 => ?_) 257 0 h1 M3 (by omega) (by omega) p11 (q3.fr f4) (q4.fr f4) ⟨fun x _ => Nat.le_refl _, fun j hj => absurd hj (by omega), fun x _ _ => Or.inl rfl⟩
        unfold w_Works_meetOne_j92
        rw [lit32 1, oN_add]
        refine ih (t + 1) true h' A3 M4 (by omega) (by omega) ((p1.trans p8).trans p10) g1 g2 g3 ⟨fun _ => ⟨t, by omega, ce⟩, fun _ => rfl⟩ (fun i hi mi k hk => ?_) (fun k hk hlt => ?_)
        · by_cases ei : i = t
          · rw [ei]; exact g4.2.1 k hk
          · exact Nat.le_trans (g4.1 _ (or_lt hk fNt_lt)) (p6 i (by omega) mi k hk)
        · rcases g4.2.2 k hk hlt with z | ⟨j, hj, e, z⟩
          · obtain ⟨i, x1, x2, k', x3, x4, x5⟩ := p7 k hk (by omega)
            exact ⟨i, by omega, x2, k', x3, x4, by omega⟩
          · exact ⟨t, by omega, ce, j, hj, e, by omega⟩
      · refine itn (fun z => ce ((oN_inj (by omega) (by omega)).mp z)) ?_
        unfold w_Works_meetOne_j92
        rw [lit32 1, oN_add]
        refine ih (t + 1) fl h1 A2 M2 (by clear p5 p6 p7; omega) (by clear p5 p6 p7; omega) (p1.trans p8) p9 q3 q4 ⟨fun z => ?_, fun ⟨i, x1, x2⟩ => p5.mpr ⟨i, ?_, x2⟩⟩ (fun i hi mi k hk => ?_) (fun k hk hlt => ?_)
        · obtain ⟨i, x1, x2⟩ := p5.mp z
          exact ⟨i, by omega, x2⟩
        · have : i ≠ t := fun z => ce (z ▸ x2)
          omega
        · have : i ≠ t := fun z => ce (z ▸ mi)
          exact p6 i (by omega) mi k hk
        · obtain ⟨i, x1, x2⟩ := p7 k hk hlt
          exact ⟨i, by omega, x2⟩
  refine loop (T.length + 1) 0 false (fun _ => 1000) A _ (by omega) (Nat.zero_le _) List.prefix_rfl (h.w0 f1) (hf.fr f2) ⟨h4, fun k hk => ⟨?_, Nat.le_refl _⟩⟩ ⟨fun z => (by cases z), fun ⟨i, x1, _⟩ => absurd x1 (by omega)⟩ (fun i hi => absurd hi (by omega)) (fun k _ hlt => absurd hlt (by decide))
  show mI (flI M 104 0 1000) 104 0 k = _
  rw [mI_flI, if_pos ⟨rfl, rfl, by rw [h4]; exact hk⟩]; rfl
end
