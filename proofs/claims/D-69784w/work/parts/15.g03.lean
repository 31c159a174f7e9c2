/-! THE MACHINE IN THE WORKS: classes and locks of references -/
section
variable {A : List Nm} {W : List Cls} {w C B F t L : Nat} {br : Int32} {nq nk np nh nr : Nat} {s s' : Ms} {M M' M1 : Mem} {S : Nat} {l : Ln} {U : List Un} {r : Int32} {Q : Int32 → Mem → Prop}
theorem le800 {n : Nat} (h : n < 2147483648) : Int32.ofNat n ≤ 800 ↔ n ≤ 800 := oN_le h (b := 800) (by omega)
theorem sub800 {n : Nat} (h : 801 ≤ n) : Int32.ofNat n - 800 - 1 = Int32.ofNat (n - 801) := by
  rw [lit32 800, oN_sub (by omega), lit32 1, oN_sub (by omega), show n - 800 - 1 = n - 801 by omega]
/-- a reference: an object that is there, or a fault -/
theorem vRf.c (hv : vRf s r) (h0 : r ≠ 0) : ∃ n, r = Int32.ofNat n ∧ r.toNatClampNeg = n ∧ ((n ≤ 800 ∧ thr s n = true) ∨ (801 ≤ n ∧ n - 801 < (zF s).length ∧ n < 2000000)) := by
  obtain ⟨n, e, en, hn⟩ := hv.n
  refine ⟨n, e, en, ?_⟩
  rcases hn with z | z | z
  · rw [z] at e; exact absurd e h0
  · exact Or.inl z
  · exact Or.inr ⟨z.1, by omega, z.2.2⟩
theorem c_classOf (hH : rH w s M) (hF : rFt w B F s M) (hv : vRf s r) (h0 : r ≠ 0) (hQ : Q (oCl (clR s r)) M) : w_Machine_classOf w r Q M := by
  obtain ⟨n, e, en, hn⟩ := hv.c h0
  unfold w_Machine_classOf
  unfold clR at hQ
  rw [en] at hQ ⊢
  rcases hn with ⟨z1, z2⟩ | ⟨z1, z2, z3⟩
  · rw [if_neg (by omega)] at hQ
    rw [e]
    refine itp ((le800 (by omega)).mpr z1) ⟨by rw [hH.1.1.1]; exact (vp_oN (by omega)).mpr (by omega), ?_⟩
    rw [(hH.2.2.2.1 n z2).1]; exact hQ
  · rw [if_pos (by omega)] at hQ
    obtain ⟨-, x, m, ⟨b1, b2', b3, -⟩, c, -, d⟩ := hF
    obtain ⟨c1, c2, -⟩ := c 0 (by omega)
    rw [e]
    refine itn (fun z => absurd ((le800 (by omega)).mp z) (by omega)) ⟨x 0, c1, ?_, ?_⟩
    · rw [sub800 z1, c2]; exact (vp_oN (by omega)).mpr (by omega)
    · rw [sub800 z1, oN_tnc (by omega), (d _ z2).1]; exact hQ
theorem c_ruleOf (hF : rFt w B F s M) (hv : vRf s r) (h0 : r ≠ 0) (hQ : Q (ruR s r) M) : w_Machine_ruleOf w r Q M := by
  obtain ⟨n, e, en, hn⟩ := hv.c h0
  unfold w_Machine_ruleOf
  unfold ruR at hQ
  rw [en] at hQ
  rcases hn with ⟨z1, z2⟩ | ⟨z1, z2, z3⟩
  · rw [if_neg (by omega)] at hQ
    rw [e]
    exact itp ((le800 (by omega)).mpr z1) hQ
  · rw [if_pos (by omega)] at hQ
    obtain ⟨-, x, m, ⟨b1, b2', b3, -⟩, c, -, d⟩ := hF
    obtain ⟨c1, c2, -⟩ := c 1 (by omega)
    rw [e]
    refine itn (fun z => absurd ((le800 (by omega)).mp z) (by omega)) ⟨x 1, c1, ?_, ?_⟩
    · rw [sub800 z1, c2]; exact (vp_oN (by omega)).mpr (by omega)
    · rw [sub800 z1, oN_tnc (by omega), (d _ z2).2.1]; exact hQ
theorem le_pos {x : Int32} : ¬ x ≤ 0 ↔ 0 < x := Int32.not_le
theorem c_isLocked {i : Nat} (hH : rH w s M) (hF : rFt w B F s M) (hv : vRf s r) (h0 : r ≠ 0) (h7 : mI M 7 i 0 = Int32.ofNat t) (hQ : Q (b2 (decide (lckd s t r))) M) : w_Machine_isLockedFor w i r Q M := by
  obtain ⟨n, e, en, hn⟩ := hv.c h0
  unfold w_Machine_isLockedFor
  have key : ∀ a b : Int32, lkR s r = (a, b) → (a ≤ 0 → Q 0 M) ∧ (¬ a ≤ 0 → (b = Int32.ofNat t → Q 0 M) ∧ (¬ b = Int32.ofNat t → Q 1 M)) := fun a b hab => by
    unfold lckd at hQ
    rw [hab] at hQ
    refine ⟨fun z => ?_, fun z => ⟨fun y => ?_, fun y => ?_⟩⟩
    · rw [decide_eq_false (fun x => le_pos.mpr x.1 z)] at hQ; exact hQ
    · rw [decide_eq_false (fun x => x.2 y)] at hQ; exact hQ
    · rw [decide_eq_true ⟨le_pos.mp z, y⟩] at hQ; exact hQ
  rcases hn with ⟨z1, z2⟩ | ⟨z1, z2, z3⟩
  · obtain ⟨k1, k2⟩ := key (gOb s n).2.2.2.1 (gOb s n).2.2.2.2 (by unfold lkR; rw [en, if_neg (by omega)])
    have ho := hH.2.2.2.1 n z2
    rw [en, e]
    refine itp ((le800 (by omega)).mpr z1) ⟨by rw [hH.1.2.1]; exact (vp_oN (by omega)).mpr (by omega), ?_⟩
    rw [ho.2.2.2.1]
    by_cases ca : (gOb s n).2.2.2.1 ≤ 0
    · exact itp ca (k1 ca)
    · refine itn ca ⟨by rw [hH.1.2.2]; exact (vp_oN (by omega)).mpr (by omega), ?_⟩
      rw [ho.2.2.2.2 (fun z => ca (by rw [z]; decide)), h7]
      by_cases cb : (gOb s n).2.2.2.2 = Int32.ofNat t
      · exact itp cb ((k2 ca).1 cb)
      · exact itn cb ((k2 ca).2 cb)
  · obtain ⟨k1, k2⟩ := key (gFt s (n - 801)).2.2.1 (gFt s (n - 801)).2.2.2 (by unfold lkR; rw [en, if_pos (by omega)])
    obtain ⟨-, x, m, ⟨b1, b2', b3, -⟩, c, -, d⟩ := hF
    obtain ⟨c1, c2, -⟩ := c 2 (by omega)
    obtain ⟨c3, c4, -⟩ := c 3 (by omega)
    obtain ⟨-, -, d3, d4⟩ := d _ z2
    rw [e, sub800 z1]
    refine itn (fun z => absurd ((le800 (by omega)).mp z) (by omega)) ⟨x 2, c1, by rw [c2]; exact (vp_oN (by omega)).mpr (by omega), ?_⟩
    rw [oN_tnc (by omega), d3]
    by_cases ca : (gFt s (n - 801)).2.2.1 ≤ 0
    · exact itp ca (k1 ca)
    · refine itn ca ⟨x 3, c3, by rw [c4]; exact (vp_oN (by omega)).mpr (by omega), ?_⟩
      rw [d4, h7]
      by_cases cb : (gFt s (n - 801)).2.2.2 = Int32.ofNat t
      · exact itp cb ((k2 ca).1 cb)
      · exact itn cb ((k2 ca).2 cb)
/-- whether a thread waits still -/
theorem c_waits {i : Nat} (hH : rH w s M) (hF : rFt w B F s M) (hC : rC W w s M) (h46 : mL M 46 w = 51) (h51 : W.length ≤ 51) (hL : rL i t (zN s t) M) (hX : LX W s t) (hQ : Q (b2 (waitS s t)) M) : w_Machine_waits w i Q M := by
  unfold w_Machine_waits
  obtain ⟨-, ⟨h0, -⟩, -, hw, -⟩ := hL
  unfold rW at hw
  unfold waitS at hQ
  have hx := hX.2.2
  cases el : lWt (zN s t) with
  | none =>
    rw [el] at hw hQ
    rw [hw.1, hw.2]
    exact itp (by decide) (itp (by decide) hQ)
  | some y =>
    have hx := hx y el
    cases y with
    | inl r =>
      rw [el] at hw hQ
      dsimp only at hw hx
      obtain ⟨n, e, en, hn⟩ := hx.1.c hx.2
      have hn0 : 0 < n := by
        rcases hn with z | z
        · exact Nat.pos_of_ne_zero (fun q => hx.2 (by rw [e, q]; rfl))
        · omega
      rw [hw.1]
      refine itn (fun z => ?_) (c_isLocked hH hF hx.1 hx.2 h0 ⟨?_, hQ⟩)
      · rw [e] at z
        have := (oN_le (a := n) (b := 0) (by omega) (by omega)).mp z
        omega
      · cases decide (lckd s t r) <;> simp [b2]
    | inr k =>
      rw [el] at hw hQ
      dsimp only at hw hx hQ
      have hk : k < W.length := hx
      rw [hw.1, hw.2]
      obtain ⟨c1, c2⟩ := hC.2.1 k hk
      refine itp (by decide) (itn (oN_nonneg (by omega)) ⟨by rw [h46]; exact (vp_oN (by omega)).mpr (by omega), ?_⟩)
      rw [oN_tnc (by omega), c1]
      by_cases ca : zC s k = 1
      · refine itp ca ⟨by rw [hC.1.1]; exact (vp_oN (by omega)).mpr (by omega), ?_⟩
        rw [c2 ca, h0]
        by_cases cb : zO s k = Int32.ofNat t
        · rw [decide_eq_false (fun z => z.2 cb)] at hQ; exact itp cb hQ
        · rw [decide_eq_true ⟨ca, cb⟩] at hQ; exact itn cb hQ
      · rw [decide_eq_false (fun z => ca z.1)] at hQ; exact itn ca hQ
end
