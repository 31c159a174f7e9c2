/-! the works' writer: labels -/
def tlP (x : Mth) (k : Nat) : Prop := (∃ i, i < (co x).length ∧ k ∈ iT (gin (co x) i)) ∨ ∃ i, i < (hs x).length ∧ (k = (ghn (hs x) i).1 ∨ k = (ghn (hs x) i).2.1 ∨ k = (ghn (hs x) i).2.2.1)
noncomputable def tls (x : Mth) (k : Nat) : Bool := @decide (tlP x k) (Classical.propDecidable _)
theorem tls_iff {x : Mth} {k : Nat} : tls x k = true ↔ tlP x k := by
  unfold tls
  exact @decide_eq_true_iff _ (Classical.propDecidable _)
/-- how many are told below k -/
def rnk (T : Nat → Bool) : Nat → Nat
  | 0 => 0
  | k + 1 => rnk T k + (if T k = true then 1 else 0)
theorem rnk_le {T : Nat → Bool} : ∀ k, rnk T k ≤ k
  | 0 => Nat.le_refl _
  | k + 1 => by
    have := rnk_le (T := T) k
    unfold rnk
    split <;> omega
def nbM (T : Nat → Prop) (n : Nat) (M : Mem) : Prop := ∀ k, k ≤ n → (T k → mI M 96 0 k = 0) ∧ (¬ T k → mI M 96 0 k = -1)
theorem nbM.of {T T' : Nat → Prop} {n : Nat} {M : Mem} (h : nbM T n M) (e : ∀ k, T k ↔ T' k) : nbM T' n M := fun k hk => ⟨fun z => (h k hk).1 ((e k).2 z), fun z => (h k hk).2 (fun y => z ((e k).1 y))⟩
theorem nbM.set {T T' : Nat → Prop} {n t : Nat} {M : Mem} (h : nbM T n M) (e : ∀ k, T' k ↔ (T k ∨ k = t)) : nbM T' n (sI M 96 0 t 0) := fun k hk => by
  rw [mI_sI]
  by_cases ek : k = t
  · rw [if_pos ⟨rfl, rfl, ek⟩]
    exact ⟨fun _ => rfl, fun z => absurd ((e k).2 (Or.inr ek)) z⟩
  · rw [if_neg (fun z => ek z.2.2)]
    exact ⟨fun z => (h k hk).1 (((e k).1 z).resolve_right ek), fun z => (h k hk).2 (fun y => z ((e k).2 (Or.inl y)))⟩
abbrev S96 : Nat := (79228162514264337593543950336)
/-- what the labels of a method need of the world -/
def LbW (w nq np nh m : Nat) (q0 h0 : Nat) (x : Mth) (M : Mem) : Prop := (mR M 8 0 5 = some (5, w) ∧ mL M 96 0 = 81) ∧ ((mL M 62 w = 381 ∧ mL M 63 w = 381 ∧ mL M 64 w = 381 ∧ mL M 65 w = 381 ∧ m < 381) ∧ (nq ≤ mL M 66 w ∧ nq ≤ mL M 67 w ∧ nq ≤ mL M 68 w ∧ nq ≤ mL M 69 w) ∧ (np ≤ mL M 74 w ∧ 4 * nh ≤ mL M 75 w) ∧ nq < 1000000 ∧ np < 1000000 ∧ nh < 1000000) ∧ (mI M 62 w m = Int32.ofNat q0 ∧ mI M 63 w m = Int32.ofNat (co x).length ∧ mI M 64 w m = Int32.ofNat h0 ∧ mI M 65 w m = Int32.ofNat (hs x).length ∧ q0 + (co x).length ≤ nq ∧ h0 + (hs x).length ≤ nh) ∧ (∀ i, i < (co x).length → (mI M 66 w (q0 + i) = Int32.ofNat (gin (co x) i).1 ∧ (gin (co x) i).1 < 62) ∧ (isJ (gin (co x) i).1 → mI M 67 w (q0 + i) = Int32.ofNat (gtn (iT (gin (co x) i)) 0) ∧ (iT (gin (co x) i)).length = 1) ∧ ((gin (co x) i).1 = 40 → ∃ pf, mI M 68 w (q0 + i) = Int32.ofNat pf ∧ mI M 69 w (q0 + i) = Int32.ofNat (iT (gin (co x) i)).length ∧ pf + (iT (gin (co x) i)).length ≤ np ∧ ∀ j, j < (iT (gin (co x) i)).length → mI M 74 w (pf + j) = Int32.ofNat (gtn (iT (gin (co x) i)) j)) ∧ (¬ isJ (gin (co x) i).1 → (gin (co x) i).1 ≠ 40 → iT (gin (co x) i) = [])) ∧ ∀ i, i < (hs x).length → mI M 75 w (4 * (h0 + i)) = Int32.ofNat (ghn (hs x) i).1 ∧ mI M 75 w (4 * (h0 + i) + 1) = Int32.ofNat (ghn (hs x) i).2.1 ∧ mI M 75 w (4 * (h0 + i) + 2) = Int32.ofNat (ghn (hs x) i).2.2.1
section
variable {w nq np nh m q0 h0 : Nat} {x : Mth} {M M' : Mem} {Q : Mem → Prop}
theorem LbW.fr (h : LbW w nq np nh m q0 h0 x M) (hf : Fr S96 M M') : LbW w nq np nh m q0 h0 x M' := by
  have L : ∀ f i, S96.testBit (5000 + f) = false → mL M' f i = mL M f i := fun f i z => hf.L z i
  have I : ∀ f i k, Nat.ble 20 f = true → S96.testBit f = false → mI M' f i k = mI M f i k := fun f i k z1 z2 => hf.Ia z1 z2 i k
  unfold LbW at h ⊢
  rw [hf.R (f := 8) (k := 5) rfl 0, L 96 0 rfl, L 62 w rfl, L 63 w rfl, L 64 w rfl, L 65 w rfl, L 66 w rfl, L 67 w rfl, L 68 w rfl, L 69 w rfl, L 74 w rfl, L 75 w rfl, I 62 w m rfl rfl, I 63 w m rfl rfl, I 64 w m rfl rfl, I 65 w m rfl rfl]
  refine ⟨h.1, h.2.1, h.2.2.1, fun i hi => ?_, fun i hi => ?_⟩
  · obtain ⟨a, b, c, d⟩ := h.2.2.2.1 i hi
    rw [I 66 w _ rfl rfl, I 67 w _ rfl rfl, I 68 w _ rfl rfl, I 69 w _ rfl rfl]
    refine ⟨a, b, fun z => ?_, d⟩
    obtain ⟨pf, c1, c2, c3, c4⟩ := c z
    exact ⟨pf, c1, c2, c3, fun j hj => (I 74 w _ rfl rfl).trans (c4 j hj)⟩
  · obtain ⟨a, b, c⟩ := h.2.2.2.2 i hi
    rw [I 75 w _ rfl rfl, I 75 w _ rfl rfl, I 75 w _ rfl rfl]
    exact ⟨a, b, c⟩
/-- told by the first a instructions and the first b handlers -/
def tlN (x : Mth) (a b : Nat) (k : Nat) : Prop := (∃ i, i < a ∧ k ∈ iT (gin (co x) i)) ∨ ∃ i, i < b ∧ (k = (ghn (hs x) i).1 ∨ k = (ghn (hs x) i).2.1 ∨ k = (ghn (hs x) i).2.2.1)
theorem c_lab239 (hl : mL M 96 0 = 81) (n : Nat) (hn : n ≤ 80) (T : Nat → Bool) (hQ : ∀ M', Fr S96 M M' → (∀ k, k ≤ n → mI M' 96 0 k = if T k = true then Int32.ofNat (rnk T k) else -1) → Q M') : ∀ f k M1, k ≤ n + 1 → n + 1 - k < f → Fr S96 M M1 → (∀ j, j < k → mI M1 96 0 j = if T j = true then Int32.ofNat (rnk T j) else -1) → (∀ j, k ≤ j → j ≤ n → mI M1 96 0 j = if T j = true then 0 else -1) → w_Writer_labels_L239 0 Q f (Int32.ofNat n) (Int32.ofNat (rnk T k)) (Int32.ofNat k) M1
  | 0, k, M1, hk, hf, h1, h2, h3 => absurd hf (by omega)
  | f + 1, k, M1, hk, hf, h1, h2, h3 => by
    unfold w_Writer_labels_L239
    by_cases e : k = n + 1
    · exact itp (lt_oN (by omega) (by omega)) (hQ M1 h1 (fun j hj => h2 j (by omega)))
    refine itn (nlt_oN (by omega) (by omega)) ?_
    rw [oN_tnc (k := k) (by omega), h1.L rfl 0, hl, h3 k (Nat.le_refl _) (by omega)]
    have v : vp_in (Int32.ofNat k) 81 := (vp_oN (by omega)).mpr (by omega)
    refine ⟨v, ?_⟩
    have er : rnk T (k + 1) = rnk T k + (if T k = true then 1 else 0) := rfl
    unfold w_Writer_labels_j269
    by_cases c : T k = true
    · rw [if_pos c] at er ⊢
      refine itp (by decide) ⟨v, ?_⟩
      rw [lit32 1, oN_add, oN_add, ← er]
      refine c_lab239 hl n hn T hQ f (k + 1) _ (by omega) (by omega) (Fr.wIa rfl rfl h1) (fun j hj => ?_) (fun j hj hj2 => ?_)
      · rw [mI_sI]
        by_cases ej : j = k
        · rw [if_pos ⟨rfl, rfl, ej⟩, ej, if_pos c]
        · rw [if_neg (fun z => ej z.2.2)]; exact h2 j (by omega)
      · rw [mI_sI, if_neg (fun z => by have := z.2.2; omega)]; exact h3 j (by omega) hj2
    · rw [if_neg c] at er ⊢
      refine itn (by decide) ?_
      rw [lit32 1, oN_add]
      rw [show rnk T k = rnk T (k + 1) by omega]
      refine c_lab239 hl n hn T hQ f (k + 1) M1 (by omega) (by omega) h1 (fun j hj => ?_) (fun j hj hj2 => h3 j (by omega) hj2)
      by_cases ej : j = k
      · rw [ej, if_neg c, h3 k (Nat.le_refl _) (by omega), if_neg c]
      · exact h2 j (by omega)
theorem c_lab198 {k170 : Int32 → Int32 → Int32 → Mem → Prop} (h : LbW w nq np nh m q0 h0 x M) (hx : wfM x) {i : Nat} (hi : i < (hs x).length) {n : Nat} (hn : n = (co x).length) (hk : ∀ M', Fr S96 M M' → nbM (tlN x n (i + 1)) n M' → k170 (Int32.ofNat m) (Int32.ofNat n) (Int32.ofNat (4 * (h0 + i) + 4)) M') (hm : nbM (tlN x n i) n M) : w_Writer_labels_L198 0 Q k170 4 (Int32.ofNat m) (Int32.ofNat n) (Int32.ofNat (4 * (h0 + i))) 0 M := by
  have hw := hx.2.2.2.1.2 (ghn (hs x) i) (getD_mem hi)
  have hc80 := hx.2.2.1.1
  have hb := h.2.2.1
  have hr := h.2.1
  have one : ∀ (f j t : Nat) (T T' : Nat → Prop) (M1 : Mem), j < 3 → Fr S96 M M1 → mI M1 75 w (4 * (h0 + i) + j) = Int32.ofNat t → t ≤ n → nbM T n M1 → (∀ k, T' k ↔ (T k ∨ k = t)) → (∀ M2, Fr S96 M M2 → nbM T' n M2 → w_Writer_labels_L198 0 Q k170 f (Int32.ofNat m) (Int32.ofNat n) (Int32.ofNat (4 * (h0 + i))) (Int32.ofNat (j + 1)) M2) → w_Writer_labels_L198 0 Q k170 (f + 1) (Int32.ofNat m) (Int32.ofNat n) (Int32.ofNat (4 * (h0 + i))) (Int32.ofNat j) M1 := fun f j t T T' M1 hj hf et ht hT hT' hgo => by
    have h1 := h.fr hf
    unfold w_Writer_labels_L198
    refine itn (nle_oN (a := 3) (by omega) (by omega)) ⟨w, h1.1.1, ?_⟩
    have hr1 := h1.2.1.2.2.1.2
    rw [oN_add, oN_tnc (k := 4 * (h0 + i) + j) (by omega), et, oN_tnc (k := t) (by omega), h1.1.2]
    refine ⟨(vp_oN (by omega)).mpr (by omega), (vp_oN (by omega)).mpr (by omega), _, rfl, ?_⟩
    rw [lit32 1, oN_add]
    exact hgo _ (Fr.wIa rfl rfl hf) (hT.set hT')
  obtain ⟨a1, a2, a3⟩ := h.2.2.2.2 i hi
  refine one 3 0 _ _ (fun k => tlN x n i k ∨ k = (ghn (hs x) i).1) M (by omega) (Fr.rf _ _) a1 (by have := hw.1; omega) hm (fun k => Iff.rfl) (fun M1 f1 t1 => ?_)
  refine one 2 1 _ _ (fun k => (tlN x n i k ∨ k = (ghn (hs x) i).1) ∨ k = (ghn (hs x) i).2.1) M1 (by omega) f1 ((f1.Ia rfl rfl w _).trans a2) (by have := hw.2.1; omega) t1 (fun k => Iff.rfl) (fun M2 f2 t2 => ?_)
  refine one 1 2 _ _ (tlN x n (i + 1)) M2 (by omega) f2 ((f2.Ia rfl rfl w _).trans a3) (by have := hw.2.2.1; omega) t2 (fun k => ?_) (fun M3 f3 t3 => ?_)
  · constructor
    · rintro (z | ⟨j, hj, z⟩)
      · exact Or.inl (Or.inl (Or.inl (Or.inl z)))
      · by_cases ej : j = i
        · subst ej
          rcases z with z | z | z
          · exact Or.inl (Or.inl (Or.inr z))
          · exact Or.inl (Or.inr z)
          · exact Or.inr z
        · exact Or.inl (Or.inl (Or.inl (Or.inr ⟨j, by omega, z⟩)))
    · rintro ((((z | ⟨j, hj, z⟩) | z) | z) | z)
      · exact Or.inl z
      · exact Or.inr ⟨j, by omega, z⟩
      · exact Or.inr ⟨i, by omega, Or.inl z⟩
      · exact Or.inr ⟨i, by omega, Or.inr (Or.inl z)⟩
      · exact Or.inr ⟨i, by omega, Or.inr (Or.inr z)⟩
  · unfold w_Writer_labels_L198
    refine itp (le_oN (a := 3) (Nat.le_refl _) (by omega)) ?_
    rw [lit32 4, oN_add]
    exact hk M3 f3 t3
end
