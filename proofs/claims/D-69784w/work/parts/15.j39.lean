/-! OPERATIONS outcome, meets, finds, in the works -/
noncomputable def outO (T : List Trl) (a b c : Int32) : Int32 := if a < 0 ∨ Int32.ofNat T.length ≤ a then -1 else if b < 0 ∨ 255 < b then -1 else if c < 0 ∨ 1 < c then -1 else if c = 0 then (outS (gTr T a.toNatClampNeg) b).1 else (outS (gTr T a.toNatClampNeg) b).2
noncomputable def metO (T : List Trl) (a : Int32) : Int32 := if a < 0 ∨ Int32.ofNat T.length ≤ a then -1 else metN (gTr T a.toNatClampNeg)
noncomputable def fnB (L : Trl) (b : Int32) : Bool := Classical.choose (⟨_, rfl⟩ : ∃ v : Bool, v = !((outS L 0).1 == (outS L b).1 && (outS L 0).2 == (outS L b).2))
theorem fnB_df (L : Trl) (b : Int32) : fnB L b = !((outS L 0).1 == (outS L b).1 && (outS L 0).2 == (outS L b).2) := Classical.choose_spec (⟨_, rfl⟩ : ∃ v : Bool, v = !((outS L 0).1 == (outS L b).1 && (outS L 0).2 == (outS L b).2))
noncomputable def finO (T : List Trl) (a b : Int32) : Int32 := if a < 0 ∨ Int32.ofNat T.length ≤ a then -1 else if b < 0 ∨ 255 < b then -1 else b2 (fnB (gTr T a.toNatClampNeg) b)
def isR (v : Int32) : Bool := ruB v && !(v == 0)
section
variable {BB A : List Nm} {B F t b : Nat} {T : List Trl} {L : Trl} {M M' : Mem} {Q : Int32 → Mem → Prop} {X : Mem → Prop} {a c d lo hi v : Int32}
theorem c_isInG (h0 : (a < lo ∨ hi < a) → Q 0 M) (h1 : ¬ (a < lo ∨ hi < a) → Q 1 M) : w_Works_isIn a lo hi Q M := by
  unfold w_Works_isIn
  by_cases c1 : a < lo
  · exact itp c1 (h0 (Or.inl c1))
  refine itn c1 ?_
  by_cases c2 : hi < a
  · exact itp c2 (h0 (Or.inr c2))
  · exact itn c2 (h1 (fun z => z.elim c1 c2))
theorem in256 (h : ¬ (d < 0 ∨ 255 < d)) : ∃ n, n < 256 ∧ d = Int32.ofNat n ∧ d.toNatClampNeg = n := by
  have h0 : ¬ d < 0 := fun z => h (Or.inl z)
  have h1 : ¬ (255 : Int32) < d := fun z => h (Or.inr z)
  refine ⟨d.toNatClampNeg, ?_, (ofNat_tnc h0).symm, rfl⟩
  rw [← ofNat_tnc h0, lit32 255] at h1
  have : ¬ 255 < d.toNatClampNeg := fun z => h1 ((oN_lt (a := 255) (by omega) (tnc_lt _)).mpr z)
  omega
theorem WkT.n (h : WkT BB A B F T M) : mI M 10 0 10 = Int32.ofNat T.length ∧ T.length ≤ 40 := by
  have := h.2.1.1.1
  rw [List.length_map] at this; exact this
theorem c_wkTr (h : WkT BB A B F T M) (h0 : (a < 0 ∨ Int32.ofNat T.length ≤ a) → Q 0 M) (h1 : ∀ i, i < T.length → a = Int32.ofNat i → a.toNatClampNeg = i → ¬ (a < 0 ∨ Int32.ofNat T.length ≤ a) → Q 1 M) : w_Works_isTrial 0 a Q M := c_isTrial h.n.1 h.n.2 h0 h1
theorem c_woutcome (h : WkT BB A B F T M) (hF : F < 1000000) (hCF : 601 < F) (hQ : ∀ A' M', A <+: A' → WkT BB A' B F T M' → Q (outO T a c d) M') : w_Works_outcome 0 a c d Q X M := by
  unfold outO at hQ
  unfold w_Works_outcome
  refine c_wkTr h (fun z => itp rfl (by have := hQ A M List.prefix_rfl h; rw [if_pos z] at this; exact this)) (fun i hi ea ea2 z => itn (by decide) ?_)
  rw [if_neg z] at hQ
  refine c_isInG (fun z => itp rfl (by have := hQ A M List.prefix_rfl h; rw [if_pos z] at this; exact this)) (fun z => itn (by decide) ?_)
  rw [if_neg z] at hQ
  obtain ⟨n, hn, en, -⟩ := in256 z
  refine c_isInG (fun z => itp rfl (by have := hQ A M List.prefix_rfl h; rw [if_pos z] at this; exact this)) (fun z => itn (by decide) ?_)
  rw [if_neg z, ea2] at hQ
  rw [en] at hQ ⊢
  rw [ea]
  refine c_work2 h hi hn hF hCF (fun A' M' p1 p2 o1 o2 => ?_)
  have q := hQ A' M' p1 p2
  by_cases c0 : d = 0
  · rw [if_pos c0] at q
    refine itp c0 ?_
    rw [o1]; exact q
  · rw [if_neg c0] at q
    refine itn c0 ?_
    rw [o2]; exact q
theorem c_isRule (hQ : Q (b2 (isR v)) M) : w_Works_isRule 0 v Q M := by
  unfold isR ruB at hQ
  unfold w_Works_isRule
  have k : ∀ {lo hi : Int32}, (v < lo ∨ hi < v) → (decide (lo ≤ v) && decide (v ≤ hi)) = false := fun h => by
    rcases h with z | z
    · rw [decide_eq_false (Int32.not_le.mpr z)]; rfl
    · rw [decide_eq_false (Int32.not_le.mpr z), Bool.and_false]
  have k1 : ∀ {lo hi : Int32}, ¬ (v < lo ∨ hi < v) → (decide (lo ≤ v) && decide (v ≤ hi)) = true ∧ lo ≤ v := fun h => by
    have a1 := Int32.not_lt.mp (fun z => h (Or.inl z))
    have a2 := Int32.not_lt.mp (fun z => h (Or.inr z))
    rw [decide_eq_true a1, decide_eq_true a2]; exact ⟨rfl, a1⟩
  have nz : ∀ {lo : Int32}, 0 < lo → lo ≤ v → (v == 0) = false := fun h0 h1 => by
    rw [beq_eq_false_iff_ne]
    intro z
    rw [z] at h1
    exact absurd h0 (Int32.not_lt.mpr h1)
  refine c_isInG (fun z1 => itp rfl (c_isInG (fun z2 => itp rfl (c_isInG (fun z3 => itp rfl (c_isInG (fun z4 => itp rfl ?_) (fun z4 => itn (by decide) ?_))) (fun z3 => itn (by decide) ?_))) (fun z2 => itn (by decide) ?_))) (fun z1 => itn (by decide) ?_)
  · rw [k z1, k z2, k z3, k z4] at hQ
    simp only [Bool.or_false] at hQ
    rw [show ((v == 0) && !(v == 0)) = false by cases (v == 0) <;> rfl] at hQ
    exact hQ
  · rw [(k1 z4).1, nz (by decide) (k1 z4).2, Bool.or_true] at hQ; exact hQ
  · rw [(k1 z3).1, nz (by decide) (k1 z3).2, Bool.or_true, Bool.true_or] at hQ; exact hQ
  · rw [(k1 z2).1, nz (by decide) (k1 z2).2, Bool.or_true, Bool.true_or, Bool.true_or] at hQ; exact hQ
  · rw [(k1 z1).1, nz (by decide) (k1 z1).2, Bool.or_true, Bool.true_or, Bool.true_or, Bool.true_or] at hQ; exact hQ
theorem c_ruleMet (h : WkT BB A B F T M) (ht : t < T.length) (hF : F < 1000000) (hCF : 601 < F) (hQ : ∀ A' M', A <+: A' → WkT BB A' B F T M' → Q (metN (gTr T t)) M') : w_Works_ruleMet 0 (Int32.ofNat t) Q X M := by
  unfold w_Works_ruleMet
  have hru := met_ru (h.2.2 _ (gTr_mem ht)).1
  refine c_work2 (b := 0) h ht (by omega) hF hCF (fun A' M' p1 p2 o1 o2 => ?_)
  have q := hQ A' M' p1 p2
  rw [show Int32.ofNat 0 = (0 : Int32) from rfl] at o1 o2
  have em : metN (gTr T t) = (if (outS (gTr T t) 0).1 = 1 then (outS (gTr T t) 0).2 else if (outS (gTr T t) 0).1 = 4 then (outS (gTr T t) 0).2 / 100 else 0) := metN_eq _
  generalize outS (gTr T t) 0 = o at em o1 o2
  have j40 : ∀ s0, metN (gTr T t) = s0 → w_Works_ruleMet_j40 0 Q X s0 M' := fun s0 e => by
    unfold w_Works_ruleMet_j40
    refine c_isRule ?_
    rw [e] at q hru
    unfold isR
    rw [hru]
    by_cases c0 : s0 = 0
    · rw [c0] at q
      refine itp (by rw [c0]; rfl) q
    · rw [beq_eq_false_iff_ne.mpr c0]
      exact itn (by decide) q
  rw [o1, o2]
  by_cases c1 : o.1 = 1
  · exact itp c1 (j40 _ (by rw [em, if_pos c1]))
  refine itn c1 ?_
  by_cases c4 : o.1 = 4
  · exact itp c4 ⟨by decide, j40 _ (by rw [em, if_neg c1, if_pos c4])⟩
  · exact itn c4 (j40 _ (by rw [em, if_neg c1, if_neg c4]))
theorem fnB_eq {o o0 : Int32 × Int32} (e : outS L (Int32.ofNat b) = o) (e0 : outS L 0 = o0) : (o.1 = o0.1 ∧ o.2 = o0.2 → fnB L (Int32.ofNat b) = false) ∧ (¬ (o.1 = o0.1 ∧ o.2 = o0.2) → fnB L (Int32.ofNat b) = true) := by
  rw [fnB_df, e, e0]
  refine ⟨fun h => ?_, fun h => ?_⟩
  · rw [h.1, h.2, beq_self_eq_true, beq_self_eq_true]; rfl
  · by_cases c : o0.1 = o.1
    · have : o0.2 ≠ o.2 := fun z => h ⟨c.symm, z.symm⟩
      rw [beq_eq_false_iff_ne.mpr this, Bool.and_false]; rfl
    · rw [beq_eq_false_iff_ne.mpr c]; rfl
theorem c_finds0 (h : WkT BB A B F T M) (ht : t < T.length) (hb : b < 256) (hF : F < 1000000) (hCF : 601 < F) (hQ : ∀ A' M', A <+: A' → WkT BB A' B F T M' → Q (b2 (fnB (gTr T t) (Int32.ofNat b))) M') : w_Works_finds0 0 (Int32.ofNat t) (Int32.ofNat b) Q X M := by
  unfold w_Works_finds0
  refine c_work2 (b := 0) h ht (by omega) hF hCF (fun A1 M1 p1 p2 o1 o2 => c_work2 p2 ht hb hF hCF (fun A2 M2 p3 p4 o3 o4 => ?_))
  rw [show Int32.ofNat 0 = (0 : Int32) from rfl] at o1 o2
  have q := hQ A2 M2 (p1.trans p3) p4
  generalize ea : outS (gTr T t) 0 = oa at o1 o2
  generalize eb : outS (gTr T t) (Int32.ofNat b) = ob at o3 o4
  obtain ⟨f1, f2⟩ := fnB_eq eb ea
  rw [o1, o2, o3, o4]
  by_cases c1 : oa.1 = ob.1
  · refine itp c1 ?_
    by_cases c2 : oa.2 = ob.2
    · rw [f1 ⟨c1.symm, c2.symm⟩] at q
      exact itp c2 q
    · rw [f2 (fun z => c2 z.2.symm)] at q
      exact itn c2 q
  · rw [f2 (fun z => c1 z.1.symm)] at q
    exact itn c1 q
theorem c_wmeets (h : WkT BB A B F T M) (hF : F < 1000000) (hCF : 601 < F) (hQ : ∀ A' M', A <+: A' → WkT BB A' B F T M' → Q (metO T a) M') : w_Works_meets 0 a Q X M := by
  unfold metO at hQ
  unfold w_Works_meets
  refine c_wkTr h (fun z => itp rfl (by have := hQ A M List.prefix_rfl h; rw [if_pos z] at this; exact this)) (fun i hi ea ea2 z => itn (by decide) ?_)
  rw [if_neg z, ea2] at hQ
  rw [ea]
  exact c_ruleMet h hi hF hCF hQ
theorem c_wfinds (h : WkT BB A B F T M) (hF : F < 1000000) (hCF : 601 < F) (hQ : ∀ A' M', A <+: A' → WkT BB A' B F T M' → Q (finO T a c) M') : w_Works_finds 0 a c Q X M := by
  unfold finO at hQ
  unfold w_Works_finds
  refine c_wkTr h (fun z => itp rfl (by have := hQ A M List.prefix_rfl h; rw [if_pos z] at this; exact this)) (fun i hi ea ea2 z => itn (by decide) ?_)
  rw [if_neg z, ea2] at hQ
  refine c_isInG (fun z => itp rfl (by have := hQ A M List.prefix_rfl h; rw [if_pos z] at this; exact this)) (fun z => itn (by decide) ?_)
  rw [if_neg z] at hQ
  obtain ⟨n, hn, en, -⟩ := in256 z
  rw [en] at hQ ⊢
  rw [ea]
  refine c_finds0 h hi hn hF hCF (fun A' M' p1 p2 => ?_)
  have q := hQ A' M' p1 p2
  cases e : fnB (gTr T i) (Int32.ofNat n) with
  | false => rw [e] at q; exact itp rfl q
  | true => rw [e] at q; exact itn (by decide) q
end
