/-! THE OPERATIONS kinds, kind in the works -/
/-- kinds: what it answers, what is told from then on -/
def kinO (W : List Cls) (c m : Int32) (inf : Bool) (L : Tl) : Int32 × Tl := if c < 0 ∨ Int32.ofNat W.length ≤ c then (-1, L)
  else if m < 0 ∨ Int32.ofNat (gc W c.toNatClampNeg).2.2.2.2.2.length ≤ m then (-1, L)
  else if (co (gmt (gc W c.toNatClampNeg) m.toNatClampNeg)).length = 0 then (-1, L) else kdsO W c.toNatClampNeg (gmt (gc W c.toNatClampNeg) m.toNatClampNeg) inf
theorem kdsO_t {W : List Cls} {c : Nat} {x : Mth} : kdsO W c x true = (ansI (infS W c x).1.1 (infS W c x).1.2, tlR W (infS W c x).2) := rfl
theorem kdsO_f {W : List Cls} {c : Nat} {x : Mth} : kdsO W c x false = (ansI (chkM W c x).1 (chkM W c x).2, tlR W (frmS W c x)) := rfl
theorem W21_co : ∀ i, i < 21 → ∀ j, j < (gc W21 i).2.2.2.2.2.length → co (gmt (gc W21 i) j) = [] := by decide
section
variable {A : List Nm} {W : List Cls} {k C B F K w n : Nat} {br a b c m : Int32} {nq nk np nh nr : Nat} {s : Ms} {M M' : Mem} {Q : Int32 → Mem → Prop} {on : Nat → Bool} {S : Nat} {lk : LkS} {L : Tl}
theorem LKw.fr2 (h : LKw A W w br nq nk np nh nr lk M) (hf : Fr S M M') (s1 : cwOk S = true) (hL : cLk M') : LKw A W w br nq nk np nh nr lk M' := by
  have hcw := h.1.fr hf s1
  unfold cwOk at s1
  rw [Bool.and_eq_true, Bool.not_eq_true'] at s1
  have hlo : ∀ b, Lo w b M M' := fun b => (Lo.rf w b M).fr hf (fun i k _ => hf.Ia rfl s1.2 i k) s1.1
  have h5 : ∀ k, k < 65 → mI M' 5 w k = mI M 5 w k := fun k hk => by
    have := s1.1
    unfold loOk at this
    simp only [Bool.and_eq_true, Bool.not_eq_true', List.all_eq_true, List.mem_range] at this
    exact (hf.1 5 k (this.2 k hk) w).1
  have row : ∀ f, wFm f = true → ∀ k, mI M' f w k = mI M f w k := fun f hw k => ((hlo (fun _ => k + 1)).1 f hw).1 w k (Or.inr (Nat.lt_succ_self k))
  obtain ⟨-, h45, ⟨a, b, d⟩, hl, -⟩ := h
  refine ⟨hcw, fun c hc => (row 45 rfl c).trans (h45 c hc), ⟨(h5 56 (by omega)).trans a, (h5 57 (by omega)).trans b, (h5 58 (by omega)).trans d⟩, fun c hc hl1 => ?_, hL⟩
  obtain ⟨x, y, z⟩ := hl c hc hl1
  exact ⟨(row 47 rfl c).trans x, (row 48 rfl c).trans y, fun f hf' hs => (row 53 rfl _).trans (z f hf' hs)⟩
theorem RA.kd (h : RA A W w br nq nk np nh nr C B F s M) (hf : Fr F_Works_kinds M M') (h0 : k0 1 M') : RA A W w br nq nk np nh nr C B F s M' := by
  obtain ⟨z1, z2, z3, z4, z5, z6⟩ := h.1.1.2.2.2.2
  exact h.lk hf (by rfl) (h.1.1.fr2 hf (by rfl) ⟨(hf.L (f := 515) rfl 0).trans z1, (hf.L (f := 97) rfl 0).trans z2, (hf.L (f := 31) rfl 0).trans z3, (hf.L (f := 32) rfl 0).trans z4, h0.1⟩) (h.1.2.fr hf)
theorem c_wkinds {inf : Bool} (hk : k < 3) (hOn : cOn on M) (hon : on k = true) (hW : WO W) (hPr : PrW W) (hKB : KB (k + 1) nq nk np nh nr) (hnA : nA A) (h : RA A W (k + 1) br nq nk np nh nr C B F s M) (hT : cTd L 1 M) (hQ : ∀ M', Fr F_Works_kinds M M' → cTd (kinO W c m inf L).2 1 M' → RA A W (k + 1) br nq nk np nh nr C B F s M' → Q (kinO W c m inf L).1 M') : w_Works_kinds 0 (Int32.ofNat k) c m (b2 inf) Q M := by
  have h0 : k0 1 M := ⟨h.1.1.2.2.2.2.2.2.2.2, hT.2.2.1.1, hT.2.1.2.2.2⟩
  refine mf_w_Works_kinds (Q := fun r M' => Fr F_Works_kinds M M' → Q r M') (fun r M' hf hp => hp hf) ?_
  have hQ' : ∀ y, kinO W c m inf L = y → ∀ M', cTd y.2 1 M' → k0 1 M' → Fr F_Works_kinds M M' → Q y.1 M' := fun y hy M' q1 q2 hf => by
    rw [← hy] at q1 ⊢
    exact hQ M' hf q1 (h.kd hf q2)
  unfold kinO at hQ'
  unfold w_Works_kinds
  refine c_isClass hk hOn hon hW.1.1 hW.2.2.2 h.1.1.1.1.1.1.1.1 (fun z => itp rfl (hQ' _ (if_pos z) M hT h0)) (fun i hi ei ei2 nz => ?_)
  have hQ' := fun y hy => hQ' y ((if_neg nz).trans hy)
  rw [ei2] at hQ'
  obtain ⟨a1, a2⟩ := hOn.at hk hon
  have h51 := hW.2.2.2
  have hcw := h.1.1.1
  obtain ⟨e43, e44, m3, m4, -⟩ := hcw.mo (e := 0) hi
  have l44 : mL M 44 (k + 1) = 51 := hcw.2.1.1.1.2
  have l43 : mL M 43 (k + 1) = 51 := hcw.2.1.1.1.1
  refine itn (by decide) ⟨a1, k + 1, a2, ?_⟩
  rw [ei]
  unfold w_Works_isMethod
  rw [oN_tnc (k := i) (by omega), e44]
  refine ⟨by rw [l44]; exact (vp_oN (by omega)).mpr (by omega), c_isIn1 (by omega) (fun z => ⟨Or.inl rfl, ?_⟩) (fun j hj ej ej2 nb => ⟨Or.inr rfl, ?_⟩)⟩
  · exact itp rfl (hQ' _ (if_pos z) M hT h0)
  have hQ' := fun y hy => hQ' y ((if_neg nb).trans hy)
  rw [ej2] at hQ'
  obtain ⟨hH, q0, hh0, ⟨-, e63, -⟩, -⟩ := hcw.2.1.2.2 i hi j hj
  have e63 : mI M 63 (k + 1) (moff W i + j) = Int32.ofNat (co (gmt (gc W i) j)).length := e63
  refine itn (by decide) ⟨a1, k + 1, a2, by rw [l43]; exact (vp_oN (by omega)).mpr (by omega), ?_⟩
  rw [ej, e43, oN_add, oN_tnc (k := moff W i + j) (by omega), e63]
  refine ⟨by rw [hcw.2.1.1.2.1 63 (by omega) (by omega)]; exact (vp_oN (by omega)).mpr (by omega), ?_⟩
  by_cases c0 : (co (gmt (gc W i) j)).length = 0
  · exact itp (by rw [c0]; rfl) (hQ' _ (if_pos c0) M hT h0)
  have hQ' := fun y hy => hQ' y ((if_neg c0).trans hy)
  have hne : co (gmt (gc W i) j) ≠ [] := fun z => c0 (by rw [z]; rfl)
  have h21 : 21 ≤ i := by
    rcases Nat.lt_or_ge i 21 with z | z
    · exfalso
      have e := hW.1.2 i z
      rw [e] at hj hne
      exact hne (W21_co i z j hj)
    · exact z
  have hwf := hW.m h21 hi hj
  have h80 := hwf.2.2.1.1
  refine itn (ne_oN (b := 0) c0 (by omega) (by omega)) ?_
  cases inf with
  | false =>
    rw [kdsO_f] at hQ'
    exact itp rfl (c_withFrames hcw hnA hKB hi hj hwf (hPr i h21 hi).2.1.1 hne hT h0 (by decide) (fun M' q1 q2 => hQ' _ rfl M' q1 q2))
  | true =>
    rw [kdsO_t] at hQ'
    exact itn (by decide) (c_inferred hcw hnA hKB hi hj hwf (hPr i h21 hi).2.1.1 hne hT h0 (by decide) (fun M' q1 q2 => hQ' _ rfl M' q1 q2))
theorem c_wkind {i j : Int32} (hT : cTd L 1 M) (hQ : Q (kndO L i j) M) : w_Works_kind 0 i j Q M := by
  unfold w_Works_kind
  exact c_toldAt hT hQ
end
