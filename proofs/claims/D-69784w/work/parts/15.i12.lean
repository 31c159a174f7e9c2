/-! collect in the works: what is reached -/
/-- marks a, pile b, how many (f, g) -/
def mkR (a b f g w : Nat) (p : MP) (M : Mem) : Prop := (mL M a w = 801 ∧ mL M b w = 801) ∧ (∀ n, n < 801 → mI M a w n = b2 (p.1 n)) ∧ mI M f w g = Int32.ofNat p.2.length ∧ ∀ i, i < p.2.length → mI M b w i = Int32.ofNat (p.2.getD i 0)
abbrev cMk (w : Nat) (p : MP) (M : Mem) : Prop := mkR 513 82 6 18 w p M
theorem mkR.push {a b f g w n : Nat} {p : MP} {M : Mem} {x : Int32} (h : mkR a b f g w p M) (h1 : a ≠ b) (h2 : a ≠ f) (h3 : b ≠ f) (hx : x = Int32.ofNat n) (em : mkM p x = (up1 p.1 n true, p.2 ++ [n])) : mkR a b f g w (mkM p x) (sI (sI (sI M a w n ((1 : Int32) &&& 1)) b w p.2.length x) f w g (Int32.ofNat (p.2.length + 1))) := by
  obtain ⟨l, m1, m2, m3⟩ := h
  rw [em]
  refine ⟨l, fun j hj => ?_, ?_, fun i hi => ?_⟩
  · show _ = b2 (up1 p.1 n true j)
    by_cases ej : j = n
    · subst ej
      rw [up1_s]
      simp only [mI_sI, h1, h2, false_and, if_false, and_self, if_true]
      rfl
    · rw [up1_o ej]
      simp only [mI_sI, h1, h2, ej, and_false, false_and, if_false]
      exact m1 j hj
  · show _ = Int32.ofNat (p.2 ++ [n]).length
    rw [List.length_append, List.length_singleton, mI_sI, if_pos ⟨rfl, rfl, rfl⟩]
  · have hi : i < (p.2 ++ [n]).length := hi
    rw [List.length_append, List.length_singleton] at hi
    show _ = Int32.ofNat ((p.2 ++ [n]).getD i 0)
    rw [List.getD_eq_getElem?_getD]
    by_cases ei : i = p.2.length
    · rw [ei, List.getElem?_append_right (Nat.le_refl _), Nat.sub_self]
      simp only [mI_sI, h3, false_and, if_false, and_self, if_true]
      exact hx
    · rw [List.getElem?_append_left (by omega), ← List.getD_eq_getElem?_getD]
      simp only [mI_sI, h3, ei, h1.symm, and_false, false_and, if_false]
      exact m3 i (by omega)
abbrev SMk : Nat := (48364909861738257943261958069858524735473783450277307192042167221569791520868891013198883620434388234493903094792076672279552486236496173197376335555142272303004424638084879381377715207834508534065625006908421230263779307953285740907678984906949795214910181913074384575916816692006361851346385756589071945922819222168986252260146625157081430252900726174207946659323043581317494877985782485799172457716020211635011155212194200207598565517678241825352977591456918640151082055182472907904457900424897500626121342564032285565281814848339586905749829033677347336580652818626756380972089213724714798829358383911210928108264179005715367796280989444271942589271523527271383040)
theorem n_lt_le {a b : Int32} (h : a < b) (h2 : b ≤ a) : False := by
  rw [Int32.lt_iff_toInt_lt] at h
  rw [Int32.le_iff_toInt_le] at h2
  omega
theorem inO_iff {x : Int32} : inO x ↔ (1 ≤ x ∧ x ≤ 800) := by
  constructor
  · intro h
    have h0 : ¬ x < 0 := fun z => by
      have : x.toNatClampNeg = 0 := by
        rw [Int32.lt_iff_toInt_lt] at z
        have z : x.toInt < 0 := z
        show x.toInt.toNat = 0
        omega
      have := h.1
      omega
    rw [← tnc_oN h0]
    have := tnc_lt x
    exact ⟨(oN_le (a := 1) (by omega) (by omega)).mpr h.1, (oN_le (b := 800) (by omega) (by omega)).mpr h.2⟩
  · intro h
    obtain ⟨n, h1, h2, h3, h4⟩ := i800 (fun z => n_lt_le z h.1) (fun z => n_lt_le z h.2)
    rw [inO, h4]; exact ⟨h1, h2⟩
section
variable {A : List Nm} {W : List Cls} {w k C B F K : Nat} {br x : Int32} {nq nk np nh nr : Nat} {s : Ms} {M M' : Mem} {p : MP}
theorem c_reaches {Q : Mem → Prop} (h : cMk w p M) (hp : okP p) (hQ : ∀ M', cMk w (mkM p x) M' → Fr SMk M M' → Q M') : w_Machine_reaches w x Q M := by
  unfold w_Machine_reaches
  refine c_isIn ?_
  by_cases c : (1 : Int32) ≤ x ∧ x ≤ 800
  · rw [if_pos c]
    refine itn (by decide) ?_
    have hi := inO_iff.2 c
    obtain ⟨n, h1, h2, h3, h4⟩ := i800 (fun z => n_lt_le z c.1) (fun z => n_lt_le z c.2)
    obtain ⟨⟨l1, l2⟩, m1, m2, m3⟩ := h
    have hv : vp_in x (mL M 513 w) := by rw [l1, h3]; exact (vp_oN (by omega)).mpr (by omega)
    refine ⟨hv, ?_⟩
    rw [h4, m1 n (by omega)]
    cases e : p.1 n with
    | true =>
      refine itn (by decide) (hQ M ?_ (Fr.rf _ _))
      have : mkM p x = p := by unfold mkM; rw [if_neg (fun z => by rw [h4, e] at z; exact absurd z.2 (by decide))]
      rw [this]
      exact ⟨⟨l1, l2⟩, m1, m2, m3⟩
    | false =>
      have hl := hp.len1 hi (by rw [h4]; exact e)
      have e18 : mI (sI M 513 w n ((1 : Int32) &&& 1)) 6 w 18 = Int32.ofNat p.2.length := m2
      refine itp rfl ⟨hv, by rw [e18]; exact (vp_oN (by omega)).mpr (show p.2.length < mL M 82 w by rw [l2]; omega), _, rfl, ?_⟩
      rw [e18, oN_tnc (k := p.2.length) (by omega)]
      have em : mkM p x = (up1 p.1 n true, p.2 ++ [n]) := by unfold mkM; rw [if_pos ⟨hi, by rw [h4]; exact e⟩, h4]
      have e18' : mI (sI (sI M 513 w n ((1 : Int32) &&& 1)) 82 w p.2.length x) 6 w 18 = Int32.ofNat p.2.length := m2
      rw [e18', lit32 1, oN_add]
      exact hQ _ (mkR.push ⟨⟨l1, l2⟩, m1, m2, m3⟩ (by decide) (by decide) (by decide) h3 em) (Fr.wI rfl (Fr.wIa rfl rfl (Fr.wIa rfl rfl (Fr.rf _ _))))
  · rw [if_neg c]
    refine itp rfl (hQ M ?_ (Fr.rf _ _))
    have : mkM p x = p := by unfold mkM; rw [if_neg (fun z => c (inO_iff.1 z.1))]
    rw [this]; exact h
theorem RA.fm {S : Nat} (h : RA A W w br nq nk np nh nr C B F s M) (hf : Fr S M M') (hS : lkOk S = true) (hS2 : rmO S = true) (hc : cSt w M') : RA A W w br nq nk np nh nr C B F s M' := h.lk hf hS2 (h.1.1.fr hf hS).1 hc
theorem RA.mk (h : RA A W w br nq nk np nh nr C B F s M) (hf : Fr SMk M M') : RA A W w br nq nk np nh nr C B F s M' := h.fm hf (by rfl) (by rfl) (h.1.2.fr hf)
end
