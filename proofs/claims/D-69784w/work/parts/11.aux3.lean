/-- the first k places of a row become v -/
def flK (M : Mem) (f i : Nat) (v : Int32) (k : Nat) : Mem := (fun f' i' k' => if f' = f ∧ i' = i ∧ k' < k then v else M.1 f' i' k', M.2)
def flI (M : Mem) (f i : Nat) (v : Int32) : Mem := flK M f i v (mL M f i)
theorem flK_0 (M : Mem) (f i : Nat) (v : Int32) : flK M f i v 0 = M := by
  unfold flK
  have : (fun f' i' k' => if f' = f ∧ i' = i ∧ k' < 0 then v else M.1 f' i' k') = M.1 := by
    funext a b c
    rw [if_neg (by omega)]
  rw [this]
theorem flK_s (M : Mem) (f i : Nat) (v : Int32) (k : Nat) : sI (flK M f i v k) f i k v = flK M f i v (k + 1) := by
  unfold sI flK
  congr 1
  funext a b c
  dsimp only
  by_cases h : a = f ∧ b = i ∧ c = k
  · rw [if_pos h, if_pos (by omega)]
  · rw [if_neg h]
    by_cases h2 : a = f ∧ b = i ∧ c < k
    · rw [if_pos h2, if_pos (by omega)]
    · rw [if_neg h2, if_neg (by omega)]
def k_fillI : Kp := (⟨"java/util/Arrays", "fill", "([II)V"⟩, prog_28_method_103_code, 4, none, [])
def k_fillZ : Kp := (⟨"java/util/Arrays", "fill", "([ZZ)V"⟩, prog_28_method_111_code, 4, none, [])
theorem ms_fillI : MSt k_fillI 2 := ⟨tbk_mem (j := 1) (k := 45) rfl, tbk_mem (j := 1) (k := 3) rfl, Or.inl ⟨rfl, tbk_mem (j := 1) (k := 46) rfl⟩, ⟨by decide, by decide⟩, by decide +kernel, by decide +kernel, by decide⟩
theorem ms_fillZ : MSt k_fillZ 2 := ⟨tbk_mem (j := 6) (k := 25) rfl, tbk_mem (j := 1) (k := 3) rfl, Or.inl ⟨rfl, tbk_mem (j := 6) (k := 26) rfl⟩, ⟨by decide, by decide⟩, by decide +kernel, by decide +kernel, by decide⟩
section Fill
variable {γ : Gm} {d f i : Nat} {v : Int32} {M : Mem}
theorem fill_loopI (hf : 20 ≤ f) (hk : ka f = 0) (hL : mL M f i < 2 ^ 31) : ∀ (n k : Nat), k + n = mL M f i → J γ k_fillI d 5 [some (vr (some (f, i))), some (vi v), some (vi (nI k)), some (vi (nI (mL M f i)))] [] (flK M f i v k) (.inl none) (flK M f i v (mL M f i)) := by
  intro n
  induction n with
  | zero =>
    intro k e
    have : k = mL M f i := by omega
    subst this
    refine J_load (n := 2) rfl (Or.inl ⟨_, rfl, Or.inr ⟨2, rfl, rfl, rfl⟩⟩) (by decide +kernel) ?_
    refine J_load (n := 3) rfl (Or.inl ⟨_, rfl, Or.inr ⟨3, rfl, rfl, rfl⟩⟩) (by decide +kernel) ?_
    refine J_icmp_ge (off := 13) (tgt := 20) (by decide +kernel) (by decide) (fun _ => ?_) (fun h => absurd (Int32.le_refl _) h)
    exact J_vret rfl (by decide +kernel)
  | succ n ih =>
    intro k e
    refine J_load (n := 2) rfl (Or.inl ⟨_, rfl, Or.inr ⟨2, rfl, rfl, rfl⟩⟩) (by decide +kernel) ?_
    refine J_load (n := 3) rfl (Or.inl ⟨_, rfl, Or.inr ⟨3, rfl, rfl, rfl⟩⟩) (by decide +kernel) ?_
    refine J_icmp_ge (off := 13) (tgt := 20) (by decide +kernel) (by decide) (fun h => absurd h (nI_ge (by omega) hL)) (fun _ => ?_)
    refine J_load (n := 0) rfl (Or.inr (Or.inr ⟨_, rfl, Or.inr ⟨0, rfl, rfl, rfl⟩⟩)) (by decide +kernel) ?_
    refine J_load (n := 2) rfl (Or.inl ⟨_, rfl, Or.inr ⟨2, rfl, rfl, rfl⟩⟩) (by decide +kernel) ?_
    refine J_load (n := 1) rfl (Or.inl ⟨_, rfl, Or.inr ⟨1, rfl, rfl, rfl⟩⟩) (by decide +kernel) ?_
    refine J_astI hf (vp_in_nI (show k < mL M f i by omega) hL) (by decide +kernel) (Or.inl ⟨hk, rfl⟩) ?_
    refine J_iinc (n := 2) (z := 1) (by decide) rfl (by decide +kernel) ?_
    refine J_goto (off := -12) (tgt := 5) (by decide +kernel) (by decide) ?_
    rw [nI_clamp (by omega), show nrw f v = v by unfold nrw; rw [if_pos hk], flK_s, show nI k + Int32.ofInt 1 = nI (k + 1) from nI_1 k]
    exact ih (k + 1) (by omega)
theorem fill_loopZ (hf : 20 ≤ f) (hk : ka f = 2) (hv : v = 0 ∨ v = 1) (hL : mL M f i < 2 ^ 31) : ∀ (n k : Nat), k + n = mL M f i → J γ k_fillZ d 5 [some (vr (some (f, i))), some (vi v), some (vi (nI k)), some (vi (nI (mL M f i)))] [] (flK M f i v k) (.inl none) (flK M f i v (mL M f i)) := by
  intro n
  induction n with
  | zero =>
    intro k e
    have : k = mL M f i := by omega
    subst this
    refine J_load (n := 2) rfl (Or.inl ⟨_, rfl, Or.inr ⟨2, rfl, rfl, rfl⟩⟩) (by decide +kernel) ?_
    refine J_load (n := 3) rfl (Or.inl ⟨_, rfl, Or.inr ⟨3, rfl, rfl, rfl⟩⟩) (by decide +kernel) ?_
    refine J_icmp_ge (off := 13) (tgt := 20) (by decide +kernel) (by decide) (fun _ => ?_) (fun h => absurd (Int32.le_refl _) h)
    exact J_vret rfl (by decide +kernel)
  | succ n ih =>
    intro k e
    refine J_load (n := 2) rfl (Or.inl ⟨_, rfl, Or.inr ⟨2, rfl, rfl, rfl⟩⟩) (by decide +kernel) ?_
    refine J_load (n := 3) rfl (Or.inl ⟨_, rfl, Or.inr ⟨3, rfl, rfl, rfl⟩⟩) (by decide +kernel) ?_
    refine J_icmp_ge (off := 13) (tgt := 20) (by decide +kernel) (by decide) (fun h => absurd h (nI_ge (by omega) hL)) (fun _ => ?_)
    refine J_load (n := 0) rfl (Or.inr (Or.inr ⟨_, rfl, Or.inr ⟨0, rfl, rfl, rfl⟩⟩)) (by decide +kernel) ?_
    refine J_load (n := 2) rfl (Or.inl ⟨_, rfl, Or.inr ⟨2, rfl, rfl, rfl⟩⟩) (by decide +kernel) ?_
    refine J_load (n := 1) rfl (Or.inl ⟨_, rfl, Or.inr ⟨1, rfl, rfl, rfl⟩⟩) (by decide +kernel) ?_
    refine J_astI hf (vp_in_nI (show k < mL M f i by omega) hL) (by decide +kernel) (Or.inr (Or.inr ⟨hk, rfl⟩)) ?_
    refine J_iinc (n := 2) (z := 1) (by decide) rfl (by decide +kernel) ?_
    refine J_goto (off := -12) (tgt := 5) (by decide +kernel) (by decide) ?_
    rw [nI_clamp (by omega), show nrw f v = v by (unfold nrw; rw [if_neg (by omega), if_neg (by omega)]; rcases hv with rfl | rfl <;> rfl), flK_s, show nI k + Int32.ofInt 1 = nI (k + 1) from nI_1 k]
    exact ih (k + 1) (by omega)
theorem fillI_J (hf : 20 ≤ f) (hk : ka f = 0) (hL : mL M f i < 2 ^ 31) : J γ k_fillI d 0 [some (vr (some (f, i))), some (vi v), none, none] [] M (.inl none) (flI M f i v) := by
  refine J_iconst (n := 0) (by decide +kernel) ?_
  refine J_store1 (n := 2) (by decide) (Or.inl ⟨_, rfl, Or.inr ⟨2, rfl, rfl, rfl⟩⟩) (by decide +kernel) ?_
  refine J_load (n := 0) rfl (Or.inr (Or.inr ⟨_, rfl, Or.inr ⟨0, rfl, rfl, rfl⟩⟩)) (by decide +kernel) ?_
  refine J_alen hf (by omega) (by decide +kernel) ?_
  refine J_store1 (n := 3) (by decide) (Or.inl ⟨_, rfl, Or.inr ⟨3, rfl, rfl, rfl⟩⟩) (by decide +kernel) ?_
  have := fill_loopI (γ := γ) (d := d) (v := v) hf hk hL (mL M f i) 0 (by omega)
  rw [flK_0] at this
  exact this
theorem fillZ_J (hf : 20 ≤ f) (hk : ka f = 2) (hv : v = 0 ∨ v = 1) (hL : mL M f i < 2 ^ 31) : J γ k_fillZ d 0 [some (vr (some (f, i))), some (vi v), none, none] [] M (.inl none) (flI M f i v) := by
  refine J_iconst (n := 0) (by decide +kernel) ?_
  refine J_store1 (n := 2) (by decide) (Or.inl ⟨_, rfl, Or.inr ⟨2, rfl, rfl, rfl⟩⟩) (by decide +kernel) ?_
  refine J_load (n := 0) rfl (Or.inr (Or.inr ⟨_, rfl, Or.inr ⟨0, rfl, rfl, rfl⟩⟩)) (by decide +kernel) ?_
  refine J_alen hf (by omega) (by decide +kernel) ?_
  refine J_store1 (n := 3) (by decide) (Or.inl ⟨_, rfl, Or.inr ⟨3, rfl, rfl, rfl⟩⟩) (by decide +kernel) ?_
  have := fill_loopZ (γ := γ) (d := d) (v := v) hf hk hv hL (mL M f i) 0 (by omega)
  rw [flK_0] at this
  exact this
end Fill
section Fill2
variable {γ : Gm} {κ : Kp} {d pc f i idx : Nat} {v : Int32} {M : Mem} {lv : List (Option AV)} {st : List AV} {Q : Out → Mem → Prop}
theorem E_fillI (hf : 20 ≤ f) (hk : ka f = 0) (hL : mL M f i < 2 ^ 31) (hl : Cond.methodLink (ky κ).cls idx (ky k_fillI) ∈ tables_1) (hdg : decode (kc κ) pc = .ok (.invokestatic idx, 3)) (hst : st.length ≤ 15) (h : E γ κ (d + 1) (pc + 3) lv st (flI M f i v) Q) : E γ κ (d + 1) pc lv (vi v :: vr (some (f, i)) :: st) M Q :=
  E.up (fun _ _ hJ => J_callS (κ' := k_fillI) (As := [vr (some (f, i)), vi v]) (st := st) ms_fillI (Or.inl hl) rfl hdg (Nat.le_of_ble_eq_true rfl) hst rfl (fillI_J hf hk hL) hJ) h
theorem E_fillZ (hf : 20 ≤ f) (hk : ka f = 2) (hv : v = 0 ∨ v = 1) (hL : mL M f i < 2 ^ 31) (hl : Cond.methodLink (ky κ).cls idx (ky k_fillZ) ∈ tables_1) (hdg : decode (kc κ) pc = .ok (.invokestatic idx, 3)) (hst : st.length ≤ 15) (h : E γ κ (d + 1) (pc + 3) lv st (flI M f i v) Q) : E γ κ (d + 1) pc lv (vi v :: vr (some (f, i)) :: st) M Q :=
  E.up (fun _ _ hJ => J_callS (κ' := k_fillZ) (As := [vr (some (f, i)), vi v]) (st := st) ms_fillZ (Or.inl hl) rfl hdg (Nat.le_of_ble_eq_true rfl) hst rfl (fillZ_J hf hk hv hL) hJ) h
end Fill2
