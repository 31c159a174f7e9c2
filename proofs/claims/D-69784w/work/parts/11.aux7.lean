/-! stores into arrays of references -/
/-- the class of rows of bytes is over the class of bytes -/
def Xa (γ : Gm) : Prop := ∃ kA : Class, (gs γ).vm.classes[gA γ 5]? = some kA ∧ kA.kind = .array (gA γ 1) (.array .byte)
def okel (f g : Nat) : Prop := (ka f = 4 ∧ g = 7) ∨ (ka f = 6 ∧ g = 5) ∨ (ka f = 7 ∧ g = 12) ∨ (ka f = 8 ∧ g = 13) ∨ (ka f = 5 ∧ 20 ≤ g ∧ ka g = 1)
section AstR
variable {γ : Gm} {κ : Kp} {d pc : Nat} {lv : List (Option AV)} {st : List AV} {M M' : Mem} {out : Out}
theorem Lay_sR {f i k : Nat} {r : Option (Nat × Nat)} (hF : ∀ x ∈ gF γ, x.1 < 20) (hf : 20 ≤ f) (h : Lay γ M) : Lay γ (sR M f i k r) := by
  intro y hy i' hi'
  have := h y hy i' hi'
  have h8 := hF y hy
  unfold mR sR
  dsimp only
  rw [if_neg (fun q => by omega)]
  exact this
theorem J_astR {f i g k : Nat} {j : Int32} (hXa : Xa γ) (hF : ∀ x ∈ gF γ, x.1 < 20) (hf : 20 ≤ f) (hin : vp_in j (mL M f i)) (hdg : decode (kc κ) pc = .ok (.aastore, 1)) (hok : okel f g)
    (h : J γ κ d (pc + 1) lv st (sR M f i j.toNatClampNeg (some (g, k))) out M') : J γ κ d pc lv (vr (some (g, k)) :: vi j :: vr (some (f, i)) :: st) M out M' := by
  have h4 : 4 ≤ ka f ∧ ka f ≤ 8 := by unfold okel at hok; omega
  refine J_ast (M1 := sR M f i j.toNatClampNeg (some (g, k))) hf (v' := vr (some (g, k))) rfl rfl rfl (fun q hq => ⟨fv_sR hq, xv_sR hq⟩) (fun k' => ?_) (fun _ v z => Cl_sR v z) (fun x => Lay_sR hF hf x) (fun p e R s m args below meth c H locs cells slots ls Q a1 a2 a4 a5 => ?_) h
  · by_cases e : k' = j.toNatClampNeg
    · subst e; simp [xv, show ¬ ka f < 3 by omega, show ¬ ka f = 3 by omega, mR, sR]
    · simp [xv, mI, mJ, mR, sR, e]
  · have hi := vin_arr hf (a4.1 (vr (some (f, i))) (List.mem_cons_of_mem _ (List.mem_cons_of_mem _ List.mem_cons_self)))
    have hg0 : g ≠ 0 := by unfold okel at hok; omega
    have hgm : (g, k) ∈ mN M := by
      rcases a4.1 (vr (some (g, k))) List.mem_cons_self with x | x
      · exact absurd x hg0
      · exact x
    obtain ⟨b1, b2, b3, b4, b5, b6, b7, b8, b9, b10⟩ := a1
    obtain ⟨c1, c2, c3, c4, c5, c6⟩ := a2
    have hc := arr_at hf c1 hi
    have hin' : ¬ j < 0 ∧ j.toNatClampNeg < (arrV (gA γ (ka f)) (mL M f i) (xv γ M f i)).slots.size := by
      rw [arrV_size]
      exact ⟨fun q => hin (Or.inl q), Nat.not_le.mp fun q => hin (Or.inr q)⟩
    have obj : ∀ {C : String} {ci : Nat} {r : vw_C}, (tys γ)[ka f]? = some (gA γ (ka f), .object r.1) → g < 20 → cls[g - 1]? = some r →
        W p (gl γ) e R s m args below meth c H locs cells slots Q (F0 m pc ls ((vr (some (g, k)) :: vi j :: vr (some (f, i)) :: st).map (rv γ))) := by
      intro C ci r ht hg hr
      have hh := (c1.1 _ hgm).2
      unfold holds at hh
      rw [if_pos hg] at hh
      obtain ⟨r', hr', ⟨cellV, g1, g2, g3, -⟩, -⟩ := hh
      have hcls := (c2.1 _ r hr).2
      obtain ⟨kA, comp, k1, k2, k3, -⟩ := (c2.2 _ _ ht).2
      have hcomp : comp = gC γ (g - 1) := Option.some.inj (k3.symm.trans hcls.1)
      subst hcomp
      obtain ⟨kC, hkC, -⟩ := hcls.2
      exact W.aast b1 b2 hc (fun q h => by cases h) (fun h => by cases h) k1 k2 rfl hkC hin' g1 (fun q h => by rw [g3] at h; cases h) (by rw [g2]; exact hkC) (by rw [g2]; exact va_assign hcls) rfl rfl hdg a5
    rcases hok with ⟨e1, rfl⟩ | ⟨e1, rfl⟩ | ⟨e1, rfl⟩ | ⟨e1, rfl⟩ | ⟨e1, e2, e3⟩
    · exact obj (C := "") (ci := 0) (by rw [e1]; rfl) (by decide) rfl
    · exact obj (C := "") (ci := 0) (by rw [e1]; rfl) (by decide) rfl
    · exact obj (C := "") (ci := 0) (by rw [e1]; rfl) (by decide) rfl
    · exact obj (C := "") (ci := 0) (by rw [e1]; rfl) (by decide) rfl
    · obtain ⟨kA, q1, q2⟩ := hXa
      obtain ⟨kA', q1', he'⟩ := b10.alike.2.2 _ _ q1
      have hv := arr_at e2 c1 hgm
      have ht1 := (c2.2 1 (gA γ 1, .byte) rfl).1 1 (fun _ => .null)
      obtain ⟨-, kB, hkB, -⟩ := ht1
      exact W.aast b1 b2 hc (fun q h => by cases h) (fun h => by cases h) (by show s.vm.classes[gA γ (ka f)]? = _; rw [e1]; exact q1') (by rw [he']; exact q2) rfl hkB hin' hv (fun q h => by cases h) (by show s.vm.classes[gA γ (ka g)]? = _; rw [e3]; exact hkB) (by show s.vm.assignable (gA γ (ka g)) _ = true; rw [e3]; exact assign_self _ _) rfl rfl hdg a5
/-- null into the row of worlds -/
theorem J_astN {f i : Nat} {j : Int32} (hF : ∀ x ∈ gF γ, x.1 < 20) (hf : 20 ≤ f) (hin : vp_in j (mL M f i)) (hdg : decode (kc κ) pc = .ok (.aastore, 1)) (e6 : ka f = 6)
    (h : J γ κ d (pc + 1) lv st (sR M f i j.toNatClampNeg none) out M') : J γ κ d pc lv (vr none :: vi j :: vr (some (f, i)) :: st) M out M' := by
  refine J_ast (M1 := sR M f i j.toNatClampNeg none) hf (v' := vr none) rfl rfl rfl (fun q hq => ⟨fv_sR hq, xv_sR hq⟩) (fun k' => ?_) (fun _ v z => Cl_sR v z) (fun x => Lay_sR hF hf x) (fun p e R s m args below meth c H locs cells slots ls Q a1 a2 a4 a5 => ?_) h
  · by_cases e : k' = j.toNatClampNeg
    · subst e; simp [xv, show ¬ ka f < 3 by omega, show ¬ ka f = 3 by omega, mR, sR]
    · simp [xv, mI, mJ, mR, sR, e]
  · have hi := vin_arr hf (a4.1 (vr (some (f, i))) (List.mem_cons_of_mem _ (List.mem_cons_of_mem _ List.mem_cons_self)))
    obtain ⟨b1, b2, b3, b4, b5, b6, b7, b8, b9, b10⟩ := a1
    obtain ⟨c1, c2, c3, c4, c5, c6⟩ := a2
    exact va_WaastN (C := "ClassWorks$World") b1 b2 (arr_at hf c1 hi) (by rw [e6]; exact (c2.2 6 (gA γ 6, .object "ClassWorks$World") rfl).1 _ _) (fun q => by cases q) (arr_in hin) rfl rfl hdg a5
theorem E_astR {f i g k : Nat} {j : Int32} {Q : Out → Mem → Prop} (hXa : Xa γ) (hF : ∀ x ∈ gF γ, x.1 < 20) (hf : 20 ≤ f) (hin : vp_in j (mL M f i)) (hdg : decode (kc κ) pc = .ok (.aastore, 1)) (hok : okel f g)
    (h : E γ κ d (pc + 1) lv st (sR M f i j.toNatClampNeg (some (g, k))) Q) : E γ κ d pc lv (vr (some (g, k)) :: vi j :: vr (some (f, i)) :: st) M Q := E.up (fun _ _ hJ => J_astR hXa hF hf hin hdg hok hJ) h
theorem E_astN {f i : Nat} {j : Int32} {Q : Out → Mem → Prop} (hF : ∀ x ∈ gF γ, x.1 < 20) (hf : 20 ≤ f) (hin : vp_in j (mL M f i)) (hdg : decode (kc κ) pc = .ok (.aastore, 1)) (e6 : ka f = 6)
    (h : E γ κ d (pc + 1) lv st (sR M f i j.toNatClampNeg none) Q) : E γ κ d pc lv (vr none :: vi j :: vr (some (f, i)) :: st) M Q := E.up (fun _ _ hJ => J_astN hF hf hin hdg e6 hJ) h
end AstR
