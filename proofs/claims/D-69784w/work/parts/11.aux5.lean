/-! what stands outside: the enum's constants -/
def kns : List String := ["NAME", "NUMBER", "SIGN", "END", "BAD"]
/-- the constants are there, and differ -/
def Xk (γ : Gm) : Prop := (∀ (j : Nat) (n : String), kns[j]? = some n → va_Z "ClassWorks$Kind" n "LClassWorks$Kind;" (.ref (gX γ (100 + j))) (Aq γ) (gs γ) (gs γ).heap) ∧ ∀ i j : Nat, i < 5 → j < 5 → gX γ (100 + i) = gX γ (100 + j) → i = j
/-- one of the constants -/
def isK (r : Option (Nat × Nat)) : Prop := ∃ i : Nat, i < 5 ∧ r = some (0, 100 + i)
section Ext
variable {γ : Gm} {κ : Kp} {d pc : Nat} {lv : List (Option AV)} {st : List AV} {M M' : Mem} {out : Out}
theorem J_gets {j idx : Nat} {n : String} (hX : Xk γ) (hj : kns[j]? = some n) (hl : Cond.fieldLink (ky κ).cls idx "ClassWorks$Kind" n "LClassWorks$Kind;" ∈ tables_1) (hdg : decode (kc κ) pc = .ok (.getstatic idx, 3)) (h : J γ κ d (pc + 3) lv (vr (some (0, 100 + j)) :: st) M out M') : J γ κ d pc lv st M out M' := by
  refine J.pure (fun _ _ hv => vpush (r := vr (some (0, 100 + j))) 0 _ hv.1 rfl (Or.inl rfl)) (fun p e R s m args' below meth c H locs cells slots ls Q a1 a2 a3 a4 a5 => ?_) h
  obtain ⟨b1, b2, b3, b4, b5, b6, b7, b8, b9, b10⟩ := a1
  obtain ⟨cf, kf, fi, f, a, cell, h1, h2, h3, h4, g5, h6, h7, h8⟩ := va_Z.moved b10.alike (hX.1 j n hj)
  have hH : H[a]? = some cell := by rw [a2.1.2.2 a (Array.getElem?_eq_some_iff.mp g5).1]; exact g5
  exact W.gets b1 b2 b4 (b5 _ hl rfl) h1 h2 h3 h4 hH (fun e => by rw [e] at h6; cases h6) h7 rfl hdg a5
theorem isK_ra {x y : Option (Nat × Nat)} (hX : Xk γ) (hx : isK x) (hy : isK y) (h : x.map (ra γ) = y.map (ra γ)) : x = y := by
  obtain ⟨i, hi, rfl⟩ := hx
  obtain ⟨j, hj, rfl⟩ := hy
  simp only [Option.map_some, Option.some.injEq, ra] at h
  rw [hX.2 i j hi hj (by simpa using h)]
theorem rv_rf (x : Option (Nat × Nat)) : rv γ (vr x) = va_rf (x.map (ra γ)) := by cases x <;> rfl
theorem J_acmp_eq {x y : Option (Nat × Nat)} {off : Int} {tgt : Nat} (hX : Xk γ) (hx : isK x) (hy : isK y) (hdg : decode (kc κ) pc = .ok (.if_acmp .eq off, 3)) (ht : (pc : Int) + off = (tgt : Int)) (kt : x = y → J γ κ d tgt lv st M out M') (kf : ¬ x = y → J γ κ d (pc + 3) lv st M out M') : J γ κ d pc lv (vr y :: vr x :: st) M out M' := by
  by_cases hP : x = y
  · refine J.pure (fun _ _ hv => vdrop 2 _ hv.1 rfl) (fun p e R s m args' below meth c H locs cells slots ls Q a1 a2 a3 a4 a5 => ?_) (kt hP)
    rw [List.map_cons, List.map_cons, rv_rf, rv_rf]
    exact lv_acmp_eq a1.1 a1.2.1 hdg ht (fun _ => a5) (fun h => absurd (by rw [hP]) h)
  · refine J.pure (fun _ _ hv => vdrop 2 _ hv.1 rfl) (fun p e R s m args' below meth c H locs cells slots ls Q a1 a2 a3 a4 a5 => ?_) (kf hP)
    rw [List.map_cons, List.map_cons, rv_rf, rv_rf]
    exact lv_acmp_eq a1.1 a1.2.1 hdg ht (fun h => absurd (isK_ra hX hx hy h) hP) (fun _ => a5)
theorem J_acmp_ne {x y : Option (Nat × Nat)} {off : Int} {tgt : Nat} (hX : Xk γ) (hx : isK x) (hy : isK y) (hdg : decode (kc κ) pc = .ok (.if_acmp .ne off, 3)) (ht : (pc : Int) + off = (tgt : Int)) (kt : x = y → J γ κ d (pc + 3) lv st M out M') (kf : ¬ x = y → J γ κ d tgt lv st M out M') : J γ κ d pc lv (vr y :: vr x :: st) M out M' := by
  by_cases hP : x = y
  · refine J.pure (fun _ _ hv => vdrop 2 _ hv.1 rfl) (fun p e R s m args' below meth c H locs cells slots ls Q a1 a2 a3 a4 a5 => ?_) (kt hP)
    rw [List.map_cons, List.map_cons, rv_rf, rv_rf]
    exact lv_acmp_ne a1.1 a1.2.1 hdg ht (fun h => absurd (by rw [hP]) h) (fun _ => a5)
  · refine J.pure (fun _ _ hv => vdrop 2 _ hv.1 rfl) (fun p e R s m args' below meth c H locs cells slots ls Q a1 a2 a3 a4 a5 => ?_) (kf hP)
    rw [List.map_cons, List.map_cons, rv_rf, rv_rf]
    exact lv_acmp_ne a1.1 a1.2.1 hdg ht (fun _ => a5) (fun h => absurd (isK_ra hX hx hy h) hP)
theorem E_gets {j idx : Nat} {n : String} {Q : Out → Mem → Prop} (hX : Xk γ) (hj : kns[j]? = some n) (hl : Cond.fieldLink (ky κ).cls idx "ClassWorks$Kind" n "LClassWorks$Kind;" ∈ tables_1) (hdg : decode (kc κ) pc = .ok (.getstatic idx, 3)) (h : E γ κ d (pc + 3) lv (vr (some (0, 100 + j)) :: st) M Q) : E γ κ d pc lv st M Q := E.up (fun _ _ hJ => J_gets hX hj hl hdg hJ) h
theorem E_acmp_eq {x y : Option (Nat × Nat)} {off : Int} {tgt : Nat} {Q : Out → Mem → Prop} (hX : Xk γ) (hx : isK x) (hy : isK y) (hdg : decode (kc κ) pc = .ok (.if_acmp .eq off, 3)) (ht : (pc : Int) + off = (tgt : Int)) (kt : x = y → E γ κ d tgt lv st M Q) (kf : ¬ x = y → E γ κ d (pc + 3) lv st M Q) : E γ κ d pc lv (vr y :: vr x :: st) M Q := by
  by_cases hP : x = y
  · exact E.up (fun _ _ hJ => J_acmp_eq hX hx hy hdg ht (fun _ => hJ) (fun h => absurd hP h)) (kt hP)
  · exact E.up (fun _ _ hJ => J_acmp_eq hX hx hy hdg ht (fun h => absurd h hP) (fun _ => hJ)) (kf hP)
theorem E_acmp_ne {x y : Option (Nat × Nat)} {off : Int} {tgt : Nat} {Q : Out → Mem → Prop} (hX : Xk γ) (hx : isK x) (hy : isK y) (hdg : decode (kc κ) pc = .ok (.if_acmp .ne off, 3)) (ht : (pc : Int) + off = (tgt : Int)) (kt : x = y → E γ κ d (pc + 3) lv st M Q) (kf : ¬ x = y → E γ κ d tgt lv st M Q) : E γ κ d pc lv (vr y :: vr x :: st) M Q := by
  by_cases hP : x = y
  · exact E.up (fun _ _ hJ => J_acmp_ne hX hx hy hdg ht (fun _ => hJ) (fun h => absurd hP h)) (kt hP)
  · exact E.up (fun _ _ hJ => J_acmp_ne hX hx hy hdg ht (fun h => absurd h hP) (fun _ => hJ)) (kf hP)
theorem isK_c (i : Nat) (h : i < 5) : isK (some (0, 100 + i)) := ⟨i, h, rfl⟩
end Ext
theorem sw0 {x : Int32} (lo : Int) : x.toInt < lo ∨ lo ≤ x.toInt := by omega
theorem sw1 {x k : Int32} {lo a b : Int} (h : x.toInt < lo ∨ a ≤ x.toInt) (hk : ¬ x = k) (e : k.toInt = a) (hb : b = a + 1) : x.toInt < lo ∨ b ≤ x.toInt := by
  have := lv_neT hk e
  omega
