section Copy
variable {γ : Gm} {κ : Kp} {d pc : Nat} {lv : List (Option AV)} {st : List AV} {M M' : Mem} {out : Out}
theorem cp_nat : Cond.native arraycopyName ∈ tables_1 := tbk_mem (j := 7) (k := 175) rfl
theorem cp_sta : Cond.static arraycopyName ∈ tables_1 := tbk_mem (j := 7) (k := 174) rfl
theorem cp_ini : Cond.initialized "java/lang/System" ∈ tables_1 := tbk_mem (j := 1) (k := 22) rfl
theorem fv_cpI {f i sp g j dp n : Nat} {q : Nat × Nat} (h : q ≠ (g, j)) : fv γ (cpI M f i sp g j dp n) q.1 q.2 = fv γ M q.1 q.2 := by
  funext k
  have : ¬ (q.1 = g ∧ q.2 = j) := fun x => h (Prod.ext x.1 x.2)
  simp only [fv, mI, mJ, mR, cpI, if_neg this]
theorem xv_cpI {f i sp g j dp n : Nat} {q : Nat × Nat} (h : q ≠ (g, j)) : xv γ (cpI M f i sp g j dp n) q.1 q.2 = xv γ M q.1 q.2 := by
  funext k
  have : ¬ (q.1 = g ∧ q.2 = j) := fun x => h (Prod.ext x.1 x.2)
  simp only [xv, mI, mJ, mR, cpI, if_neg this]
theorem Cl_cpI {f i sp g j dp n : Nat} (hf : (f, i) ∈ mN M) (hk : ka f = ka g) (h : Cl M) : Cl (cpI M f i sp g j dp n) := by
  intro q hq
  obtain ⟨h1, h2, h3⟩ := h q hq
  obtain ⟨-, s2, s3⟩ := h _ hf
  refine ⟨h1, fun e k => ?_, fun e k => ?_⟩
  · unfold mI cpI
    dsimp only
    split
    · rename_i z
      unfold va_cpy
      split
      · exact s2 (by dsimp only; rw [hk, ← z.1]; exact e) _
      · rw [← z.1, ← z.2]; exact h2 e k
    · exact h2 e k
  · unfold mI cpI
    dsimp only
    split
    · rename_i z
      unfold va_cpy
      split
      · exact s3 (by dsimp only; rw [hk, ← z.1]; exact e) _
      · rw [← z.1, ← z.2]; exact h3 e k
    · exact h3 e k
theorem aty3 {t : Nat} (h : t < 3) : ∃ ty, (tys γ)[t]? = some (gA γ t, ty) ∧ refKind ty = false ∧ ((t = 0 ∧ ty = .int) ∨ (t = 1 ∧ ty = .byte) ∨ (t = 2 ∧ ty = .boolean)) := by
  rcases (show t = 0 ∨ t = 1 ∨ t = 2 by omega) with rfl | rfl | rfl
  · exact ⟨_, rfl, rfl, Or.inl ⟨rfl, rfl⟩⟩
  · exact ⟨_, rfl, rfl, Or.inr (Or.inl ⟨rfl, rfl⟩)⟩
  · exact ⟨_, rfl, rfl, Or.inr (Or.inr ⟨rfl, rfl⟩)⟩
theorem xv_int {f i : Nat} (h : ka f < 3) : xv γ M f i = fun k => .int (mI M f i k) := by
  funext k; unfold xv; rw [if_pos h]
set_option maxHeartbeats 1000000 in
theorem J_copy {f i g j idx : Nat} {sp dp n : Int32} (h1 : ¬ sp < 0) (h2 : ¬ dp < 0) (h3 : ¬ n < 0) (h4 : sp.toNatClampNeg + n.toNatClampNeg ≤ mL M f i) (h5 : dp.toNatClampNeg + n.toNatClampNeg ≤ mL M g j) (hf : 20 ≤ f) (hg : 20 ≤ g) (hk : ka f = ka g) (hk3 : ka g < 3)
    (hl : Cond.methodLink (ky κ).cls idx arraycopyName ∈ tables_1) (hdg : decode (kc κ) pc = .ok (.invokestatic idx, 3)) (hst : st.length ≤ 15)
    (h : J γ κ (d + 1) (pc + 3) lv st (cpI M f i sp.toNatClampNeg g j dp.toNatClampNeg n.toNatClampNeg) out M') : J γ κ (d + 1) pc lv (vi n :: vi dp :: vr (some (g, j)) :: vi sp :: vr (some (f, i)) :: st) M out M' := by
  refine ⟨h.1, fun p e R s m args below meth c H locs cells slots ls a1 a2 a3 a4 a5 a6 a7 a8 a9 a10 => ?_⟩
  have nn : ∀ z : Int32, ¬ z < 0 → z.toInt = (z.toNatClampNeg : Int) := by
    intro z hz
    have hz0 : (0 : Int) ≤ z.toInt := by
      have := Int32.not_lt.mp hz
      simpa using Int32.le_iff_toInt_le.mp this
    show z.toInt = ((z.toInt.toNat : Nat) : Int)
    omega
  have hgi := vin_arr hg (a4.1 (vr (some (g, j))) (List.mem_cons_of_mem _ (List.mem_cons_of_mem _ List.mem_cons_self)))
  have hfi := vin_arr hf (a4.1 (vr (some (f, i))) (List.mem_cons_of_mem _ (List.mem_cons_of_mem _ (List.mem_cons_of_mem _ (List.mem_cons_of_mem _ List.mem_cons_self)))))
  obtain ⟨b1, b2, b3, b4, b5, b6, b7, b8, b9, b10⟩ := id a1
  obtain ⟨c1, c2, c3, c4, c5, c6⟩ := a2
  obtain ⟨ty, q1, hprim, q2⟩ := aty3 (γ := γ) hk3
  have hc0 := arr_at hf c1 hfi
  have hc1 := arr_at hg c1 hgi
  rw [xv_int (by rw [hk]; exact hk3), hk] at hc0
  rw [xv_int hk3] at hc1
  intro T hT X
  subst hT
  obtain ⟨-, k0, hk0, cm0, hkk0⟩ := (c2.2 _ _ q1).1 (mL M f i) (fun k => .int (mI M f i k))
  obtain ⟨-, k1, hk1, cm1, hkk1⟩ := (c2.2 _ _ q1).1 (mL M g j) (fun k => .int (mI M g j k))
  have hfit : ∀ k, fits ty (.int (mI M f i k)) = true := by
    obtain ⟨-, s2, s3⟩ := c5 _ hfi
    intro k
    rcases q2 with ⟨-, rfl⟩ | ⟨z, rfl⟩ | ⟨z, rfl⟩
    · rfl
    · exact s2 (by dsimp only; rw [hk]; exact z) k
    · exact s3 (by dsimp only; rw [hk]; exact z) k
  have hsum := cat_sum (γ := γ) st
  obtain ⟨vm', X', step⟩ := X.arraycopy b1 b4 (b5 _ hl rfl) (b5 _ cp_nat rfl) (b5 _ cp_sta rfl) (b5 _ cp_ini rfl) (src := ra γ (f, i)) (dst := ra γ (g, j)) (cs := arrV (gA γ (ka g)) (mL M f i) (fun k => .int (mI M f i k))) (cd := arrV (gA γ (ka g)) (mL M g j) (fun k => .int (mI M g j k))) (srcPos := sp) (destPos := dp) (n := n) hc0 hc1
    (fun _ h => by cases h) (fun _ h => by cases h) (fun h => by cases h) (fun h => by cases h) hk0 hk1 hkk0 hkk1 (by simp [hprim]) h1 h2 h3
    (by rw [nn sp h1, nn n h3, arrV_size]; omega)
    (by rw [nn dp h2, nn n h3, arrV_size]; omega)
    (fun vm₁ _ k hk' => by
      have e : (arrV (gA γ (ka g)) (mL M f i) (fun k => .int (mI M f i k))).slots.getD (sp.toNatClampNeg + k) .null = .int (mI M f i (sp.toNatClampNeg + k)) := by
        rw [Array.getD_eq_getD_getElem?, arrV_read _ _ (by omega)]
        rfl
      refine ⟨?_, ?_⟩
      · rw [e]
        exact hfit _
      · rw [e]
        exact trivial)
    (g := F0 m pc ls ((vi n :: vi dp :: vr (some (g, j)) :: vi sp :: vr (some (f, i)) :: st).map (rv γ))) rfl (by rw [b3]; exact a3.1) (rest := st.map (rv γ)) rfl (by rw [b2]; exact hdg) (by omega) (by
      have e0 : nativeFrameWords "java/lang/System" "arraycopy" 5 ≤ 30 := by decide +kernel
      show 2 * 0 + _ + _ ≤ _
      omega)
  have e1 : copied (arrV (gA γ (ka g)) (mL M f i) (fun k => .int (mI M f i k))) (arrV (gA γ (ka g)) (mL M g j) (fun k => .int (mI M g j k))) sp dp n = arrV (gA γ (ka g)) (mL M g j) (fun k => .int (va_cpy (mI M f i) (mI M g j) sp.toNatClampNeg dp.toNatClampNeg n.toNatClampNeg k)) := va_copied (fun z => .int z) _ _ _ _ h4
  rw [e1] at X' step
  have hl1 : ra γ (g, j) < T.heap.size := (Array.getElem?_eq_some_iff.mp hc1).1
  have hz : g ≠ 0 := by omega
  have k1 : Rl γ (cpI M f i sp.toNatClampNeg g j dp.toNatClampNeg n.toNatClampNeg) (T.heap.setIfInBounds (ra γ (g, j)) (arrV (gA γ (ka g)) (mL M g j) (fun k => .int (va_cpy (mI M f i) (mI M g j) sp.toNatClampNeg dp.toNatClampNeg n.toNatClampNeg k)))) := by
    refine Rl.upd c1 hgi rfl (fun q hq => pfx_mem h.1 a5 hq) (fun q hq K hK => holds_of (fv_cpI hq) (xv_cpI hq) rfl hK) ?_ (by simp) (fun a ha => by simp [Array.getElem?_setIfInBounds, Ne.symm ha])
    unfold holds
    rw [if_neg (by dsimp only; omega)]
    rw [xv_int hk3]
    simp only [Array.getElem?_setIfInBounds, hl1, if_true]
    congr 2
    funext k
    simp [mI, cpI]
    rfl
  obtain ⟨L, hL, X2⟩ : ∃ L : List Loc, (∀ q ∈ L, q.base = ra γ (g, j)) ∧ Stand p (gl γ) e R s m args below meth c ((T.setVm vm').setCell (ra γ (g, j)) (arrV (gA γ (ka g)) (mL M g j) (fun k => .int (va_cpy (mI M f i) (mI M g j) sp.toNatClampNeg dp.toNatClampNeg n.toNatClampNeg k)))) (locs ++ L) cells slots :=
    ⟨_, fun q hq => by obtain ⟨z, -, hz'⟩ := List.mem_map.mp hq; rw [← hz'], X'⟩
  have k2 := h.2 p e R s m args below meth c _ (locs ++ L) cells slots ls a1 ⟨k1, c2, c3, fun q hq => ?_, Cl_cpI hfi hk c5, c6⟩ a3 ⟨fun w hw => a4.1 w (List.mem_cons_of_mem _ (List.mem_cons_of_mem _ (List.mem_cons_of_mem _ (List.mem_cons_of_mem _ (List.mem_cons_of_mem _ hw))))), a4.2⟩ a5 a6 a7 a8 a9 a10
  · obtain ⟨t, s1, s2⟩ := k2 _ rfl X2
    exact ⟨t, step t s1, s2⟩
  · rcases List.mem_append.mp hq with x | x
    · exact c4 q x
    · rw [hL q x]; exact ra_ge hz
theorem E_copy {Q : Out → Mem → Prop} {f i g j idx : Nat} {sp dp n : Int32} (h1 : ¬ sp < 0) (h2 : ¬ dp < 0) (h3 : ¬ n < 0) (h4 : sp.toNatClampNeg + n.toNatClampNeg ≤ mL M f i) (h5 : dp.toNatClampNeg + n.toNatClampNeg ≤ mL M g j) (hf : 20 ≤ f) (hg : 20 ≤ g) (hk : ka f = ka g) (hk3 : ka g < 3)
    (hl : Cond.methodLink (ky κ).cls idx arraycopyName ∈ tables_1) (hdg : decode (kc κ) pc = .ok (.invokestatic idx, 3)) (hst : st.length ≤ 15)
    (h : E γ κ (d + 1) (pc + 3) lv st (cpI M f i sp.toNatClampNeg g j dp.toNatClampNeg n.toNatClampNeg) Q) : E γ κ (d + 1) pc lv (vi n :: vi dp :: vr (some (g, j)) :: vi sp :: vr (some (f, i)) :: st) M Q :=
  E.up (fun _ _ hJ => J_copy h1 h2 h3 h4 h5 hf hg hk hk3 hl hdg hst hJ) h
end Copy
