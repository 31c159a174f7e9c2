section New
variable {γ : Gm} {κ : Kp} {d pc : Nat} {lv : List (Option AV)} {st : List AV} {M M' : Mem} {out : Out}
theorem fv_mk {f i n : Nat} {q : Nat × Nat} (h : q ≠ (f, i)) : fv γ (mk M f i n) q.1 q.2 = fv γ M q.1 q.2 := by
  funext k
  have : ¬ (q.1 = f ∧ q.2 = i) := fun x => h (Prod.ext x.1 x.2)
  simp only [fv, mI, mJ, mR, mk, if_neg this]
theorem xv_mk {f i n : Nat} {q : Nat × Nat} (h : q ≠ (f, i)) : xv γ (mk M f i n) q.1 q.2 = xv γ M q.1 q.2 := by
  funext k
  have : ¬ (q.1 = f ∧ q.2 = i) := fun x => h (Prod.ext x.1 x.2)
  simp only [xv, mI, mJ, mR, mk, if_neg this]
theorem mL_mk {f i n : Nat} {q : Nat × Nat} (h : q ≠ (f, i)) : mL (mk M f i n) q.1 q.2 = mL M q.1 q.2 := by
  have : ¬ (q.1 = f ∧ q.2 = i) := fun x => h (Prod.ext x.1 x.2)
  simp only [mL, mk, if_neg this]
theorem mN_mk (f i n : Nat) : mN (mk M f i n) = mN M ++ [(f, i)] := rfl
theorem mS_mk (f i n : Nat) : mS (mk M f i n) = mS M + n := rfl
theorem Le_mk {f i n : Nat} (h : (f, i) ∉ mN M) : Le M (mk M f i n) := by
  refine ⟨⟨[(f, i)], rfl⟩, fun hn => ?_, by rw [mS_mk]; omega⟩
  rw [mN_mk]
  exact List.nodup_append.mpr ⟨hn, by simp, fun a ha b hb => by rw [List.mem_singleton] at hb; subst hb; exact fun e => h (e ▸ ha)⟩
theorem vok_mk {f i n : Nat} {v : AV} (h : vok M v) : vok (mk M f i n) v := by
  unfold vok at h ⊢
  split
  · rcases h with q | q
    · exact Or.inl q
    · exact Or.inr (by rw [mN_mk]; exact List.mem_append_left _ q)
  · trivial
theorem Cl_mk {f i n : Nat} (hf : (f, i) ∉ mN M) (h : Cl M) : Cl (mk M f i n) := by
  intro q hq
  by_cases e : q = (f, i)
  · subst e
    refine ⟨fun k => ?_, fun _ k => ?_, fun _ k => ?_⟩
    · simp [mR, mk, vok]
    · simp [mI, mk]; rfl
    · simp [mI, mk]; rfl
  · rw [mN_mk] at hq
    rcases List.mem_append.mp hq with hq | hq
    · obtain ⟨h1, h2, h3⟩ := h q hq
      have : ¬ (q.1 = f ∧ q.2 = i) := fun x => e (Prod.ext x.1 x.2)
      refine ⟨fun k => ?_, fun z k => ?_, fun z k => ?_⟩
      · have := vok_mk (f := f) (i := i) (n := n) (h1 k)
        unfold mR mk; dsimp only; rw [if_neg ‹_›]; exact this
      · unfold mI mk; dsimp only; rw [if_neg ‹_›]; exact h2 z k
      · unfold mI mk; dsimp only; rw [if_neg ‹_›]; exact h3 z k
    · exact absurd (List.mem_singleton.mp hq) e
theorem Lay_mk {f i n : Nat} (hf : (f, i) ∉ mN M) (h20 : 20 ≤ f) (hF : ∀ x ∈ gF γ, x.1 < 20) (h : Lay γ M) : Lay γ (mk M f i n) := by
  intro x hx i' hi'
  have := hF x hx
  rw [mN_mk] at hi'
  rcases List.mem_append.mp hi' with hi' | hi'
  · have e := h x hx i' hi'
    unfold mR mk
    dsimp only
    rw [if_neg (by omega)]; exact e
  · have e := List.mem_singleton.mp hi'
    have : x.1 = f := congrArg Prod.fst e
    omega
/-- the real heap behind a cell that was made at its end -/
theorem Rl_push {f i n : Nat} {H H1 : Heap} {M' : Mem} (h : Rl γ M H) (hf : (f, i) ∉ mN M) (hz : f ≠ 0) (hnew : holds γ (mk M f i n) (f, i) H1) (hsz : H1.size = H.size + 1) (ho : ∀ q, q < H.size → H1[q]? = H[q]?) (hall : ∀ q ∈ mN M, q ∈ gN γ) (hlt : ∀ q ∈ mN M, ra γ q < H.size) : Rl γ (mk M f i n) H1 := by
  obtain ⟨r1, r2, r3⟩ := h
  refine ⟨fun q hq => ?_, by rw [hsz, r2, mN_mk, List.length_append, List.length_singleton]; omega, fun a ha => by rw [ho a (by omega)]; exact r3 a ha⟩
  rw [mN_mk] at hq
  rcases List.mem_append.mp hq with hq | hq
  · obtain ⟨a1, a2⟩ := r1 q hq
    have e : q ≠ (f, i) := fun e => hf (e ▸ hq)
    exact ⟨a1, (holds_of (fv_mk e) (xv_mk e) (mL_mk e) a2).kept (ho _ (hlt q hq))⟩
  · have e := List.mem_singleton.mp hq
    subst e
    exact ⟨hz, hnew⟩
theorem holds_lt {q : Nat × Nat} {H : Heap} (h : holds γ M q H) : ra γ q < H.size := by
  unfold holds at h
  split at h
  · obtain ⟨r, -, ⟨cell, h2, -⟩, -⟩ := h
    exact (Array.getElem?_eq_some_iff.mp h2).1
  · exact (Array.getElem?_eq_some_iff.mp h).1
theorem new_ra {M' : Mem} {f i n : Nat} (hle : Le (mk M f i n) M') (hx : ∃ x, gN γ = mN M' ++ x) (hn : (gN γ).Nodup) (hz : f ≠ 0) : ra γ (f, i) = gb γ + (mN M).length := by
  obtain ⟨x, e⟩ := hx
  obtain ⟨⟨y, e'⟩, -⟩ := hle
  rw [mN_mk] at e'
  exact ra_new (x := y ++ x) (by rw [e, e']; simp) hn hz
def nty (t : Nat) : ArrayType := if t = 0 then .int else if t = 1 then .byte else if t = 2 then .boolean else .long
theorem nw_arr : ∀ t, t < 4 → Cond.arrayClass (newarray.typeOf (nty t)) ∈ tables_1 := by
  intro t ht
  rcases (show t = 0 ∨ t = 1 ∨ t = 2 ∨ t = 3 by omega) with rfl | rfl | rfl | rfl
  · exact tbk_mem (j := 1) (k := 174) rfl
  · exact tbk_mem (j := 1) (k := 172) rfl
  · exact tbk_mem (j := 2) (k := 6) rfl
  · exact tbk_mem (j := 1) (k := 173) rfl
set_option maxHeartbeats 1000000 in
theorem J_newa {f i : Nat} {n : Int32} (hf : 20 ≤ f) (hk : ka f < 4) (hF : ∀ x ∈ gF γ, x.1 < 20) (hn : ¬ n < 0) (hb : n.toNatClampNeg ≤ 60000000) (hi : (f, i) ∉ mN M) (hdg : decode (kc κ) pc = .ok (.newarray (nty (ka f)), 2))
    (h : J γ κ d (pc + 2) lv (vr (some (f, i)) :: st) (mk M f i n.toNatClampNeg) out M') : J γ κ d pc lv (vi n :: st) M out M' := by
  have hle := (Le_mk (n := n.toNatClampNeg) hi).trans h.1
  have l2 := h.1.len
  have z2 := h.1.2.2
  rw [mN_mk, List.length_append, List.length_singleton] at l2
  rw [mS_mk] at z2
  refine ⟨hle, fun p e R s m args below meth c H locs cells slots ls a1 a2 a3 a4 a5 a6 a7 a8 a9 a10 => ?_⟩
  obtain ⟨b1, b2, b3, b4, b5, b6, b7, b8, b9, b10⟩ := id a1
  obtain ⟨c1, c2, c3, c4, c5, c6⟩ := a2
  have hra := new_ra h.1 a5 a6 (show f ≠ 0 by omega)
  have hHs : H.size = ra γ (f, i) := by rw [c1.2.1, hra]
  obtain ⟨ty, hty, hT, hdv⟩ : ∃ ty, newarray.typeOf (nty (ka f)) = ty ∧ (tys γ)[ka f]? = some (gA γ (ka f), ty) ∧ ((va_RA s (gA γ (ka f)) ty → s.vm.findClass ("[" ++ ty.toString) = some (gA γ (ka f))) ∧ componentBytes ty ≤ 8 ∧ ∀ k, xv γ (mk M f i n.toNatClampNeg) f i k = defaultValue ty) := by
    rcases (show ka f = 0 ∨ ka f = 1 ∨ ka f = 2 ∨ ka f = 3 by omega) with q | q | q | q
    · refine ⟨.int, by rw [q]; rfl, by rw [q]; rfl, fun x => x, by decide, fun k => ?_⟩; simp [xv, q, mI, mk]; rfl
    · refine ⟨.byte, by rw [q]; rfl, by rw [q]; rfl, fun x => x, by decide, fun k => ?_⟩; simp [xv, q, mI, mk]; rfl
    · refine ⟨.boolean, by rw [q]; rfl, by rw [q]; rfl, fun x => x, by decide, fun k => ?_⟩; simp [xv, q, mI, mk]; rfl
    · refine ⟨.long, by rw [q]; rfl, by rw [q]; rfl, fun x => x, by decide, fun k => ?_⟩; simp [xv, q, mJ, mk]; rfl
  obtain ⟨hva, hcb, hdv⟩ := hdv
  refine va_newaK b1 b2 (b5 _ (nw_arr _ hk) rfl) (g := F0 m pc ls ((vi n :: st).map (rv γ))) rfl hdg (n := n) (N := n.toNatClampNeg) (rest := st.map (rv γ)) rfl hn rfl (by rw [hty]; exact Nat.le_trans (Nat.mul_le_mul hb hcb) (by decide)) (by omega) (by omega) hHs fun H1 cA y1 y2 y3 y4 y5 => ?_
  rw [hty] at y1 y4 y5
  have hcA : cA = gA γ (ka f) := Option.some.inj (y5.symm.trans (hva (c2.2 _ _ hT).2))
  subst hcA
  have hlt : ∀ q ∈ mN M, ra γ q < H.size := fun q hq => holds_lt (c1.1 q hq).2
  have k1 : Rl γ (mk M f i n.toNatClampNeg) H1 := by
    refine Rl_push (M' := M') c1 hi (by omega) ?_ (by omega) (fun q hq => y3 q (by omega)) (fun q hq => pfx_mem hle a5 hq) hlt
    unfold holds
    rw [if_neg (by dsimp only; omega), y1]
    have e1 : mL (mk M f i n.toNatClampNeg) f i = n.toNatClampNeg := by simp [mL, mk]
    rw [e1]
    congr 2
    funext k
    exact (hdv k).symm
  have k2 := h.2 p e R s m args below meth c H1 locs (cells + 1) (slots + n.toNatClampNeg) ls a1 ⟨k1, c2, c3, c4, Cl_mk hi c5, Lay_mk hi hf hF c6⟩ a3 ⟨fun w hw => ?_, fun w hw => vok_mk (a4.2 w hw)⟩ a5 a6 a7 a8 (by rw [mN_mk, List.length_append, List.length_singleton]; omega) (by rw [mS_mk]; omega)
  · rw [mN_mk, List.length_append, List.length_singleton, mS_mk] at k2
    rw [show cells + 1 + ((mN M').length - ((mN M).length + 1)) = cells + ((mN M').length - (mN M).length) by omega, show slots + n.toNatClampNeg + (mS M' - (mS M + n.toNatClampNeg)) = slots + (mS M' - mS M) by omega] at k2
    exact k2
  · rcases List.mem_cons.mp hw with rfl | hw
    · exact Or.inr (by rw [mN_mk]; exact List.mem_append_right _ (List.mem_singleton.mpr rfl))
    · exact vok_mk (a4.1 w (List.mem_cons_of_mem _ hw))
theorem E_newa {Q : Out → Mem → Prop} {f i : Nat} {n : Int32} (hf : 20 ≤ f) (hk : ka f < 4) (hF : ∀ x ∈ gF γ, x.1 < 20) (hn : ¬ n < 0) (hb : n.toNatClampNeg ≤ 60000000) (hi : (f, i) ∉ mN M) (hdg : decode (kc κ) pc = .ok (.newarray (nty (ka f)), 2))
    (h : E γ κ d (pc + 2) lv (vr (some (f, i)) :: st) (mk M f i n.toNatClampNeg) Q) : E γ κ d pc lv (vi n :: st) M Q := E.up (fun _ _ hJ => J_newa hf hk hF hn hb hi hdg hJ) h
end New
