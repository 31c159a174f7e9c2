section Rows
variable {γ : Gm} {κ : Kp} {d pc : Nat} {lv : List (Option AV)} {st : List AV} {M M' : Mem} {out : Out}
theorem Cl_sI {f i k : Nat} {x : Int32} (hx : f < 20 ∨ ((ka f = 1 → fits .byte (.int x) = true) ∧ (ka f = 2 → fits .boolean (.int x) = true))) (h : Cl M) : Cl (sI M f i k x) := by
  intro q hq
  obtain ⟨h1, h2, h3⟩ := h q hq
  refine ⟨h1, fun e j => ?_, fun e j => ?_⟩
  · unfold mI sI
    dsimp only
    split
    · rename_i z
      rcases hx with hx | hx
      · rw [z.1] at e; unfold ka at e; rw [if_pos (by omega)] at e; cases e
      · exact hx.1 (by rw [← z.1]; exact e)
    · exact h2 e j
  · unfold mI sI
    dsimp only
    split
    · rename_i z
      rcases hx with hx | hx
      · rw [z.1] at e; unfold ka at e; rw [if_pos (by omega)] at e; cases e
      · exact hx.2 (by rw [← z.1]; exact e)
    · exact h3 e j
theorem J_putI {f i idx k : Nat} {t : Option (Nat × Nat × Nat)} {fl : List FLe} (hfl : FLok γ (ky κ).cls fl) (hm : (idx, f, k, t, true) ∈ fl) (hk : kd f k = 0) {x : Int32} (hx : zb f k = true → x = 0 ∨ x = 1) (hdg : decode (kc κ) pc = .ok (.putfield idx, 3))
    (h : J γ κ d (pc + 3) lv st (sI M f i k x) out M') : J γ κ d pc lv (vi x :: vr (some (f, i)) :: st) M out M' := by
  obtain ⟨r, h1, h2, h3, -⟩ := id hfl _ hm
  obtain ⟨c1, c2⟩ := cls_le h1
  dsimp only at c1 h3 h2
  obtain ⟨y1, y2, -⟩ := ty_kinds f (by omega) k (by omega)
  have hb : narrow (tyf f k) (.int x) = .int x ∧ fits (tyf f k) (.int x) = true := by
    by_cases hz : zb f k = true
    · rw [y2 hz]
      rcases hx hz with rfl | rfl <;> exact ⟨rfl, rfl⟩
    · rw [y1 hk (by simpa using hz)]; exact ⟨rfl, rfl⟩
  refine J_put (M1 := sI M f i k x) hfl hm hdg hb.1 hb.2 rfl rfl rfl (fun q hq => ⟨fv_sI hq, xv_sI hq⟩) (fun j => ?_) (fun _ _ x => Cl_sI (Or.inl (by omega)) x) (fun _ x => x) h
  by_cases hj : j = k
  · subst hj
    simp [fv, hk, mI, sI, rv]
  · simp [fv, mI, mJ, mR, sI, hj]
theorem J_putJ {f i idx k : Nat} {t : Option (Nat × Nat × Nat)} {fl : List FLe} (hfl : FLok γ (ky κ).cls fl) (hm : (idx, f, k, t, true) ∈ fl) (hk : kd f k = 1) {x : Int64} (hdg : decode (kc κ) pc = .ok (.putfield idx, 3))
    (h : J γ κ d (pc + 3) lv st (sJ M f i k x) out M') : J γ κ d pc lv (vl x :: vr (some (f, i)) :: st) M out M' := by
  obtain ⟨r, h1, h2, h3, -⟩ := id hfl _ hm
  obtain ⟨c1, c2⟩ := cls_le h1
  dsimp only at c1 h3 h2
  obtain ⟨-, -, y3⟩ := ty_kinds f (by omega) k (by omega)
  refine J_put (M1 := sJ M f i k x) hfl hm hdg (by rw [y3 hk]; rfl) (by rw [y3 hk]; rfl) rfl rfl rfl (fun q hq => ⟨fv_sJ hq, xv_sJ hq⟩) (fun j => ?_) (fun _ _ x => x) (fun _ x => x) h
  by_cases hj : j = k
  · subst hj
    simp [fv, hk, mJ, sJ, rv]
  · simp [fv, mI, mJ, mR, sJ, hj]
theorem Cl_sR {f i k : Nat} {r : Option (Nat × Nat)} (hr : vok M (vr r)) (h : Cl M) : Cl (sR M f i k r) := by
  intro q hq
  obtain ⟨h1, h2, h3⟩ := h q hq
  refine ⟨fun j => ?_, h2, h3⟩
  show vok M (vr (mR (sR M f i k r) q.1 q.2 j))
  unfold mR sR
  dsimp only
  split
  · exact hr
  · exact h1 j
theorem J_putR {f i idx k : Nat} {t : Option (Nat × Nat × Nat)} {fl : List FLe} (hfl : FLok γ (ky κ).cls fl) (hm : (idx, f, k, t, true) ∈ fl) (hk : kd f k = 2) {x : Option (Nat × Nat)} (hdg : decode (kc κ) pc = .ok (.putfield idx, 3))
    (h : J γ κ d (pc + 3) lv st (sR M f i k x) out M') : J γ κ d pc lv (vr x :: vr (some (f, i)) :: st) M out M' := by
  obtain ⟨r, h1, h2, h3, -⟩ := id hfl _ hm
  obtain ⟨c1, c2⟩ := cls_le h1
  dsimp only at c1 h3 h2
  have y := ty_refs f (by omega) k (by omega) hk
  have hb : narrow (tyf f k) (rv γ (vr x)) = rv γ (vr x) ∧ fits (tyf f k) (rv γ (vr x)) = true := by
    cases hty : tyf f k with
    | object C => cases x <;> exact ⟨rfl, rfl⟩
    | array C => cases x <;> exact ⟨rfl, rfl⟩
    | _ => rw [hty] at y; cases y
  refine J_put (M1 := sR M f i k x) hfl hm hdg hb.1 hb.2 rfl rfl rfl (fun q hq => ⟨fv_sR hq, xv_sR hq⟩) (fun j => ?_) (fun _ v c => Cl_sR v c) (fun h8 hL y hy i' hi' => ?_) h
  · by_cases hj : j = k
    · subst hj
      simp [fv, hk, mR, sR]
    · simp [fv, mI, mJ, mR, sR, hj]
  · have := hL y hy i' hi'
    unfold mR sR
    dsimp only
    rw [if_neg (fun q => h8 y hy ⟨q.1, q.2.2⟩)]
    exact this
-- arrays
def xav (M : Mem) (f i k : Nat) : AV := if ka f < 3 then vi (mI M f i k) else if ka f = 3 then vl (mJ M f i k) else vr (mR M f i k)
theorem rv_xav (f i k : Nat) : rv γ (xav M f i k) = xv γ M f i k := by
  unfold xav xv
  split; rfl; split <;> rfl
theorem vok_xav {f i : Nat} (hC : Cl M) (hi : (f, i) ∈ mN M) (k : Nat) : vok M (xav M f i k) := by
  unfold xav
  split
  · trivial
  · split
    · trivial
    · exact (hC _ hi).1 k
theorem vin_arr {f i : Nat} (hf : 20 ≤ f) (h : vok M (vr (some (f, i)))) : (f, i) ∈ mN M := by
  rcases h with x | x
  · dsimp only at x; omega
  · exact x
theorem arr_at {H : Heap} {f i : Nat} (hf : 20 ≤ f) (h : Rl γ M H) (hi : (f, i) ∈ mN M) : H[ra γ (f, i)]? = some (arrV (gA γ (ka f)) (mL M f i) (xv γ M f i)) := by
  obtain ⟨-, hh⟩ := h.1 _ hi
  unfold holds at hh
  rw [if_neg (by dsimp only; omega)] at hh
  exact hh
theorem arr_in {f i : Nat} {j : Int32} (h : vp_in j (mL M f i)) : ¬ (j < 0 ∨ (arrV (gA γ (ka f)) (mL M f i) (xv γ M f i)).slots.size ≤ j.toNatClampNeg) := by rw [arrV_size]; exact h
theorem arr_slot {f i : Nat} {j : Int32} (h : vp_in j (mL M f i)) : (arrV (gA γ (ka f)) (mL M f i) (xv γ M f i)).slots[j.toNatClampNeg]? = some (rv γ (xav M f i j.toNatClampNeg)) := by
  have hl : j.toNatClampNeg < mL M f i := Nat.not_le.mp fun q => h (Or.inr q)
  rw [rv_xav]
  simp [arrV, Array.getElem?_ofFn, hl]
theorem J_ald {f i : Nat} {j : Int32} (hf : 20 ≤ f) (hin : vp_in j (mL M f i)) {ins : Instr} (hdg : decode (kc κ) pc = .ok (ins, 1)) (hk : (ka f = 0 ∧ ins = .iaload) ∨ (ka f = 1 ∧ ins = .baload) ∨ (ka f = 2 ∧ ins = .baload) ∨ (ka f = 3 ∧ ins = .laload) ∨ (4 ≤ ka f ∧ ka f ≤ 8 ∧ ins = .aaload))
    (h : J γ κ d (pc + 1) lv (xav M f i j.toNatClampNeg :: st) M out M') : J γ κ d pc lv (vi j :: vr (some (f, i)) :: st) M out M' := by
  refine J.pure (fun hC hL hv v hv' => ?_) (fun p e R s m args below meth c H locs cells slots ls Q a1 a2 a3 a4 a5 => ?_) h
  · rcases List.mem_cons.mp hv' with rfl | hv'
    · exact vok_xav hC (vin_arr hf (hv.1 _ (List.mem_cons_of_mem _ List.mem_cons_self))) _
    · exact hv.1 v (List.mem_cons_of_mem _ (List.mem_cons_of_mem _ hv'))
  · have hi := vin_arr hf (a4.1 (vr (some (f, i))) (List.mem_cons_of_mem _ List.mem_cons_self))
    obtain ⟨b1, b2, b3, b4, b5, b6, b7, b8, b9, b10⟩ := a1
    obtain ⟨c1, c2, c3, c4, c5, c6⟩ := a2
    have hc := arr_at hf c1 hi
    rcases hk with ⟨e, rfl⟩ | ⟨e, rfl⟩ | ⟨e, rfl⟩ | ⟨e, rfl⟩ | ⟨e, e', rfl⟩
    · exact W.iald b1 b2 hc (by rw [e]; exact (c2.2 0 (gA γ 0, .int) rfl).1 _ _) (fun q => by cases q) (arr_in hin) (arr_slot hin) rfl rfl hdg a5
    · exact W.bald b1 b2 hc (by rw [e]; exact (c2.2 1 (gA γ 1, .byte) rfl).1 _ _) (fun q => by cases q) (arr_in hin) (arr_slot hin) rfl rfl hdg a5
    · exact W.zald b1 b2 hc (by rw [e]; exact (c2.2 2 (gA γ 2, .boolean) rfl).1 _ _) (fun q => by cases q) (arr_in hin) (arr_slot hin) rfl rfl hdg a5
    · exact W.lald b1 b2 hc (by rw [e]; exact (c2.2 3 (gA γ 3, .long) rfl).1 _ _) (fun q => by cases q) (arr_in hin) (arr_slot hin) rfl rfl hdg a5
    · have hr : ∃ ty, (tys γ)[ka f]? = some (gA γ (ka f), ty) ∧ ty.isReference = true := by
        rcases (show ka f = 4 ∨ ka f = 5 ∨ ka f = 6 ∨ ka f = 7 ∨ ka f = 8 by omega) with q | q | q | q | q <;> rw [q] <;> exact ⟨_, rfl, rfl⟩
      obtain ⟨ty, q1, q2⟩ := hr
      exact W.aald b1 b2 hc ((c2.2 _ _ q1).1 _ _) q2 (fun q => by cases q) (arr_in hin) (arr_slot hin) rfl rfl hdg a5
theorem J_alen {f i : Nat} (hf : 20 ≤ f) (hk : ka f ≤ 8) (hdg : decode (kc κ) pc = .ok (.arraylength, 1)) (h : J γ κ d (pc + 1) lv (vi (Int32.ofNat (mL M f i)) :: st) M out M') : J γ κ d pc lv (vr (some (f, i)) :: st) M out M' := by
  refine J.pure (fun hC hL hv v hv' => ?_) (fun p e R s m args below meth c H locs cells slots ls Q a1 a2 a3 a4 a5 => ?_) h
  · rcases List.mem_cons.mp hv' with rfl | hv'
    · trivial
    · exact hv.1 v (List.mem_cons_of_mem _ hv')
  · have hi := vin_arr hf (a4.1 _ List.mem_cons_self)
    obtain ⟨b1, b2, b3, b4, b5, b6, b7, b8, b9, b10⟩ := a1
    obtain ⟨c1, c2, c3, c4, c5, c6⟩ := a2
    have hc := arr_at hf c1 hi
    have hr : ∃ ty, (tys γ)[ka f]? = some (gA γ (ka f), ty) := by
      rcases (show ka f = 0 ∨ ka f = 1 ∨ ka f = 2 ∨ ka f = 3 ∨ ka f = 4 ∨ ka f = 5 ∨ ka f = 6 ∨ ka f = 7 ∨ ka f = 8 by omega) with q | q | q | q | q | q | q | q | q <;> rw [q] <;> exact ⟨_, rfl⟩
    obtain ⟨ty, q1⟩ := hr
    exact W.alen b1 b2 hc ((c2.2 _ _ q1).1 _ _) (by rw [arrV_size]) rfl rfl hdg a5
/-- a store into an array, by any of the machine's five ways -/
theorem J_ast {f i : Nat} {j : Int32} (hf : 20 ≤ f) {v v' : AV} {M1 : Mem} (hN : mN M1 = mN M) (hS : mS M1 = mS M) (hLn : mL M1 = mL M)
    (ho : ∀ q : Nat × Nat, q ≠ (f, i) → fv γ M1 q.1 q.2 = fv γ M q.1 q.2 ∧ xv γ M1 q.1 q.2 = xv γ M q.1 q.2) (hw : ∀ k, xv γ M1 f i k = if k = j.toNatClampNeg then rv γ v' else xv γ M f i k)
    (hC : (f, i) ∈ mN M → vok M v → Cl M → Cl M1) (hL : Lay γ M → Lay γ M1)
    (row : ∀ (p : Program) (e : Env) (R : Room) (s : State) (m : MethodId) (args : Array Value) (below : List Frame) (meth : Method) (c : Code) (H : Heap) (locs : List Loc) (cells slots : Nat) (ls : Array Slot) (Q : State → Prop),
      Cx γ κ p s m args meth c → Wd γ M s H locs → vls M lv (v :: vi j :: vr (some (f, i)) :: st) → (∀ H' : Heap, H'[ra γ (f, i)]? = some ((arrV (gA γ (ka f)) (mL M f i) (xv γ M f i)).setSlot j.toNatClampNeg (rv γ v')) → H'.size = H.size → (∀ q, q ≠ ra γ (f, i) → H'[q]? = H[q]?) →
        W p (gl γ) e R s m args below meth c H' (locs ++ [⟨ra γ (f, i), j.toNatClampNeg⟩]) cells slots Q (F0 m (pc + 1) ls (st.map (rv γ)))) → W p (gl γ) e R s m args below meth c H locs cells slots Q (F0 m pc ls ((v :: vi j :: vr (some (f, i)) :: st).map (rv γ))))
    (h : J γ κ d (pc + 1) lv st M1 out M') : J γ κ d pc lv (v :: vi j :: vr (some (f, i)) :: st) M out M' := by
  have hle : Le M M' := by
    obtain ⟨⟨x, e⟩, n1, s1⟩ := h.1
    exact ⟨⟨x, by rw [e, hN]⟩, fun q => n1 (by rw [hN]; exact q), by rw [← hS]; exact s1⟩
  refine ⟨hle, fun p e R s m args below meth c H locs cells slots ls a1 a2 a3 a4 a5 a6 a7 a8 a9 a10 => ?_⟩
  refine row p e R s m args below meth c H locs cells slots ls _ a1 a2 a4 fun H' z1 z2 z3 => ?_
  have hi := vin_arr hf (a4.1 (vr (some (f, i))) (List.mem_cons_of_mem _ (List.mem_cons_of_mem _ List.mem_cons_self)))
  obtain ⟨c1, c2, c3, c4, c5, c6⟩ := a2
  have k1 : Rl γ M1 H' := by
    refine Rl.upd c1 hi hN (fun q hq => pfx_mem hle a5 hq) (fun q hq K hK => holds_of (ho q hq).1 (ho q hq).2 (by rw [hLn]) hK) ?_ z2 z3
    unfold holds
    rw [if_neg (by dsimp only; omega), z1, arrV_store, hLn]
    congr 2
    funext k
    rw [hw k]; rfl
  have k2 := h.2 p e R s m args below meth c H' (locs ++ [⟨ra γ (f, i), j.toNatClampNeg⟩]) cells slots ls a1 ⟨k1, c2, c3, fun q hq => ?_, hC hi (a4.1 _ List.mem_cons_self) c5, hL c6⟩ a3 ⟨fun w hw => ?_, fun w hw => ?_⟩ a5 a6 a7 a8 (by rw [hN]; exact a9) (by rw [hS]; exact a10)
  · rw [hN, hS] at k2; exact k2
  · rcases List.mem_append.mp hq with x | x
    · exact c4 q x
    · rw [List.mem_singleton.mp x]; exact ra_ge (by dsimp only; omega)
  · have := a4.1 w (List.mem_cons_of_mem _ (List.mem_cons_of_mem _ (List.mem_cons_of_mem _ hw)))
    unfold vok at this ⊢; rw [hN]; exact this
  · have := a4.2 w hw
    unfold vok at this ⊢; rw [hN]; exact this
/-- what an int becomes in an array -/
def nrw (f : Nat) (x : Int32) : Int32 := if ka f = 0 then x else if ka f = 1 then x.toInt8.toInt32 else x &&& 1
theorem byte_fit (x : Int32) : fits .byte (.int x.toInt8.toInt32) = true := pk_fb x
theorem bool_fit (x : Int32) : fits .boolean (.int (x &&& 1)) = true := by
  obtain ⟨j, hj, e⟩ := pk_andE x (m := 1) 1 (by decide)
  rw [e]
  rcases (show j = 0 ∨ j = 1 by omega) with rfl | rfl <;> rfl
theorem nrw_fit (f : Nat) (x : Int32) : (ka f = 1 → fits .byte (.int (nrw f x)) = true) ∧ (ka f = 2 → fits .boolean (.int (nrw f x)) = true) := by
  unfold nrw
  refine ⟨fun e => ?_, fun e => ?_⟩
  · rw [if_neg (by omega), if_pos e]; exact byte_fit x
  · rw [if_neg (by omega), if_neg (by omega)]; exact bool_fit x
theorem J_astI {f i : Nat} {j x : Int32} (hf : 20 ≤ f) (hin : vp_in j (mL M f i)) {ins : Instr} (hdg : decode (kc κ) pc = .ok (ins, 1)) (hk : (ka f = 0 ∧ ins = .iastore) ∨ (ka f = 1 ∧ ins = .bastore) ∨ (ka f = 2 ∧ ins = .bastore))
    (h : J γ κ d (pc + 1) lv st (sI M f i j.toNatClampNeg (nrw f x)) out M') : J γ κ d pc lv (vi x :: vi j :: vr (some (f, i)) :: st) M out M' := by
  refine J_ast (M1 := sI M f i j.toNatClampNeg (nrw f x)) hf (v' := vi (nrw f x)) rfl rfl rfl (fun q hq => ⟨fv_sI hq, xv_sI hq⟩) (fun k => ?_) (fun _ _ z => Cl_sI (Or.inr (nrw_fit f x)) z) (fun x => x) (fun p e R s m args below meth c H locs cells slots ls Q a1 a2 a4 a5 => ?_) h
  · have h3 : ka f < 3 := by rcases hk with ⟨e, -⟩ | ⟨e, -⟩ | ⟨e, -⟩ <;> omega
    by_cases e : k = j.toNatClampNeg
    · subst e; simp [xv, h3, mI, sI, rv]
    · simp [xv, mI, mJ, mR, sI, e]
  · have hi := vin_arr hf (a4.1 (vr (some (f, i))) (List.mem_cons_of_mem _ (List.mem_cons_of_mem _ List.mem_cons_self)))
    obtain ⟨b1, b2, b3, b4, b5, b6, b7, b8, b9, b10⟩ := a1
    obtain ⟨c1, c2, c3, c4, c5, c6⟩ := a2
    have hc := arr_at hf c1 hi
    rcases hk with ⟨e, rfl⟩ | ⟨e, rfl⟩ | ⟨e, rfl⟩
    · exact W.iast b1 b2 hc (by rw [e]; exact (c2.2 0 (gA γ 0, .int) rfl).1 _ _) (fun q => by cases q) (arr_in hin) rfl rfl hdg (fun H' z1 z2 z3 => a5 H' (by rw [z1]; unfold nrw; rw [if_pos e]; rfl) z2 z3)
    · exact W.bast b1 b2 hc (by rw [e]; exact (c2.2 1 (gA γ 1, .byte) rfl).1 _ _) (fun q => by cases q) (arr_in hin) rfl rfl hdg (fun H' z1 z2 z3 => a5 H' (by rw [z1]; unfold nrw; rw [if_neg (by omega), if_pos e]; rfl) z2 z3)
    · exact W.zast b1 b2 hc (by rw [e]; exact (c2.2 2 (gA γ 2, .boolean) rfl).1 _ _) (fun q => by cases q) (arr_in hin) rfl rfl hdg (fun H' z1 z2 z3 => a5 H' (by rw [z1]; unfold nrw; rw [if_neg (by omega), if_neg (by omega)]; rfl) z2 z3)
theorem J_astJ {f i : Nat} {j : Int32} {x : Int64} (hf : 20 ≤ f) (hin : vp_in j (mL M f i)) (hdg : decode (kc κ) pc = .ok (.lastore, 1)) (e : ka f = 3)
    (h : J γ κ d (pc + 1) lv st (sJ M f i j.toNatClampNeg x) out M') : J γ κ d pc lv (vl x :: vi j :: vr (some (f, i)) :: st) M out M' := by
  refine J_ast (M1 := sJ M f i j.toNatClampNeg x) hf (v' := vl x) rfl rfl rfl (fun q hq => ⟨fv_sJ hq, xv_sJ hq⟩) (fun k => ?_) (fun _ _ x => x) (fun x => x) (fun p e' R s m args below meth c H locs cells slots ls Q a1 a2 a4 a5 => ?_) h
  · by_cases e1 : k = j.toNatClampNeg
    · subst e1; simp [xv, e, mJ, sJ, rv]
    · simp [xv, mI, mJ, mR, sJ, e1]
  · have hi := vin_arr hf (a4.1 (vr (some (f, i))) (List.mem_cons_of_mem _ (List.mem_cons_of_mem _ List.mem_cons_self)))
    obtain ⟨b1, b2, b3, b4, b5, b6, b7, b8, b9, b10⟩ := a1
    obtain ⟨c1, c2, c3, c4, c5, c6⟩ := a2
    exact W.last b1 b2 (arr_at hf c1 hi) (by rw [e]; exact (c2.2 3 (gA γ 3, .long) rfl).1 _ _) (fun q => by cases q) (arr_in hin) rfl rfl hdg a5
end Rows
