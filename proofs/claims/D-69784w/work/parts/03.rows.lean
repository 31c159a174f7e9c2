theorem ra_inj {γ : Gm} {q q' : Nat × Nat} (hq : q ∈ gN γ) (hq' : q' ∈ gN γ) (h1 : q.1 ≠ 0) (h1' : q'.1 ≠ 0) (h : ra γ q = ra γ q') : q = q' := by
  unfold ra at h
  rw [if_neg h1, if_neg h1'] at h
  have e : (gN γ).idxOf q = (gN γ).idxOf q' := by omega
  have a := List.getElem_idxOf (List.idxOf_lt_length_of_mem hq)
  have b := List.getElem_idxOf (List.idxOf_lt_length_of_mem hq')
  rw [← a, ← b]
  simp only [e]
theorem ra_ge {γ : Gm} {q : Nat × Nat} (h : q.1 ≠ 0) : gb γ ≤ ra γ q := by
  unfold ra
  rw [if_neg h]; omega
theorem ra_new {γ : Gm} {M : Mem} {q : Nat × Nat} {x : List (Nat × Nat)} (h : gN γ = mN M ++ q :: x) (hn : (gN γ).Nodup) (h1 : q.1 ≠ 0) : ra γ q = gb γ + (mN M).length := by
  unfold ra
  rw [if_neg h1, h]
  rw [h] at hn
  have hq : q ∉ mN M := fun hq => by
    have := (List.nodup_append.mp hn).2.2 q hq q List.mem_cons_self
    exact this rfl
  rw [List.idxOf_append, if_neg hq, List.idxOf_cons_self]; simp
theorem holds.kept {γ : Gm} {M : Mem} {q : Nat × Nat} {H H1 : Heap} (h : holds γ M q H) (e : H1[ra γ q]? = H[ra γ q]?) : holds γ M q H1 := by
  unfold holds at h ⊢
  split
  · rename_i h0
    rw [if_pos h0] at h
    obtain ⟨r, h1, h2⟩ := h
    exact ⟨r, h1, h2.1.kept e, fun c hc => h2.2 c (by rw [← e]; exact hc)⟩
  · rename_i h0
    rw [if_neg h0] at h
    rw [e]; exact h
theorem pfx_mem {γ : Gm} {M M' : Mem} (hle : Le M M') (hx : ∃ x, gN γ = mN M' ++ x) {q : Nat × Nat} (h : q ∈ mN M) : q ∈ gN γ := by
  obtain ⟨x, e⟩ := hx
  obtain ⟨⟨y, e'⟩, -⟩ := hle
  rw [e, e']
  exact List.mem_append_left _ (List.mem_append_left _ h)
theorem Rl.upd {γ : Gm} {M M1 : Mem} {H H1 : Heap} {q0 : Nat × Nat} (h : Rl γ M H) (h0 : q0 ∈ mN M) (hN : mN M1 = mN M) (hall : ∀ q ∈ mN M, q ∈ gN γ)
    (he : ∀ q : Nat × Nat, q ≠ q0 → ∀ K : Heap, holds γ M q K → holds γ M1 q K) (hq : holds γ M1 q0 H1) (hsz : H1.size = H.size) (ho : ∀ a, a ≠ ra γ q0 → H1[a]? = H[a]?) : Rl γ M1 H1 := by
  obtain ⟨r1, r2, r3⟩ := h
  have hz := (r1 q0 h0).1
  refine ⟨fun q hq1 => ?_, by rw [hsz, hN]; exact r2, fun a ha => ?_⟩
  · rw [hN] at hq1
    obtain ⟨a1, a2⟩ := r1 q hq1
    refine ⟨a1, ?_⟩
    by_cases e : q = q0
    · subst e; exact hq
    · exact (he q e H a2).kept (ho _ fun x => e (ra_inj (hall q hq1) (hall q0 h0) a1 hz x))
  · rw [ho a fun x => by have := ra_ge (γ := γ) hz; omega]
    exact r3 a ha
-- what a store leaves alone
theorem fv_sI {γ : Gm} {M : Mem} {f i k : Nat} {v : Int32} {q : Nat × Nat} (h : q ≠ (f, i)) : fv γ (sI M f i k v) q.1 q.2 = fv γ M q.1 q.2 := by
  funext j
  have : ¬ (q.1 = f ∧ q.2 = i ∧ j = k) := fun x => h (Prod.ext x.1 x.2.1)
  simp only [fv, mI, mJ, mR, sI, if_neg this]
theorem fv_sJ {γ : Gm} {M : Mem} {f i k : Nat} {v : Int64} {q : Nat × Nat} (h : q ≠ (f, i)) : fv γ (sJ M f i k v) q.1 q.2 = fv γ M q.1 q.2 := by
  funext j
  have : ¬ (q.1 = f ∧ q.2 = i ∧ j = k) := fun x => h (Prod.ext x.1 x.2.1)
  simp only [fv, mI, mJ, mR, sJ, if_neg this]
theorem fv_sR {γ : Gm} {M : Mem} {f i k : Nat} {v : Option (Nat × Nat)} {q : Nat × Nat} (h : q ≠ (f, i)) : fv γ (sR M f i k v) q.1 q.2 = fv γ M q.1 q.2 := by
  funext j
  have : ¬ (q.1 = f ∧ q.2 = i ∧ j = k) := fun x => h (Prod.ext x.1 x.2.1)
  simp only [fv, mI, mJ, mR, sR, if_neg this]
theorem xv_sI {γ : Gm} {M : Mem} {f i k : Nat} {v : Int32} {q : Nat × Nat} (h : q ≠ (f, i)) : xv γ (sI M f i k v) q.1 q.2 = xv γ M q.1 q.2 := by
  funext j
  have : ¬ (q.1 = f ∧ q.2 = i ∧ j = k) := fun x => h (Prod.ext x.1 x.2.1)
  simp only [xv, mI, mJ, mR, sI, if_neg this]
theorem xv_sJ {γ : Gm} {M : Mem} {f i k : Nat} {v : Int64} {q : Nat × Nat} (h : q ≠ (f, i)) : xv γ (sJ M f i k v) q.1 q.2 = xv γ M q.1 q.2 := by
  funext j
  have : ¬ (q.1 = f ∧ q.2 = i ∧ j = k) := fun x => h (Prod.ext x.1 x.2.1)
  simp only [xv, mI, mJ, mR, sJ, if_neg this]
theorem xv_sR {γ : Gm} {M : Mem} {f i k : Nat} {v : Option (Nat × Nat)} {q : Nat × Nat} (h : q ≠ (f, i)) : xv γ (sR M f i k v) q.1 q.2 = xv γ M q.1 q.2 := by
  funext j
  have : ¬ (q.1 = f ∧ q.2 = i ∧ j = k) := fun x => h (Prod.ext x.1 x.2.1)
  simp only [xv, mI, mJ, mR, sR, if_neg this]
theorem holds_of {γ : Gm} {M M1 : Mem} {q : Nat × Nat} (h1 : fv γ M1 q.1 q.2 = fv γ M q.1 q.2) (h2 : xv γ M1 q.1 q.2 = xv γ M q.1 q.2) (h3 : mL M1 q.1 q.2 = mL M q.1 q.2) {K : Heap} (h : holds γ M q K) : holds γ M1 q K := by
  unfold holds at h ⊢
  rw [h1, h2, h3]; exact h
-- a field of a class's table
theorem cls_lt {f : Nat} {r : vw_C} (h : cls[f - 1]? = some r) (h1 : 1 ≤ f) : f < 20 := by
  have := (List.getElem?_eq_some_iff.mp h).1
  have e : cls.length = 14 := rfl
  omega
/-- a field link that a class's code uses: entry, class, field, what it is known to hold, whether it may be written -/
abbrev FLe : Type := Nat × Nat × Nat × Option (Nat × Nat × Nat) × Bool
def FLok (γ : Gm) (own : String) (fl : List FLe) : Prop := ∀ x ∈ fl, ∃ r : vw_C, cls[x.2.1 - 1]? = some r ∧ 1 ≤ x.2.1 ∧ x.2.2.1 < r.2.2 ∧
  ((Cond.fieldLink own x.1 (r.2.1 x.2.2.1).1 (r.2.1 x.2.2.1).2.1 (r.2.1 x.2.2.1).2.2.1 ∈ tables_1) ∨ ∃ host, Cond.fieldLinkNest own x.1 (r.2.1 x.2.2.1).1 (r.2.1 x.2.2.1).2.1 (r.2.1 x.2.2.1).2.2.1 host ∈ tables_1) ∧
  (∀ g, x.2.2.2.1 = some g → kd x.2.1 x.2.2.1 = 2 ∧ (x.2.1, x.2.2.1, g) ∈ gF γ) ∧ (x.2.2.2.2 = true → (r.2.1 x.2.2.1).2.2.2 = false ∧ ∀ y ∈ gF γ, ¬ (y.1 = x.2.1 ∧ y.2.1 = x.2.2.1))
def flc (own : String) (F : List (Nat × Nat × Nat × Nat × Nat)) (z : FLe × Nat × Nat × Option String) : Bool := match cls[z.1.2.1 - 1]? with
  | none => false
  | some r => decide (1 ≤ z.1.2.1) && decide (z.1.2.2.1 < r.2.2) &&
    decide (tbk z.2.1 z.2.2.1 = some (match z.2.2.2 with | none => .fieldLink own z.1.1 (r.2.1 z.1.2.2.1).1 (r.2.1 z.1.2.2.1).2.1 (r.2.1 z.1.2.2.1).2.2.1 | some h => .fieldLinkNest own z.1.1 (r.2.1 z.1.2.2.1).1 (r.2.1 z.1.2.2.1).2.1 (r.2.1 z.1.2.2.1).2.2.1 h)) &&
    (match z.1.2.2.2.1 with | none => true | some g => decide (kd z.1.2.1 z.1.2.2.1 = 2) && decide ((z.1.2.1, z.1.2.2.1, g) ∈ F)) &&
    (!z.1.2.2.2.2 || (!(r.2.1 z.1.2.2.1).2.2.2 && F.all (fun y => !(y.1 == z.1.2.1 && y.2.1 == z.1.2.2.1))))
theorem FLok_of {γ : Gm} {own : String} (fz : List (FLe × Nat × Nat × Option String)) {F : List (Nat × Nat × Nat × Nat × Nat)} (hF : gF γ = F) (h : fz.all (flc own F) = true) : FLok γ own (fz.map (·.1)) := by
  intro x hx
  obtain ⟨z, hz, rfl⟩ := List.mem_map.mp hx
  have h1 := List.all_eq_true.mp h z hz
  unfold flc at h1
  split at h1
  · cases h1
  · rename_i r hr
    simp only [Bool.and_eq_true, decide_eq_true_eq] at h1
    obtain ⟨⟨⟨⟨a1, a2⟩, a3⟩, a4⟩, a5⟩ := h1
    refine ⟨r, hr, a1, a2, ?_, ?_, ?_⟩
    · split at a3
      · exact Or.inl (tbk_mem a3)
      · exact Or.inr ⟨_, tbk_mem a3⟩
    · intro g hg
      rw [hg] at a4
      simp only [Bool.and_eq_true, decide_eq_true_eq] at a4
      rw [hF]; exact a4
    · intro hw
      rw [hw] at a5
      simp only [Bool.not_true, Bool.false_or, Bool.and_eq_true, Bool.not_eq_true', List.all_eq_true, Bool.and_eq_false_iff, beq_eq_false_iff_ne] at a5
      refine ⟨a5.1, fun y hy q => ?_⟩
      rw [hF] at hy
      rcases a5.2 y hy with e | e
      · exact e q.1
      · exact e q.2
theorem cls_ok {n : Nat} {r : vw_C} (h : cls[n]? = some r) : (∀ w ∈ u_ws r.1 r.2.1 r.2.2, w ∈ tables_1) ∧ (∀ k, k < r.2.2 → parseFieldDescriptor (r.2.1 k).2.2.1 = some (tyf (n + 1) k)) ∧ ∀ a, a < r.2.2 → ∀ b, b < r.2.2 → a ≠ b → (r.2.1 a).2.1 ≠ (r.2.1 b).2.1 := by
  match n, h with
  | 0, h => cases h; exact ⟨i_Names, t_Names_ok, n_Names⟩
  | 1, h => cases h; exact ⟨i_Words, t_Words_ok, n_Words⟩
  | 2, h => cases h; exact ⟨i_Reader, t_Reader_ok, n_Reader⟩
  | 3, h => cases h; exact ⟨i_Checker, t_Checker_ok, n_Checker⟩
  | 4, h => cases h; exact ⟨i_World, t_World_ok, n_World⟩
  | 5, h => cases h; exact ⟨i_Machine, t_Machine_ok, n_Machine⟩
  | 6, h => cases h; exact ⟨i_Line, t_Line_ok, n_Line⟩
  | 7, h => cases h; exact ⟨i_Writer, t_Writer_ok, n_Writer⟩
  | 8, h => cases h; exact ⟨i_Refusal, t_Refusal_ok, n_Refusal⟩
  | 9, h => cases h; exact ⟨i_Works, t_Works_ok, n_Works⟩
  | 10, h => cases h; exact ⟨i_Model, t_Model_ok, n_Model⟩
  | 11, h => cases h; exact ⟨i_MWorld, t_MWorld_ok, n_MWorld⟩
  | 12, h => cases h; exact ⟨i_Run, t_Run_ok, n_Run⟩
  | 13, h => cases h; exact ⟨i_Stop, t_Stop_ok, n_Stop⟩
  | n + 14, h => simp [cls] at h
theorem ty_kinds : ∀ f, f < 15 → ∀ k, k < 140 → (kd f k = 0 → zb f k = false → tyf f k = .int) ∧ (zb f k = true → tyf f k = .boolean) ∧ (kd f k = 1 → tyf f k = .long) := by decide +kernel
def isRf : FieldType → Bool
  | .object _ => true
  | .array _ => true
  | _ => false
theorem ty_refs : ∀ f, f < 15 → ∀ k, k < 140 → kd f k = 2 → isRf (tyf f k) = true := by decide +kernel
theorem cls_le {n : Nat} {r : vw_C} (h : cls[n]? = some r) : n < 14 ∧ r.2.2 < 140 := by
  match n, h with
  | 0, h | 1, h | 2, h | 3, h | 4, h | 5, h | 6, h | 7, h | 8, h | 9, h | 10, h | 11, h | 12, h | 13, h => cases h; decide
  | n + 14, h => simp [cls] at h
theorem u_good {C : String} {T : u_T} {N : Nat} : ∀ w ∈ u_ws C T N, gword w = true := by
  intro w hw
  obtain ⟨k, -, rfl⟩ := List.mem_map.mp hw
  unfold u_lay
  split <;> rfl
def gv (M : Mem) (f i k : Nat) (t : Option (Nat × Nat × Nat)) : AV := match t with
  | some g => vr (some (g.1, inst g.2.1 g.2.2 i))
  | none => if kd f k = 0 then vi (mI M f i k) else if kd f k = 1 then vl (mJ M f i k) else vr (mR M f i k)
section Rows
variable {γ : Gm} {κ : Kp} {d pc : Nat} {lv : List (Option AV)} {st : List AV} {M M' : Mem} {out : Out}
theorem J_get {f i idx k : Nat} {t : Option (Nat × Nat × Nat)} {w : Bool} {fl : List FLe} (hfl : FLok γ (ky κ).cls fl) (hm : (idx, f, k, t, w) ∈ fl) (hdg : decode (kc κ) pc = .ok (.getfield idx, 3))
    (h : J γ κ d (pc + 3) lv (gv M f i k t :: st) M out M') : J γ κ d pc lv (vr (some (f, i)) :: st) M out M' := by
  obtain ⟨r, h1, h2, h3, h5, h6, -⟩ := hfl _ hm
  have h4 := (cls_ok h1).1
  dsimp only at h1 h2 h3 h5 h6
  have hin : vls M lv (vr (some (f, i)) :: st) → (f, i) ∈ mN M := fun hv => by
    have := hv.1 _ List.mem_cons_self
    rcases this with x | x
    · dsimp only at x; omega
    · exact x
  have hval : Lay γ M → (f, i) ∈ mN M → rv γ (gv M f i k t) = fv γ M f i k := fun hL hi => by
    cases t with
    | none => unfold gv fv; dsimp only; split; rfl; split <;> rfl
    | some g =>
      obtain ⟨a, b⟩ := h6 g rfl
      have := hL _ b i hi
      dsimp only at this
      unfold gv fv
      rw [a, this]; rfl
  refine J.pure (fun hC hL hv v hv' => ?_) (fun p e R s m args below meth c H locs cells slots ls Q a1 a2 a3 a4 a5 => ?_) h
  · rcases List.mem_cons.mp hv' with rfl | hv'
    · cases t with
      | none =>
        unfold gv; dsimp only
        split
        · trivial
        · split
          · trivial
          · exact (hC _ (hin hv)).1 k
      | some g =>
        obtain ⟨-, b⟩ := h6 g rfl
        have := hL _ b i (hin hv)
        have q := (hC _ (hin hv)).1 k
        dsimp only at this q
        rw [this] at q
        exact q
    · exact hv.1 v (List.mem_cons_of_mem _ hv')
  · have hi := hin a4
    obtain ⟨b1, b2, b3, b4, b5, b6, b7, b8, b9, b10⟩ := a1
    obtain ⟨c1, c2, c3, c4, c5, c6⟩ := a2
    obtain ⟨-, hh⟩ := c1.1 _ hi
    unfold holds at hh
    rw [if_pos (cls_lt h1 h2)] at hh
    obtain ⟨r', e1, hOB⟩ := hh
    have hr : r' = r := Option.some.inj (e1.symm.trans h1)
    subst hr
    obtain ⟨⟨cell, q1, q2, q3, q4⟩, -⟩ := hOB
    obtain ⟨hS, hfc, kC, hkC, hkind⟩ := c2.1 (f - 1) _ h1
    obtain ⟨cf, kf, fi, fd, hfi, hsl⟩ := hS k h3
    have hts' : ∀ w ∈ u_ws r'.1 r'.2.1 r'.2.2, w.before args s = true := fun w hw => b5 w (h4 w hw) (u_good w hw)
    have hst := (u_facts hfc hkC (u_lays hts' (fun _ x => x) h3) hfi).1
    have hslot : cell.slots[fd.slot]? = some (rv γ (gv M f i k t)) := by rw [hsl, q4 k h3, hval c6 hi]
    rcases h5 with h5 | ⟨host, h5⟩
    · exact W.getf b1 b2 b4 (b5 _ h5 rfl) hfi hst q1 (by rw [q3]; exact fun h => by cases h) hslot rfl rfl hdg a5
    · exact va_Wgetf b1 b2 b4 (b5 _ h5 rfl) hfi hst q1 (by rw [q3]; exact fun h => by cases h) hslot rfl rfl hdg a5
theorem J_put {f i idx k : Nat} {t : Option (Nat × Nat × Nat)} {fl : List FLe} (hfl : FLok γ (ky κ).cls fl) (hm : (idx, f, k, t, true) ∈ fl) (hdg : decode (kc κ) pc = .ok (.putfield idx, 3)) {v : AV} {M1 : Mem}
    (hn : narrow (tyf f k) (rv γ v) = rv γ v) (hf : fits (tyf f k) (rv γ v) = true) (hN : mN M1 = mN M) (hS : mS M1 = mS M) (hLn : mL M1 = mL M)
    (ho : ∀ q : Nat × Nat, q ≠ (f, i) → fv γ M1 q.1 q.2 = fv γ M q.1 q.2 ∧ xv γ M1 q.1 q.2 = xv γ M q.1 q.2) (hw : ∀ j, fv γ M1 f i j = if j = k then rv γ v else fv γ M f i j)
    (hC : (f, i) ∈ mN M → vok M v → Cl M → Cl M1) (hL : (∀ y ∈ gF γ, ¬ (y.1 = f ∧ y.2.1 = k)) → Lay γ M → Lay γ M1)
    (h : J γ κ d (pc + 3) lv st M1 out M') : J γ κ d pc lv (v :: vr (some (f, i)) :: st) M out M' := by
  obtain ⟨r, h1, h2, h3, h5, -, h7⟩ := hfl _ hm
  dsimp only at h1 h2 h3 h5 h7
  obtain ⟨h4, hty, hnm⟩ := cls_ok h1
  rw [show f - 1 + 1 = f by omega] at hty
  obtain ⟨h7, h8⟩ := h7 rfl
  have hle : Le M M' := by
    obtain ⟨⟨x, e⟩, n1, s1⟩ := h.1
    exact ⟨⟨x, by rw [e, hN]⟩, fun q => n1 (by rw [hN]; exact q), by rw [← hS]; exact s1⟩
  refine ⟨hle, fun p e R s m args below meth c H locs cells slots ls a1 a2 a3 a4 a5 a6 a7 a8 a9 a10 => ?_⟩
  have hi : (f, i) ∈ mN M := by
    rcases a4.1 (vr (some (f, i))) (List.mem_cons_of_mem _ List.mem_cons_self) with x | x
    · dsimp only at x; omega
    · exact x
  obtain ⟨b1, b2, b3, b4, b5, b6, b7, b8, b9, b10⟩ := id a1
  obtain ⟨c1, c2, c3, c4, c5, c6⟩ := a2
  obtain ⟨hz, hh⟩ := c1.1 _ hi
  unfold holds at hh
  rw [if_pos (cls_lt h1 h2)] at hh
  obtain ⟨r', e1, hOB⟩ := hh
  have hr : r' = r := Option.some.inj (e1.symm.trans h1)
  subst hr
  obtain ⟨⟨cell, q1, q2, q3, q4⟩, qm⟩ := hOB
  obtain ⟨hSl, hfc, kC, hkC, hkind⟩ := c2.1 (f - 1) _ h1
  obtain ⟨cf, kf, fi, fd, hfi, hsl⟩ := hSl k h3
  have hts' : ∀ w ∈ u_ws r'.1 r'.2.1 r'.2.2, w.before args s = true := fun w hw => b5 w (h4 w hw) (u_good w hw)
  have hst := (u_facts hfc hkC (u_lays hts' (fun _ x => x) h3) hfi).1
  have hlay := hts' _ (u_in_lay h3)
  unfold u_lay at hlay
  rw [if_neg (by rw [h7]; decide)] at hlay
  have h6 := u_store hfc hkC hkind hlay hfi (hty k h3) hn hf
  have hap := va_apart (own := (ky κ).cls) (Ts := u_ws r'.1 r'.2.1 r'.2.2) hts' (fun _ x => x) (tyf f) hty hnm c2 h1
  have fin : ∀ H' : Heap, H'[ra γ (f, i)]? = some (cell.setSlot fd.slot (rv γ v)) → H'.size = H.size → (∀ q, q ≠ ra γ (f, i) → H'[q]? = H[q]?) →
      W p (gl γ) e R s m args below meth c H' (locs ++ [⟨ra γ (f, i), fd.slot⟩]) cells slots (Zq γ s below out M' (cells + ((mN M').length - (mN M).length)) (slots + (mS M' - mS M))) (F0 m (pc + 3) ls (st.map (rv γ))) := fun H' z1 z2 z3 => by
    have k1 : Rl γ M1 H' := by
      refine Rl.upd c1 hi hN (fun q hq => pfx_mem hle a5 hq) (fun q hq K hK => holds_of (ho q hq).1 (ho q hq).2 (by rw [hLn]) hK) ?_ z2 z3
      unfold holds
      rw [if_pos (cls_lt h1 h2)]
      refine ⟨r', h1, t_OB.to (V := updV (fv γ M f i) k (rv γ v)) ⟨_, z1, q2, q3, ?_⟩ (fun j _ => ?_), fun c hc => by rw [z1] at hc; cases hc; exact qm cell q1⟩
      · rw [hsl]; exact t_set q4 hap h3 (rv γ v)
      · rw [hw j]; rfl
    have k2 := h.2 p e R s m args below meth c H' (locs ++ [⟨ra γ (f, i), fd.slot⟩]) cells slots ls a1 ⟨k1, c2, c3, fun q hq => ?_, hC hi (a4.1 _ List.mem_cons_self) c5, hL h8 c6⟩ a3 ⟨fun w hw => ?_, fun w hw => ?_⟩ a5 a6 a7 a8 (by rw [hN]; exact a9) (by rw [hS]; exact a10)
    · rw [hN, hS] at k2; exact k2
    · rcases List.mem_append.mp hq with x | x
      · exact c4 q x
      · rw [List.mem_singleton.mp x]; exact ra_ge hz
    · have := a4.1 w (List.mem_cons_of_mem _ (List.mem_cons_of_mem _ hw))
      unfold vok at this ⊢; rw [hN]; exact this
    · have := a4.2 w hw
      unfold vok at this ⊢; rw [hN]; exact this
  rcases h5 with h5 | ⟨host, h5⟩
  · exact W.putK b1 b2 (f := fd) ⟨b4, b5 _ h5 rfl, ⟨_, _, _, hfi⟩, hst⟩ (by rw [q2]; exact h6) q1 q3 (by rw [hsl]; exact k2_hasslot (q4 k h3)) rfl rfl hdg fin
  · exact va_WputK b1 b2 (f := fd) b4 (b5 _ h5 rfl) hfi hst (by rw [q2]; exact h6) q1 q3 (by rw [hsl]; exact k2_hasslot (q4 k h3)) rfl rfl hdg fin
end Rows
