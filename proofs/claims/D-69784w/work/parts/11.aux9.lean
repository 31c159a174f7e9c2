/-! what constructors do: final fields, new objects, arrays of references, calls of constructors -/
section Ctor
variable {γ : Gm} {κ κ' : Kp} {d d' pc : Nat} {lv : List (Option AV)} {st stk : List AV} {M M1 M' : Mem} {out : Out} {Q : Out → Mem → Prop}
/-- a final field that the class's own constructor writes -/
def PF (γ : Gm) (κ : Kp) (idx f k : Nat) : Prop := (ky κ).name = "<init>" ∧ (∀ y ∈ gF γ, ¬ (y.1 = f ∧ y.2.1 = k)) ∧ 1 ≤ f ∧ ∃ r : vw_C, cls[f - 1]? = some r ∧ k < r.2.2 ∧ (r.2.1 k).1 = (ky κ).cls ∧ (r.2.1 k).2.2.2 = true ∧ Cond.fieldLink (ky κ).cls idx (r.2.1 k).1 (r.2.1 k).2.1 (r.2.1 k).2.2.1 ∈ tables_1
theorem J_putF {f i idx k : Nat} (hp : PF γ κ idx f k) (hdg : decode (kc κ) pc = .ok (.putfield idx, 3)) {v : AV} {M1 : Mem}
    (hn : narrow (tyf f k) (rv γ v) = rv γ v) (hf : fits (tyf f k) (rv γ v) = true) (hN : mN M1 = mN M) (hS : mS M1 = mS M) (hLn : mL M1 = mL M)
    (ho : ∀ q : Nat × Nat, q ≠ (f, i) → fv γ M1 q.1 q.2 = fv γ M q.1 q.2 ∧ xv γ M1 q.1 q.2 = xv γ M q.1 q.2) (hw : ∀ j, fv γ M1 f i j = if j = k then rv γ v else fv γ M f i j)
    (hC : (f, i) ∈ mN M → vok M v → Cl M → Cl M1) (hL : (∀ y ∈ gF γ, ¬ (y.1 = f ∧ y.2.1 = k)) → Lay γ M → Lay γ M1)
    (h : J γ κ d (pc + 3) lv st M1 out M') : J γ κ d pc lv (v :: vr (some (f, i)) :: st) M out M' := by
  obtain ⟨hname, h8, h2, r, h1, h3, hdecl, hfin, h5⟩ := hp
  obtain ⟨h4, hty, hnm⟩ := cls_ok h1
  rw [show f - 1 + 1 = f by omega] at hty
  have hle : Le M M' := by
    obtain ⟨⟨x, e⟩, n1, s1⟩ := h.1
    exact ⟨⟨x, by rw [e, hN]⟩, fun q => n1 (by rw [hN]; exact q), by rw [← hS]; exact s1⟩
  refine ⟨hle, fun p e R s m args below meth c H locs cells slots ls a1 a2 a3 a4 a5 a6 a7 a8 a9 a10 => ?_⟩
  have hi : (f, i) ∈ mN M := by
    rcases a4.1 (vr (some (f, i))) (List.mem_cons_of_mem _ List.mem_cons_self) with x | x
    · dsimp only at x; omega
    · exact x
  obtain ⟨b1, b2, b3, b4, b5, b6, b7, b8, b9, b10⟩ := id a1
  obtain ⟨c1, c2, c3, c4, c5, c6⟩ := a2
  obtain ⟨hz, hh⟩ := c1.1 _ hi
  unfold holds at hh
  rw [if_pos (cls_lt h1 h2)] at hh
  obtain ⟨r', e1, hOB⟩ := hh
  have hr : r' = r := Option.some.inj (e1.symm.trans h1)
  subst hr
  obtain ⟨⟨cell, q1, q2, q3, q4⟩, qm⟩ := hOB
  obtain ⟨hSl, hfc, kC, hkC, hkind⟩ := c2.1 (f - 1) _ h1
  obtain ⟨cf, kf, fi, fd, hfi, hsl⟩ := hSl k h3
  have hts' : ∀ w ∈ u_ws r'.1 r'.2.1 r'.2.2, w.before args s = true := fun w hw => b5 w (h4 w hw) (u_good w hw)
  have hst := (u_facts hfc hkC (u_lays hts' (fun _ x => x) h3) hfi).1
  have hlay := hts' _ (u_in_lay h3)
  unfold u_lay at hlay
  rw [if_pos hfin] at hlay
  have hcf : m.cls = cf := by
    obtain ⟨_, _, c', _, _, _, -, -, hf', -, -, -, hown2, -⟩ := Cond.laysFinal_spec hlay
    have e1 : c' = cf := by have := hfi.symm.trans hf'; simp at this; exact this.1.symm
    rw [hdecl] at hown2
    rw [← e1]; exact Option.some.inj (b4.symm.trans hown2)
  have h6 := u_fits hfc hkC hkind (Or.inr hlay) hfi (hty k h3) hn hf
  have hap := va_apart (own := (ky κ).cls) (Ts := u_ws r'.1 r'.2.1 r'.2.2) hts' (fun _ x => x) (tyf f) hty hnm c2 h1
  refine W.putFinK b1 b2 b4 (b5 _ h5 rfl) hfi hst hcf (b8.trans hname) (by rw [q2]; exact h6) q1 q3 (by rw [hsl]; exact k2_hasslot (q4 k h3)) rfl rfl hdg fun H' z1 z2 z3 => ?_
  have k1 : Rl γ M1 H' := by
    refine Rl.upd c1 hi hN (fun q hq => pfx_mem hle a5 hq) (fun q hq K hK => holds_of (ho q hq).1 (ho q hq).2 (by rw [hLn]) hK) ?_ z2 z3
    unfold holds
    rw [if_pos (cls_lt h1 h2)]
    refine ⟨r', h1, t_OB.to (V := updV (fv γ M f i) k (rv γ v)) ⟨_, z1, q2, q3, ?_⟩ (fun j _ => ?_), fun c hc => by rw [z1] at hc; cases hc; exact qm cell q1⟩
    · rw [hsl]; exact t_set q4 hap h3 (rv γ v)
    · rw [hw j]; rfl
  have k2 := h.2 p e R s m args below meth c H' (locs ++ [⟨ra γ (f, i), fd.slot⟩]) cells slots ls a1 ⟨k1, c2, c3, fun q hq => ?_, hC hi (a4.1 _ List.mem_cons_self) c5, hL h8 c6⟩ a3 ⟨fun w hw => ?_, fun w hw => ?_⟩ a5 a6 a7 a8 (by rw [hN]; exact a9) (by rw [hS]; exact a10)
  · rw [hN, hS] at k2; exact k2
  · rcases List.mem_append.mp hq with x | x
    · exact c4 q x
    · rw [List.mem_singleton.mp x]; exact ra_ge hz
  · have := a4.1 w (List.mem_cons_of_mem _ (List.mem_cons_of_mem _ hw))
    unfold vok at this ⊢; rw [hN]; exact this
  · have := a4.2 w hw
    unfold vok at this ⊢; rw [hN]; exact this
theorem PF_lt {idx f k : Nat} (hp : PF γ κ idx f k) : f < 15 ∧ k < 140 := by
  obtain ⟨-, -, h2, r, h1, h3, -⟩ := hp
  have := cls_le h1
  omega
theorem J_putFR {f i idx k : Nat} (hp : PF γ κ idx f k) (hk : kd f k = 2) {x : Option (Nat × Nat)} (hdg : decode (kc κ) pc = .ok (.putfield idx, 3))
    (h : J γ κ d (pc + 3) lv st (sR M f i k x) out M') : J γ κ d pc lv (vr x :: vr (some (f, i)) :: st) M out M' := by
  have hlt := PF_lt hp
  have y := ty_refs f hlt.1 k hlt.2 hk
  have hb : narrow (tyf f k) (rv γ (vr x)) = rv γ (vr x) ∧ fits (tyf f k) (rv γ (vr x)) = true := by
    cases hty : tyf f k with
    | object C => cases x <;> exact ⟨rfl, rfl⟩
    | array C => cases x <;> exact ⟨rfl, rfl⟩
    | _ => rw [hty] at y; cases y
  refine J_putF (M1 := sR M f i k x) hp hdg hb.1 hb.2 rfl rfl rfl (fun q hq => ⟨fv_sR hq, xv_sR hq⟩) (fun j => ?_) (fun _ v c => Cl_sR v c) (fun h8 hL y hy i' hi' => ?_) h
  · by_cases hj : j = k
    · subst hj
      simp [fv, hk, mR, sR]
    · simp [fv, mI, mJ, mR, sR, hj]
  · have := hL y hy i' hi'
    unfold mR sR
    dsimp only
    rw [if_neg (fun q => h8 y hy ⟨q.1, q.2.2⟩)]
    exact this
theorem J_putFI {f i idx k : Nat} (hp : PF γ κ idx f k) (hk : kd f k = 0) (hz : zb f k = false) {x : Int32} (hdg : decode (kc κ) pc = .ok (.putfield idx, 3))
    (h : J γ κ d (pc + 3) lv st (sI M f i k x) out M') : J γ κ d pc lv (vi x :: vr (some (f, i)) :: st) M out M' := by
  have hlt := PF_lt hp
  obtain ⟨y1, -, -⟩ := ty_kinds f hlt.1 k hlt.2
  have hb : narrow (tyf f k) (.int x) = .int x ∧ fits (tyf f k) (.int x) = true := by rw [y1 hk hz]; exact ⟨rfl, rfl⟩
  refine J_putF (M1 := sI M f i k x) hp hdg hb.1 hb.2 rfl rfl rfl (fun q hq => ⟨fv_sI hq, xv_sI hq⟩) (fun j => ?_) (fun _ _ x => Cl_sI (Or.inl (by omega)) x) (fun _ x => x) h
  by_cases hj : j = k
  · subst hj
    simp [fv, hk, mI, sI, rv]
  · simp [fv, mI, mJ, mR, sI, hj]
end Ctor
section Ctor2
variable {γ : Gm} {κ κ' : Kp} {d d' pc : Nat} {lv : List (Option AV)} {st stk : List AV} {M M1 M' : Mem} {out : Out} {Q : Out → Mem → Prop}
theorem ty_def : ∀ f, f < 15 → ∀ k, k < 140 → (kd f k = 0 → defaultValue (tyf f k) = .int 0) ∧ (kd f k = 1 → defaultValue (tyf f k) = .long 0) ∧ (¬ kd f k = 0 → ¬ kd f k = 1 → defaultValue (tyf f k) = .null) := by decide +kernel
/-- a new object: its class's own words -/
def NWo (κ : Kp) (idx f n : Nat) : Prop := 1 ≤ f ∧ ∃ r : vw_C, cls[f - 1]? = some r ∧ r.2.2 ≤ 140 ∧ Cond.classLink (ky κ).cls idx r.1 ∈ tables_1 ∧ Cond.instantiable r.1 n ∈ tables_1 ∧ Cond.initialized r.1 ∈ tables_1
set_option maxHeartbeats 1000000 in
theorem J_new {f i n idx : Nat} (hw : NWo κ idx f n) (hF : ∀ x ∈ gF γ, x.1 ≠ f) (hi : (f, i) ∉ mN M) (hdg : decode (kc κ) pc = .ok (.new idx, 3))
    (h : J γ κ d (pc + 3) lv (vr (some (f, i)) :: st) (mk M f i n) out M') : J γ κ d pc lv st M out M' := by
  obtain ⟨h1, r, hr, h140, hcl, hins, hini⟩ := hw
  have h20 := cls_lt hr h1
  have hf15 : f < 15 := by have := (List.getElem?_eq_some_iff.mp hr).1; have e : cls.length = 14 := rfl; omega
  obtain ⟨h4, hty, hnm⟩ := cls_ok hr
  rw [show f - 1 + 1 = f by omega] at hty
  have hle := (Le_mk (n := n) hi).trans h.1
  have l2 := h.1.len
  have z2 := h.1.2.2
  rw [mN_mk, List.length_append, List.length_singleton] at l2
  rw [mS_mk] at z2
  refine ⟨hle, fun p e R s m args below meth c H locs cells slots ls a1 a2 a3 a4 a5 a6 a7 a8 a9 a10 => ?_⟩
  obtain ⟨b1, b2, b3, b4, b5, b6, b7, b8, b9, b10⟩ := id a1
  obtain ⟨c1, c2, c3, c4, c5, c6⟩ := a2
  have hra := new_ra h.1 a5 a6 (show f ≠ 0 by omega)
  have hHs : H.size = ra γ (f, i) := by rw [c1.2.1, hra]
  have hKn := c2.1 (f - 1) _ hr
  have hts' : ∀ w ∈ u_ws r.1 r.2.1 r.2.2, w.before args s = true := fun w hw => b5 w (h4 w hw) (u_good w hw)
  refine W.newcK b1 b2 b4 (b5 _ hcl rfl) (b5 _ hins rfl) (b5 _ hini rfl) (g := F0 m pc ls (st.map (rv γ))) rfl hdg (by omega) (by omega) hKn.2.1 hHs fun H1 kC hkC y1 y2 y3 => ?_
  have hlt : ∀ q ∈ mN M, ra γ q < H.size := fun q hq => holds_lt (c1.1 q hq).2
  have k1 : Rl γ (mk M f i n) H1 := by
    refine Rl_push (M' := M') c1 hi (by omega) ?_ (by omega) (fun q hq => y3 q (by omega)) (fun q hq => pfx_mem hle a5 hq) hlt
    unfold holds
    rw [if_pos (by dsimp only; omega)]
    refine ⟨r, hr, (u_born (tyf f) hts' (fun _ x => x) hKn hkC y1 hty).to (fun k hk => ?_), fun c hc => by rw [y1] at hc; cases hc; rfl⟩
    obtain ⟨t1, t2, t3⟩ := ty_def f hf15 k (by omega)
    unfold fv
    split
    · rename_i e0; rw [t1 e0]; simp [mI, mk]
    · rename_i e0
      split
      · rename_i e1; rw [t2 e1]; simp [mJ, mk]
      · rename_i e1; rw [t3 e0 e1]; simp [mR, mk, rv]
  have hLay : Lay γ (mk M f i n) := by
    intro x hx i' hi'
    have hne := hF x hx
    rw [mN_mk] at hi'
    rcases List.mem_append.mp hi' with hi' | hi'
    · have e := c6 x hx i' hi'
      unfold mR mk
      dsimp only
      rw [if_neg (fun q => hne q.1)]; exact e
    · exact absurd (congrArg Prod.fst (List.mem_singleton.mp hi')) hne
  have k2 := h.2 p e R s m args below meth c H1 locs (cells + 1) (slots + n) ls a1 ⟨k1, c2, c3, c4, Cl_mk hi c5, hLay⟩ a3 ⟨fun w hw => ?_, fun w hw => vok_mk (a4.2 w hw)⟩ a5 a6 a7 a8 (by rw [mN_mk, List.length_append, List.length_singleton]; omega) (by rw [mS_mk]; omega)
  · rw [mN_mk, List.length_append, List.length_singleton, mS_mk] at k2
    rw [show cells + 1 + ((mN M').length - ((mN M).length + 1)) = cells + ((mN M').length - (mN M).length) by omega, show slots + n + (mS M' - (mS M + n)) = slots + (mS M' - mS M) by omega] at k2
    exact k2
  · rcases List.mem_cons.mp hw with rfl | hw
    · exact Or.inr (by rw [mN_mk]; exact List.mem_append_right _ (List.mem_singleton.mpr rfl))
    · exact vok_mk (a4.1 w hw)
end Ctor2
section Ctor3
variable {γ : Gm} {κ κ' : Kp} {d d' pc : Nat} {lv : List (Option AV)} {st stk : List AV} {M M1 M' : Mem} {out : Out} {Q : Out → Mem → Prop}
/-- a constructor -/
def MI (κ : Kp) (n : Nat) : Prop := (ky κ).name = "<init>" ∧ Cond.instanceMethod (ky κ) ∈ tables_1 ∧ (kh κ = [] ∧ kr κ = none ∧ Cond.code (ky κ) (kc κ) (kl κ) none ∈ tables_1) ∧
  ((ky κ).cls ≠ "java/lang/invoke/MethodHandle" ∧ (ky κ).cls ≠ "java/lang/invoke/VarHandle") ∧ plainFor (ky κ) = true ∧ (parseMethodDescriptor (ky κ).desc).map (fun d => d.parameters.length) = some n ∧ kl κ ≤ 40
theorem MI.co {n : Nat} (h : MI κ n) : codeIn κ := Or.inl ⟨h.2.2.1.1, by rw [h.2.2.1.2.1]; exact h.2.2.1.2.2⟩
theorem front_I {f i n idx : Nat} {As : List AV} (hm : MI κ' n) (hl : lnk (ky κ).cls idx (ky κ')) (hn : As.length = n) (hdg : decode (kc κ) pc = .ok (.invokespecial idx, 3)) : Front γ κ κ' pc lv (As.reverse ++ vr (some (f, i)) :: st) st (vr (some (f, i)) :: As) M := by
  intro p e R s m args below meth c locs cells slots ls T a1 a2 a3 a4 X
  obtain ⟨h1, h4, ⟨-, -, h6⟩, hy, h7, h8, h9⟩ := hm
  obtain ⟨b1, b2, b3, b4, b5, b6, b7, b8, b9, b10⟩ := id a1
  have hpl : e.platform.magicAccessors = ({} : Platform).magicAccessors := by rw [X.admits.platform]
  have hlen : ∀ sig, parseMethodDescriptor (ky κ').desc = some sig → (As.map (rv γ)).length = sig.parameters.length := fun sig hs => by
    rw [hs] at h8
    simp only [Option.map_some, Option.some.injEq] at h8
    rw [List.length_map, hn, h8]
  have hstack : (F0 m pc ls ((As.reverse ++ vr (some (f, i)) :: st).map (rv γ))).stack = (As.map (rv γ)).reverse ++ .ref (ra γ (f, i)) :: st.map (rv γ) := by
    show (As.reverse ++ vr (some (f, i)) :: st).map (rv γ) = _
    simp [rv]
  rcases hl with hl | ⟨host, hl⟩
  · obtain ⟨mk, methM, cM, kP, vm₁, hnamed, -, -, -, -, -, -, -, hW₁, hstep₁⟩ := Steps.initColdArgs (e := e) X.here b1 X.warmed hpl b4 h1 hy (b5 _ hl rfl) (b5 _ h4 rfl) (b5 _ h6 rfl) (f := F0 m pc ls ((As.reverse ++ vr (some (f, i)) :: st).map (rv γ))) rfl hlen hstack (by rw [b2]; exact hdg)
    exact ⟨vm₁, mk, X.noted hW₁, hnamed, hstep₁⟩
  · obtain ⟨mk, methM, cM, kP, vm₁, hnamed, -, -, -, -, -, -, -, hW₁, hstep₁⟩ := Steps.initColdArgsNest (e := e) X.here b1 X.warmed hpl b4 h1 hy (b5 _ hl rfl) (b5 _ h4 rfl) (b5 _ h6 rfl) (f := F0 m pc ls ((As.reverse ++ vr (some (f, i)) :: st).map (rv γ))) rfl hlen hstack (by rw [b2]; exact hdg)
    exact ⟨vm₁, mk, X.noted hW₁, hnamed, hstep₁⟩
theorem J_callI {f i n idx : Nat} {As : List AV} {v : Option AV} (hm : MI κ' n) (hl : lnk (ky κ).cls idx (ky κ')) (hn : As.length = n) (hdg : decode (kc κ) pc = .ok (.invokespecial idx, 3)) (hlen : (entL (vr (some (f, i)) :: As)).length ≤ kl κ') (hst : st.length ≤ 15) (hs : stk = As.reverse ++ vr (some (f, i)) :: st)
    (hJ : J γ κ' d 0 (ent (kl κ') (vr (some (f, i)) :: As)) [] M (.inl v) M1) (h : J γ κ (d + 1) (pc + 3) lv (v.toList ++ st) M1 out M') : J γ κ (d + 1) pc lv stk M out M' := by
  subst hs
  refine J_call (front_I hm hl hn hdg) hdg hm.co hm.2.2.2.2.1 (fun w hw => ?_) (fun w hw => List.mem_append_right _ (List.mem_cons_of_mem _ hw)) hlen hm.2.2.2.2.2.2 hst hJ h
  rcases List.mem_cons.mp hw with rfl | hw
  · exact List.mem_append_right _ List.mem_cons_self
  · exact List.mem_append_left _ (List.mem_reverse.mpr hw)
theorem E_callI {f i n idx : Nat} {As : List AV} {P : Out → Mem → Prop} (hm : MI κ' n) (hl : lnk (ky κ).cls idx (ky κ')) (hn : As.length = n) (hdg : decode (kc κ) pc = .ok (.invokespecial idx, 3)) (hlen : (entL (vr (some (f, i)) :: As)).length ≤ kl κ') (hst : st.length ≤ 15) (hs : stk = As.reverse ++ vr (some (f, i)) :: st) (hd : d' ≤ d)
    (hE : E γ κ' d' 0 (ent (kl κ') (vr (some (f, i)) :: As)) [] M P) (hP : ∀ o M1, P o M1 → ∃ v, o = .inl v) (h : ∀ v M1, P (.inl v) M1 → E γ κ (d + 1) (pc + 3) lv (v.toList ++ st) M1 Q) : E γ κ (d + 1) pc lv stk M Q := by
  obtain ⟨o, M1, hp, hJ⟩ := hE
  obtain ⟨v, rfl⟩ := hP o M1 hp
  exact E.up (fun _ _ hJ2 => J_callI hm hl hn hdg hlen hst hs (hJ.mono hd) hJ2) (h v M1 hp)
/-- Object's constructor -/
theorem J_objI {f i idx : Nat} (hl : Cond.methodLink (ky κ).cls idx Lib.objectInit ∈ tables_1) (hdg : decode (kc κ) pc = .ok (.invokespecial idx, 3)) (hst : st.length ≤ 15) (h : J γ κ (d + 1) (pc + 3) lv st M out M') : J γ κ (d + 1) pc lv (vr (some (f, i)) :: st) M out M' := by
  refine ⟨h.1, fun p e R s m args below meth c H locs cells slots ls a1 a2 a3 a4 a5 a6 a7 a8 a9 a10 => ?_⟩
  obtain ⟨b1, b2, b3, b4, b5, b6, b7, b8, b9, b10⟩ := id a1
  have hi : Cond.instanceMethod Lib.objectInit ∈ tables_1 := tbk_mem (j := 1) (k := 35) rfl
  have hc : Cond.code Lib.objectInit ⟨#[0xb1]⟩ 1 none ∈ tables_1 := tbk_mem (j := 1) (k := 36) rfl
  refine W.objInit b1 b2 b4 (b5 _ hl rfl) (b5 _ hi rfl) (b5 _ hc rfl) (g := F0 m pc ls ((vr (some (f, i)) :: st).map (rv γ))) rfl (by rw [b3]; exact a3.1) (a := ra γ (f, i)) (rest := st.map (rv γ)) rfl hdg (by omega) ?_ ?_
  · have := cat_sum (γ := γ) st
    have e0 : (F0 m pc ls ((vr (some (f, i)) :: st).map (rv γ))).monitorRoom = 0 := rfl
    rw [e0]
    omega
  · exact h.2 p e R s m args below meth c H locs cells slots ls a1 a2 a3 ⟨fun v hv => a4.1 v (List.mem_cons_of_mem _ hv), a4.2⟩ a5 a6 a7 a8 a9 a10
theorem E_objI {f i idx : Nat} (hl : Cond.methodLink (ky κ).cls idx Lib.objectInit ∈ tables_1) (hdg : decode (kc κ) pc = .ok (.invokespecial idx, 3)) (hst : st.length ≤ 15) (h : E γ κ (d + 1) (pc + 3) lv st M Q) : E γ κ (d + 1) pc lv (vr (some (f, i)) :: st) M Q := E.up (fun _ _ hJ => J_objI hl hdg hst hJ) h
theorem E_new {f i n idx : Nat} (hw : NWo κ idx f n) (hF : ∀ x ∈ gF γ, x.1 ≠ f) (hi : (f, i) ∉ mN M) (hdg : decode (kc κ) pc = .ok (.new idx, 3)) (h : E γ κ d (pc + 3) lv (vr (some (f, i)) :: st) (mk M f i n) Q) : E γ κ d pc lv st M Q := E.up (fun _ _ hJ => J_new hw hF hi hdg hJ) h
theorem E_putFR {f i idx k : Nat} (hp : PF γ κ idx f k) (hk : kd f k = 2) {x : Option (Nat × Nat)} (hdg : decode (kc κ) pc = .ok (.putfield idx, 3)) (h : E γ κ d (pc + 3) lv st (sR M f i k x) Q) : E γ κ d pc lv (vr x :: vr (some (f, i)) :: st) M Q := E.up (fun _ _ hJ => J_putFR hp hk hdg hJ) h
theorem E_putFI {f i idx k : Nat} (hp : PF γ κ idx f k) (hk : kd f k = 0) (hz : zb f k = false) {x : Int32} (hdg : decode (kc κ) pc = .ok (.putfield idx, 3)) (h : E γ κ d (pc + 3) lv st (sI M f i k x) Q) : E γ κ d pc lv (vi x :: vr (some (f, i)) :: st) M Q := E.up (fun _ _ hJ => J_putFI hp hk hz hdg hJ) h
/-- with more known of the final fields, or less -/
def rF (γ : Gm) (F : List (Nat × Nat × Nat × Nat × Nat)) : Gm := (γ.1, γ.2.1, γ.2.2.1, γ.2.2.2.1, γ.2.2.2.2.1, γ.2.2.2.2.2.1, γ.2.2.2.2.2.2.1, F)
def LayF (F : List (Nat × Nat × Nat × Nat × Nat)) (M : Mem) : Prop := ∀ x ∈ F, ∀ i, (x.1, i) ∈ mN M → mR M x.1 i x.2.1 = some (x.2.2.1, inst x.2.2.2.1 x.2.2.2.2 i)
theorem rv_rF (F : List (Nat × Nat × Nat × Nat × Nat)) : rv (rF γ F) = rv γ := rfl
theorem J_sw {F : List (Nat × Nat × Nat × Nat × Nat)} (hg : gF γ = []) (hL : LayF F M) (h : J (rF γ F) κ d pc lv st M out M') : J γ κ d pc lv st M out M' := by
  refine ⟨h.1, fun p e R s m args below meth c H locs cells slots ls a1 a2 a3 a4 a5 a6 a7 a8 a9 a10 => ?_⟩
  have k := h.2 p e R s m args below meth c H locs cells slots ls a1 ⟨a2.1, a2.2.1, a2.2.2.1, a2.2.2.2.1, a2.2.2.2.2.1, hL⟩ a3 a4 a5 a6 a7 a8 a9 a10
  intro T hT X
  obtain ⟨t, s1, z1, z2, z3, z4, z5, z6, z7, z8⟩ := k T hT X
  exact ⟨t, s1, z1, z2, z3, z4, z5, z6, (fun x hx => by rw [hg] at hx; cases hx), z8⟩
theorem E_sw {F : List (Nat × Nat × Nat × Nat × Nat)} (hg : gF γ = []) (hL : LayF F M) (h : E (rF γ F) κ d pc lv st M Q) : E γ κ d pc lv st M Q := E.up (fun _ _ hJ => hJ) (by
  obtain ⟨o, M', h1, h2⟩ := h
  exact ⟨o, M', h1, J_sw hg hL h2⟩)
end Ctor3
section Ctor4
variable {γ : Gm} {κ κ' : Kp} {d d' pc : Nat} {lv : List (Option AV)} {st stk : List AV} {M M1 M' : Mem} {out : Out} {Q : Out → Mem → Prop}
/-- arrays over our classes have been made before -/
def Xo (γ : Gm) : Prop := va_AO "ClassWorks$Line" (gs γ) ∧ va_AO "ClassWorks$World" (gs γ) ∧ va_AO "ClassWorksModel$World" (gs γ) ∧ va_AO "ClassWorksModel$Run" (gs γ)
def eln (f : Nat) : String := if ka f = 4 then "ClassWorks$Line" else if ka f = 6 then "ClassWorks$World" else if ka f = 7 then "ClassWorksModel$World" else "ClassWorksModel$Run"
theorem eln_ok {f : Nat} (hk : ka f = 4 ∨ ka f = 6 ∨ ka f = 7 ∨ ka f = 8) : (tys γ)[ka f]? = some (gA γ (ka f), .object (eln f)) ∧ (Xo γ → va_AO (eln f) (gs γ)) := by
  unfold eln
  rcases hk with q | q | q | q <;> rw [q]
  · exact ⟨rfl, fun h => h.1⟩
  · exact ⟨rfl, fun h => h.2.1⟩
  · exact ⟨rfl, fun h => h.2.2.1⟩
  · exact ⟨rfl, fun h => h.2.2.2⟩
set_option maxHeartbeats 1000000 in
theorem J_newq {f i idx : Nat} {n : Int32} (hX : Xo γ) (hf : 20 ≤ f) (hk : ka f = 4 ∨ ka f = 6 ∨ ka f = 7 ∨ ka f = 8) (hF : ∀ x ∈ gF γ, x.1 < 20) (hl : Cond.classLink (ky κ).cls idx (eln f) ∈ tables_1) (hn : ¬ n < 0) (hb : n.toNatClampNeg ≤ 60000000) (hi : (f, i) ∉ mN M) (hdg : decode (kc κ) pc = .ok (.anewarray idx, 3))
    (h : J γ κ d (pc + 3) lv (vr (some (f, i)) :: st) (mk M f i n.toNatClampNeg) out M') : J γ κ d pc lv (vi n :: st) M out M' := by
  have hle := (Le_mk (n := n.toNatClampNeg) hi).trans h.1
  have l2 := h.1.len
  have z2 := h.1.2.2
  rw [mN_mk, List.length_append, List.length_singleton] at l2
  rw [mS_mk] at z2
  refine ⟨hle, fun p e R s m args below meth c H locs cells slots ls a1 a2 a3 a4 a5 a6 a7 a8 a9 a10 => ?_⟩
  obtain ⟨b1, b2, b3, b4, b5, b6, b7, b8, b9, b10⟩ := id a1
  obtain ⟨c1, c2, c3, c4, c5, c6⟩ := a2
  have hra := new_ra h.1 a5 a6 (show f ≠ 0 by omega)
  have hHs : H.size = ra γ (f, i) := by rw [c1.2.1, hra]
  obtain ⟨hT, hAO⟩ := eln_ok (γ := γ) hk
  refine W.anew b1 b2 b4 (b5 _ hl rfl) (va_AO.use (va_AO.moved b10.alike (hAO hX))) (g := F0 m pc ls ((vi n :: st).map (rv γ))) rfl hdg (n := n) (rest := st.map (rv γ)) rfl hn (by omega) (by omega) (by omega) fun cA kA comp f1 f2 f3 f4 => ?_
  obtain ⟨kA', comp', g1, g2, g3, g4⟩ := (c2.2 _ _ hT).2
  have hcA : cA = gA γ (ka f) := Option.some.inj (f1.symm.trans g4)
  subst hcA
  generalize hH1 : H.push ({ cls := gA γ (ka f), slots := Array.replicate n.toNatClampNeg .null, vm := .none } : Cell) = H1
  have y1 : H1[ra γ (f, i)]? = some (arrV (gA γ (ka f)) n.toNatClampNeg (fun _ => .null)) := by rw [← hH1, ← hHs, Array.getElem?_push_size, ← arrV_new]
  have y2 : H1.size = H.size + 1 := by rw [← hH1, Array.size_push]
  have y3 : ∀ q : Nat, q < H.size → H1[q]? = H[q]? := fun q hq => by rw [← hH1, Array.getElem?_push, if_neg (Nat.ne_of_lt hq)]
  have hlt : ∀ q ∈ mN M, ra γ q < H.size := fun q hq => holds_lt (c1.1 q hq).2
  have k1 : Rl γ (mk M f i n.toNatClampNeg) H1 := by
    refine Rl_push (M' := M') c1 hi (by omega) ?_ y2 y3 (fun q hq => pfx_mem hle a5 hq) hlt
    unfold holds
    rw [if_neg (by dsimp only; omega), y1]
    have e1 : mL (mk M f i n.toNatClampNeg) f i = n.toNatClampNeg := by simp [mL, mk]
    rw [e1]
    congr 2
    funext k
    simp [xv, show ¬ ka f < 3 by omega, show ¬ ka f = 3 by omega, mR, mk, rv]
  have k2 := h.2 p e R s m args below meth c H1 locs (cells + 1) (slots + n.toNatClampNeg) ls a1 ⟨k1, c2, c3, c4, Cl_mk hi c5, Lay_mk hi hf hF c6⟩ a3 ⟨fun w hw => ?_, fun w hw => vok_mk (a4.2 w hw)⟩ a5 a6 a7 a8 (by rw [mN_mk, List.length_append, List.length_singleton]; omega) (by rw [mS_mk]; omega)
  · rw [mN_mk, List.length_append, List.length_singleton, mS_mk] at k2
    rw [show cells + 1 + ((mN M').length - ((mN M).length + 1)) = cells + ((mN M').length - (mN M).length) by omega, show slots + n.toNatClampNeg + (mS M' - (mS M + n.toNatClampNeg)) = slots + (mS M' - mS M) by omega] at k2
    rw [hHs]
    exact k2
  · rcases List.mem_cons.mp hw with rfl | hw
    · exact Or.inr (by rw [mN_mk]; exact List.mem_append_right _ (List.mem_singleton.mpr rfl))
    · exact vok_mk (a4.1 w (List.mem_cons_of_mem _ hw))
theorem E_newq {f i idx : Nat} {n : Int32} (hX : Xo γ) (hf : 20 ≤ f) (hk : ka f = 4 ∨ ka f = 6 ∨ ka f = 7 ∨ ka f = 8) (hF : ∀ x ∈ gF γ, x.1 < 20) (hl : Cond.classLink (ky κ).cls idx (eln f) ∈ tables_1) (hn : ¬ n < 0) (hb : n.toNatClampNeg ≤ 60000000) (hi : (f, i) ∉ mN M) (hdg : decode (kc κ) pc = .ok (.anewarray idx, 3))
    (h : E γ κ d (pc + 3) lv (vr (some (f, i)) :: st) (mk M f i n.toNatClampNeg) Q) : E γ κ d pc lv (vi n :: st) M Q := E.up (fun _ _ hJ => J_newq hX hf hk hF hl hn hb hi hdg hJ) h
end Ctor4
