/-! SPEC: a collected world is well formed -/
section
variable {W : List Cls} {s : Ms} {t n K : Nat} {o : Option Kd} {f : Fm} {x : Int32} {v : Vl} {c : Nat} {C : List Ins} {κ : Kd}
theorem UO.fm : ∀ {U : List Un} {o : Option Kd}, UO W s t o U → ∀ f, Sum.inl f ∈ U → FmO W s f ∧ ∃ o', FmU W s f o'
  | [], _, _, f, hf => by cases hf
  | .inl g :: U, o, h, f, hf => by
    rcases List.mem_cons.1 hf with z | z
    · cases z; exact ⟨h.1, o, h.2.1⟩
    · exact UO.fm h.2.2 f z
  | .inr k :: U, o, h, f, hf => UO.fm h.2.2 f ((List.mem_cons.1 hf).resolve_left (fun z => by cases z))
theorem cvL.in {ks : List Kd} {vs : List Vl} (h : cvL W s c C ks vs) (hl : ks.length = vs.length) (hv : v ∈ vs) (h2 : v.2 = true) : vRf s v.1 := by
  obtain ⟨k, hk, e⟩ := mem_lv hv
  have := (h k (by omega)).2
  rw [e] at this
  exact this h2
theorem fm_vRf (h1 : FmO W s f) (h2 : FmU W s f o) : f.2.2.2.1.length = 20 ∧ ∀ v, v ∈ f.2.2.2.1 ∨ v ∈ f.2.2.2.2 → v.2 = true → vRf s v.1 := by
  refine ⟨h1.2.2.2.1, fun v hv hb => ?_⟩
  rcases hv with z | z
  · exact h1.2.2.2.2 v z hb
  · cases o with
    | none => exact cvL.in h2.2.2 h2.2.1 z hb
    | some κ => exact cvL.in h2.2.2.2 h2.2.2.1 z hb
theorem vRf.th (h : vRf s x) (hi : inO x) : thr s x.toNatClampNeg = true := by
  obtain ⟨n, e, en, hn⟩ := h.n
  have hi : 1 ≤ x.toNatClampNeg ∧ x.toNatClampNeg ≤ 800 := hi
  rw [en] at hi ⊢
  rcases hn with z | z | z
  · exact absurd hi.1 (by omega)
  · exact z.2
  · exact absurd hi.2 (by omega)
theorem rtA_in (ht : t < 3) (hx : x ∈ unV (gU s t)) : x ∈ rtA W s := by
  unfold rtA
  have : t = 0 ∨ t = 1 ∨ t = 2 := by omega
  rcases this with e | e | e <;> subst e
  · exact List.mem_append.2 (Or.inl (List.mem_append.2 (Or.inl (List.mem_append.2 (Or.inr hx)))))
  · exact List.mem_append.2 (Or.inl (List.mem_append.2 (Or.inr hx)))
  · exact List.mem_append.2 (Or.inr hx)
theorem rtA_of (hx : x ∈ rtA W s) : x ∈ fxA W s (W.length - 21) ∨ ∃ t, t < 3 ∧ x ∈ unV (gU s t) := by
  unfold rtA at hx
  rcases List.mem_append.1 hx with z | z
  · rcases List.mem_append.1 z with z | z
    · rcases List.mem_append.1 z with z | z
      · exact Or.inl z
      · exact Or.inr ⟨0, by omega, z⟩
    · exact Or.inr ⟨1, by omega, z⟩
  · exact Or.inr ⟨2, by omega, z⟩
/-- what is reached is there -/
theorem rg_th (hB : BI W) (hM : MA W s) (h : Rg (rtA W s) (edA s) n) : thr s n = true := by
  refine h (fun n => thr s n = true) (fun x hx hi => ?_) (fun a ha x hx hi => ?_)
  · rcases rtA_of hx with z | ⟨t, ht, z⟩
    · obtain ⟨c, f, h1, h2, h3, h4, h5, h6⟩ := fxA_of _ z
      have := hB.1
      have hv := (hM.1.1.2.2.1.1 c f (by omega) h3 h4).2 (decide_eq_true h5)
      have hv : vRf s (zS s c f) := hv
      rw [h6] at hv
      exact hv.th hi
    · obtain ⟨c, j, a, lo, st, v, h1, h2, h3, h4⟩ := unV_of z
      obtain ⟨g1, o', g2⟩ := (hM.2.2.1 t ht).1.1.fm _ h1
      have := (fm_vRf g1 g2).2 v h2 h3
      rw [h4] at this
      exact this.th hi
  · obtain ⟨k, h1, h2, h3⟩ := mem_selL.1 hx
    have hO := hM.1.1.2.1
    have ho := (hO.2.1 a ha).1
    have hv := (hO.2.2 ((gOb s a).2.1 + k) (by omega)).2.2 h2
    have hv : vRf s (gCell s ((gOb s a).2.1 + k)) := hv
    have h3 : gCell s ((gOb s a).2.1 + k) = x := h3
    rw [h3] at hv
    exact hv.th hi
theorem mrk_th (hB : BI W) (hM : MA W s) (h : mrk W s n = true) : thr s n = true := rg_th hB hM (mrk_iff.1 h)
theorem mrk_fx (hB : BI W) (hf : n < (gc W c).2.2.2.2.1.length) (h1 : ¬ (gfl (gc W c) n).2.2.1 &&& 1 = 0) (h2 : (gfl (gc W c) n).2.1.1 ≠ 0) (hc : c < W.length) (hi : inO (zS s c n)) : mrk W s (zS s c n).toNatClampNeg = true := by
  have h21 : 21 ≤ c := by
    by_cases z : c < 21
    · rw [hB.nof z] at hf; exact absurd hf (by simp)
    · omega
  exact mrk_iff.2 (Rg.rt (List.mem_append.2 (Or.inl (List.mem_append.2 (Or.inl (List.mem_append.2 (Or.inl (fxA_in hf h1 h2 rfl h21 _ (by omega)))))))) hi)
theorem mrk_fm (ht : t < 3) (hf : Sum.inl f ∈ gU s t) (hl : f.2.2.2.1.length = 20) (hv : v ∈ f.2.2.2.1 ∨ v ∈ f.2.2.2.2) (h2 : v.2 = true) (hi : inO v.1) : mrk W s v.1.toNatClampNeg = true := by
  obtain ⟨c, j, a, lo, st⟩ := f
  exact mrk_iff.2 (Rg.rt (rtA_in ht (unV_in (c := c) (j := j) (a := a) hl hv h2 hf)) hi)
theorem mrk_ed {r k : Nat} (hr : mrk W s r = true) (hk : k < (gOb s r).2.2.1) (h2 : (gKd s ((gOb s r).2.1 + k)).1 ≠ 0) (hi : inO (gCell s ((gOb s r).2.1 + k))) : mrk W s (gCell s ((gOb s r).2.1 + k)).toNatClampNeg = true :=
  mrk_iff.2 (Rg.st (mrk_iff.1 hr) (mem_selL.2 ⟨k, hk, decide_eq_true h2, rfl⟩) hi)
/-- behind the collection -/
theorem clR_co {r : Int32} : clR (colS W s) r = clR s r := by
  unfold clR
  split
  · rfl
  · exact (sw_2 _ 801).1
theorem vRf.co (h : vRf s x) (hm : inO x → mrk W s x.toNatClampNeg = true) : vRf (colS W s) x := by
  obtain ⟨n, e, en, hn⟩ := h.n
  rw [en] at hm
  refine ⟨n, e, ?_⟩
  rcases hn with z | z | z
  · exact Or.inl z
  · by_cases c0 : n = 0
    · exact Or.inl c0
    · refine Or.inr (Or.inl ⟨z.1, ?_⟩)
      show (thr s n && mrk W s n) = true
      rw [show thr s n = true from z.2, hm (show inO x from (by unfold inO; rw [en]; omega))]
      rfl
  · exact Or.inr (Or.inr z)
theorem cv.co (h : cv W s c C κ v) (hm : v.2 = true → inO v.1 → mrk W s v.1.toNatClampNeg = true) : cv W (colS W s) c C κ v := by
  refine ⟨?_, fun hb => (h.2 hb).co (hm hb)⟩
  have h1 := h.1
  unfold cf at h1 ⊢
  rw [clR_co]
  exact h1
theorem cvL.co {ks : List Kd} {vs : List Vl} (h : cvL W s c C ks vs) (hm : ∀ v ∈ vs, v.2 = true → inO v.1 → mrk W s v.1.toNatClampNeg = true) : cvL W (colS W s) c C ks vs := fun i hi => (h i hi).co (fun hb => hm _ (lv_mem hb).1 hb)
theorem UO.co (ht : t < 3) : ∀ {U : List Un} {o : Option Kd}, UO W s t o U → (∀ f, Sum.inl f ∈ U → Sum.inl f ∈ gU s t) → UO W (colS W s) t o U
  | [], _, _, _ => trivial
  | .inr k :: U, o, h, hi => ⟨h.1, h.2.1, UO.co ht h.2.2 (fun f hf => hi f (List.mem_cons_of_mem _ hf))⟩
  | .inl f :: U, o, h, hi => by
    have hl := h.1.2.2.2.1
    have hm : ∀ v, v ∈ f.2.2.2.1 ∨ v ∈ f.2.2.2.2 → v.2 = true → inO v.1 → mrk W s v.1.toNatClampNeg = true := fun v hv hb hin => mrk_fm ht (hi f List.mem_cons_self) hl hv hb hin
    refine ⟨⟨h.1.1, h.1.2.1, h.1.2.2.1, hl, fun v hv hb => (h.1.2.2.2.2 v hv hb).co (hm v (Or.inl hv) hb)⟩, ?_, UO.co ht h.2.2 (fun f hf => hi f (List.mem_cons_of_mem _ hf))⟩
    have h2 := h.2.1
    cases o with
    | none => exact ⟨h2.1.co (fun v hv => hm v (Or.inl hv)), h2.2.1, h2.2.2.co (fun v hv => hm v (Or.inr hv))⟩
    | some κ => exact ⟨h2.1, h2.2.1.co (fun v hv => hm v (Or.inl hv)), h2.2.2.1, h2.2.2.2.co (fun v hv => hm v (Or.inr hv))⟩
theorem HO.co (hB : BI W) (hM : MA W s) (hz : SzN s) : HO W (colS W s) := by
  have h := hM.1.1.2.1
  obtain ⟨⟨⟨h0, h8⟩, hn, hc⟩, hob, hce⟩ := h
  have hk6 := sw_6 (s := s) (m := mrk W s) 801
  have hk1 := sw_1 (s := s) (m := mrk W s) 801
  have hz : szS (thr s) (gOb s) 801 ≤ (zH s).2.1 := hz
  have hle := szS_kp (s := s) (m := mrk W s) 801
  refine ⟨⟨⟨?_, fun r hr => ?_⟩, ?_, ?_⟩, fun r hr => ?_, fun i hi => ?_⟩
  · show (thr s 0 && _) = false
    rw [h0]; rfl
  · show (thr s r && _) = false
    rw [h8 r hr]; rfl
  · show (zH s).1 - (swK s (mrk W s) 801).1 = ((List.range 801).filter (kp s (mrk W s))).length
    omega
  · show (swK s (mrk W s) 801).2.1 ≤ 4000
    omega
  · have hr : kp s (mrk W s) r = true := hr
    have hth : thr s r = true := by
      have := hr
      unfold kp at this
      rw [Bool.and_eq_true] at this
      exact this.1
    have hr8 : r < 801 := by
      by_cases z : 800 < r
      · rw [h8 r z] at hth; cases hth
      · omega
    obtain ⟨e1, e2⟩ := sw_2 (s := s) (m := mrk W s) r 801
    have e3 := (sw_3 (s := s) (m := mrk W s) 801).2 r hr8 hr
    have e4 := sw_4 (s := s) (m := mrk W s) 801 r hr8 hr
    refine ⟨?_, ?_⟩
    · show ((swK s (mrk W s) 801).2.2.1 r).2.1 + ((swK s (mrk W s) 801).2.2.1 r).2.2.1 ≤ (swK s (mrk W s) 801).2.1
      rw [e2, e3, hk1]
      exact sw_le hr hr8
    · have ho := (hob r hth).2
      unfold obO at ho ⊢
      have e1' : (gOb (colS W s) r).1 = (gOb s r).1 := e1
      have e2' : (gOb (colS W s) r).2.2.1 = (gOb s r).2.2.1 := congrArg Prod.fst e2
      have e3' : (gOb (colS W s) r).2.1 = szS (kp s (mrk W s)) (gOb s) r := e3
      rw [e1', e2', e3']
      cases eo : (gOb s r).1 with
      | none =>
        rw [eo] at ho
        exact ⟨ho.1, fun k hk => ((e4 k hk).2).trans (ho.2 k hk)⟩
      | some d =>
        rw [eo] at ho
        exact ⟨ho.1, ho.2.1, fun k hk => ((e4 k (by rw [ho.2.1]; exact hk)).2).trans (ho.2.2 k hk)⟩
  · obtain ⟨r, j, hr8, hr, hj, c1, c2⟩ := sw_5 (s := s) (m := mrk W s) 801 i hi
    have hr' := hr
    unfold kp at hr'
    rw [Bool.and_eq_true] at hr'
    have hb := (hob r hr'.1).1
    obtain ⟨d1, d2⟩ := hce ((gOb s r).2.1 + j) (by omega)
    have c1' : gCell (colS W s) i = gCell s ((gOb s r).2.1 + j) := c1
    have c2' : gKd (colS W s) i = gKd s ((gOb s r).2.1 + j) := c2
    rw [c1', c2']
    exact ⟨d1, d2.co (fun hb hi => mrk_ed hr'.2 hj (of_decide_eq_true hb) hi)⟩
theorem tv_mem {st : List Vl} (h : 0 < st.length) : tv st 0 ∈ st := by
  show st.getD (st.length - 1 - 0) (0, false) ∈ st
  rw [List.getD_eq_getElem?_getD, List.getElem?_eq_getElem (by omega)]
  exact List.getElem_mem _
theorem MA.co (hB : BI W) (hM : MA W s) (hz : SzN s) (hw : WtA s) : MA W (colS W s) := by
  have hG := hM.1.1
  refine ⟨⟨⟨hG.1, HO.co hB hM hz, ⟨fun c f hc hf h1 => ?_, hG.2.2.1.2⟩, hG.2.2.2.1, hG.2.2.2.2⟩, hM.1.2⟩, fun t ht => ?_, fun t ht => ⟨⟨UO.co ht (hM.2.2.1 t ht).1.1 (fun _ z => z), (hM.2.2.1 t ht).1.2⟩, (hM.2.2.1 t ht).2⟩, hM.2.2.2⟩
  · exact (hG.2.2.1.1 c f hc hf h1).co (fun hb hi => mrk_fx hB hf h1 (of_decide_eq_true hb) hc hi)
  · obtain ⟨h1, h2, h3⟩ := hM.2.1 t ht
    refine ⟨h1, h2, fun y hy => ?_⟩
    have h4 := h3 y hy
    cases y with
    | inr k => exact h4
    | inl r =>
      refine ⟨h4.1.co (fun hi => ?_), h4.2⟩
      obtain ⟨f, V, e1, e2, e3⟩ := hw t ht r hy
      have hf : Sum.inl f ∈ gU s t := by rw [e1]; exact List.mem_cons_self
      have hl := ((hM.2.2.1 t ht).1.1.fm f hf).1.2.2.2.1
      have hmm : tv f.2.2.2.2 0 ∈ f.2.2.2.2 := tv_mem e2
      rw [e3] at hmm
      exact mrk_fm (v := (r, true)) ht hf hl (Or.inr hmm) rfl hi
theorem SzN.co : SzN (colS W s) := by
  show szS (kp s (mrk W s)) (swK s (mrk W s) 801).2.2.1 801 ≤ (swK s (mrk W s) 801).2.1
  rw [sw_1 801, szS_eq (P := kp s (mrk W s)) (O := gOb s) 801 (fun _ _ => rfl) (fun r _ _ => congrArg Prod.fst (sw_2 r 801).2)]
  exact Nat.le_refl _
theorem LkN.co (h : LkN s) : LkN (colS W s) := LkP.of (s := s) (s' := colS W s) (fun k => rfl) (fun r => congrArg Prod.snd (sw_2 r 801).2) (Nat.le_refl _) h
theorem WI.co (hB : BI W) (h : WI W K s) (hz : SzN s) (hw : WtA s) : WI W K (colS W s) := ⟨⟨h.1.1.co hB hz hw, h.1.2⟩, h.2.1.co, h.2.2⟩
theorem TI2.co {y : Int32} (h : TI2 y s) : TI2 y (colS W s) := ⟨h.1.co, h.2⟩
end
