/-! THE MACHINE: what is thrown -/
section
variable {W : List Cls} {s s' : Ms} {t : Nat} {o o' : Option Kd} {U U' : List Un}
theorem MO.mv (h : MO W s t o U) (hG : GL W s') (hE : (zE s').length ≤ 400) (hT : (zT s').1 < 3) (hs : sle s s') (hl : ∀ k, (zL s).1 k = 1 → (zL s').1 k = 1) (hn : ∀ t', t' < 3 → t' ≠ t → zN s' t' = zN s t') (hx : LX W s' t) (hK : zK s ≤ zK s') (hc : ∀ t', t' < 3 → t' ≠ t → ∀ k ∈ sts (gU s t'), zC s' k = zC s k ∧ zO s' k = zO s k) (hU : LO W s' t o' U') (h1 : ∀ k, zC s' k = 1 → k ∈ sts U' ∨ ∃ t', t' < 3 ∧ t' ≠ t ∧ k ∈ sts (gU s t')) : MO W s' t o' U' := by
  obtain ⟨-, ⟨b1, b2⟩, c, -, -⟩ := h
  refine ⟨⟨hG, hE, hT⟩, ⟨b1, fun t' ht => ?_⟩, fun t' ht hne => ?_, hU, fun k hk => ?_⟩
  · by_cases e : t' = t
    · rw [e]; exact hx
    · obtain ⟨x1, ⟨x2, x4⟩, x3⟩ := b2 t' ht
      unfold LX
      rw [hn t' ht e]
      refine ⟨x1, ⟨x2, Nat.le_trans x4 hK⟩, fun y hy => ?_⟩
      have := x3 y hy
      cases y with
      | inl r => exact ⟨(hs r this.1).1, this.2⟩
      | inr k => exact this
  · have e : gU s' t' = gU s t' := by show lU (zN s' t') = _; rw [hn t' ht hne]
    obtain ⟨⟨p, q, r⟩, z⟩ := c t' ht hne
    rw [e, hn t' ht hne]
    exact ⟨⟨p.mono hs hl (hc t' ht hne), q, r⟩, z⟩
  · rcases h1 k hk with z | ⟨t', a, b, d⟩
    · exact Or.inl z
    · refine Or.inr ⟨t', a, b, ?_⟩
      have e : gU s' t' = gU s t' := by show lU (zN s' t') = _; rw [hn t' a b]
      rw [e]; exact d
theorem LO.mv (h : LO W s t o U) (hs : sle s s') (hl : ∀ k, (zL s).1 k = 1 → (zL s').1 k = 1) (hc : ∀ k ∈ sts U, zC s' k = zC s k ∧ zO s' k = zO s k) : LO W s' t o U := ⟨h.1.mono hs hl hc, h.2⟩
theorem LX.mv (h : LX W s t) (hn : zN s' t = zN s t) (hs : sle s s') (hK : zK s ≤ zK s') : LX W s' t := by
  obtain ⟨x1, ⟨x2, x4⟩, x3⟩ := h
  unfold LX
  rw [hn]
  refine ⟨x1, ⟨x2, Nat.le_trans x4 hK⟩, fun y hy => ?_⟩
  have := x3 y hy
  cases y with
  | inl r => exact ⟨(hs r this.1).1, this.2⟩
  | inr k => exact this
theorem evS_E {t' w k : Nat} {m : Option Nat} (h : (zE s).length ≤ 400) : (zE (evS s t' w k m)).length ≤ 400 := by
  unfold evS
  split
  · show (zE s ++ [(w, t', k, m, lSp (zN s t'))]).length ≤ 400
    rw [List.length_append, List.length_singleton]; omega
  · exact h
theorem evS_r {t' w k : Nat} {m : Option Nat} : zL (evS s t' w k m) = zL s ∧ zC (evS s t' w k m) = zC s ∧ zO (evS s t' w k m) = zO s ∧ zB (evS s t' w k m) = zB s ∧ zS (evS s t' w k m) = zS s ∧ zH (evS s t' w k m) = zH s ∧ zF (evS s t' w k m) = zF s ∧ zN (evS s t' w k m) = zN s ∧ zT (evS s t' w k m) = zT s ∧ zD (evS s t' w k m) = zD s ∧ zK (evS s t' w k m) = zK s := by
  unfold evS
  split <;> exact ⟨rfl, rfl, rfl, rfl, rfl, rfl, rfl, rfl, rfl, rfl, rfl⟩
theorem MO.ev {t' w k : Nat} {m : Option Nat} (h : MO W s t o U) : MO W (evS s t' w k m) t o U := by
  obtain ⟨e1, e2, e3, e4, e5, e6, e7, e8, e9, -, e10⟩ := evS_r (s := s) (t' := t') (w := w) (k := k) (m := m)
  have hs : sle s (evS s t' w k m) := sle_of e6 e7
  refine h.mv (h.1.1.same e1 e2 e4 e5 e6 e7) (evS_E h.1.2.1) (by rw [e9]; exact h.1.2.2) hs (fun k hk => by rw [e1]; exact hk) (fun t' _ _ => by rw [e8]) ((h.2.1.2 t h.2.1.1).mv (by rw [e8]) hs (by rw [e10]; exact Nat.le_refl _)) (by rw [e10]; exact Nat.le_refl _) (fun t' _ _ k _ => by rw [e2, e3]; exact ⟨rfl, rfl⟩) (h.2.2.2.1.mv hs (fun k hk => by rw [e1]; exact hk) (fun k _ => by rw [e2, e3]; exact ⟨rfl, rfl⟩)) (fun k hk => ?_)
  rw [e2] at hk
  exact h.2.2.2.2 k hk
theorem GL.aF {f : Nat} {ru : Int32} (h : GL W s) (h1 : 1 ≤ f) (h2 : f < 21) : GL W (addFt s f ru) := by
  obtain ⟨a, ⟨h1', h2', h3⟩, ⟨k1, k2⟩, ff, c⟩ := h
  have hs : sle s (addFt s f ru) := sle_f rfl rfl
  refine ⟨a, ⟨h1', fun r hr => h2' r hr, fun i hi => ⟨(h3 i hi).1, (h3 i hi).2.sle hs⟩⟩, ⟨fun c f hc hf h0 => (k1 c f hc hf h0).sle hs, k2⟩, fun x hx => ?_, c⟩
  rcases List.mem_append.mp hx with z | z
  · exact ff x z
  · rw [List.mem_singleton.mp z]; exact ⟨h1, h2⟩
theorem MO.addF {f : Nat} {ru : Int32} (h : MO W s t o U) (h1 : 1 ≤ f) (h2 : f < 21) : MO W (addFt s f ru) t o U := by
  have hs : sle s (addFt s f ru) := sle_f rfl rfl
  exact h.mv (h.1.1.aF h1 h2) h.1.2.1 h.1.2.2 hs (fun k hk => hk) (fun t' _ _ => rfl) ((h.2.1.2 t h.2.1.1).mv rfl hs (Nat.le_refl _)) (Nat.le_refl _) (fun t' _ _ k _ => ⟨rfl, rfl⟩) (h.2.2.2.1.mv hs (fun k hk => hk) (fun k _ => ⟨rfl, rfl⟩)) h.2.2.2.2
/-- what can be thrown -/
def thO (W : List Cls) (s : Ms) (r : Int32) : Prop := vRf s r ∧ ∃ e, clR s r = some e ∧ (e < W.length ∧ (zL s).1 e = 1) ∧ PB W e 1
theorem thO.mv {r : Int32} (h : thO W s r) (hs : sle s s') (hl : zL s' = zL s) : thO W s' r := by
  obtain ⟨a, e, b, c, d⟩ := h
  exact ⟨(hs r a).1, e, by rw [(hs r a).2]; exact b, by rw [hl]; exact c, d⟩
theorem thO.new {f : Nat} {ru : Int32} (hB : BI W) (hI : LInv W (zL s).1) (h1 : 1 ≤ f) (h2 : f < 21) (hl : (zF s).length < 1000000) : thO W (addFt s f ru) (lastF (addFt s f ru)) := by
  have e : zF (addFt s f ru) = zF s ++ [(f, ru, 0, 0)] := rfl
  have el : (zF (addFt s f ru)).length = (zF s).length + 1 := by rw [e]; simp
  refine ⟨⟨800 + (zF (addFt s f ru)).length, rfl, Or.inr (Or.inr ⟨by omega, Nat.le_refl _, by omega⟩)⟩, f, ?_, ⟨by have := hB.1; omega, hI.1.2.2.2.2 f h2⟩, hB.pb1 h2 h1⟩
  unfold clR lastF
  rw [oN_tnc (by omega), if_pos (by omega)]
  show some ((zF (addFt s f ru)).getD _ _).1 = _
  rw [el, e, List.getD_eq_getElem?_getD, List.getElem?_append_right (by omega), show 800 + ((zF s).length + 1) - 801 - (zF s).length = 0 by omega]
  rfl
/-- a handler that takes it -/
theorem catH_in {W : List Cls} {a k g : Nat} : ∀ {H : List Hnd}, catH W a k H = some g → ∃ h ∈ H, ¬ (a < h.1 ∨ h.2.1 ≤ a) ∧ h.2.2.1 = g ∧ (h.2.2.2 = nAny ∨ ∃ d, fnd W h.2.2.2 = some d ∧ bel W k d = true)
  | [], h => by cases h
  | x :: H, h => by
    unfold catH at h
    by_cases c1 : a < x.1 ∨ x.2.1 ≤ a
    · rw [if_pos c1] at h
      obtain ⟨y, hy, q⟩ := catH_in h
      exact ⟨y, List.mem_cons_of_mem _ hy, q⟩
    rw [if_neg c1] at h
    by_cases c2 : x.2.2.2 = nAny
    · rw [if_pos c2] at h
      dsimp only at h
      by_cases c3 : bel W k 0 = true
      · rw [if_pos c3] at h; cases h
        exact ⟨x, List.mem_cons_self, c1, rfl, Or.inl c2⟩
      · rw [if_neg c3] at h
        obtain ⟨y, hy, q⟩ := catH_in h
        exact ⟨y, List.mem_cons_of_mem _ hy, q⟩
    rw [if_neg c2] at h
    cases ef : fnd W x.2.2.2 with
    | none =>
      rw [ef] at h
      obtain ⟨y, hy, q⟩ := catH_in h
      exact ⟨y, List.mem_cons_of_mem _ hy, q⟩
    | some d =>
      rw [ef] at h
      dsimp only at h
      by_cases c3 : bel W k d = true
      · rw [if_pos c3] at h; cases h
        exact ⟨x, List.mem_cons_self, c1, rfl, Or.inr ⟨d, ef, c3⟩⟩
      · rw [if_neg c3] at h
        obtain ⟨y, hy, q⟩ := catH_in h
        exact ⟨y, List.mem_cons_of_mem _ hy, q⟩
/-- behind an act of a thread -/
def MK (W : List Cls) (s : Ms) (t : Nat) : Prop := MO W s t none (gU s t) ∧ (lSt (zN s t) ≠ 1 → gU s t = [])
theorem gU_sU {U : List Un} : gU (sU s t U) t = U := by show lU (up1 (zN s) t (qU (zN s t) U) t) = U; unfold up1; rw [if_pos rfl]
theorem MO.put {V : List Un} (h : MO W s t o U) : MO W (sU s t V) t o U := by
  have hs : sle s (sU s t V) := sle_of rfl rfl
  refine h.mv (h.1.1.same rfl rfl rfl rfl rfl rfl) h.1.2.1 h.1.2.2 hs (fun k hk => hk) (fun t' _ hne => ?_) ?_ (Nat.le_refl _) (fun t' _ _ k _ => ⟨rfl, rfl⟩) (h.2.2.2.1.mv hs (fun k hk => hk) (fun k _ => ⟨rfl, rfl⟩)) h.2.2.2.2
  · show up1 (zN s) t _ t' = _
    unfold up1; rw [if_neg hne]
  · have hx := h.2.1.2 t h.2.1.1
    have e : zN (sU s t V) t = qU (zN s t) V := by show up1 (zN s) t _ t = _; unfold up1; rw [if_pos rfl]
    obtain ⟨x1, x2, x3⟩ := hx
    unfold LX
    rw [e]
    exact ⟨x1, x2, x3⟩
theorem up1_s {α : Type} {f : Nat → α} {a : Nat} {v : α} : up1 f a v a = v := by unfold up1; rw [if_pos rfl]
theorem up1_o {α : Type} {f : Nat → α} {a k : Nat} {v : α} (h : k ≠ a) : up1 f a v k = f k := by unfold up1; rw [if_neg h]
/-- a class's state changes -/
theorem GL.cC {k : Nat} {v : Int32} (h : GL W s) (hk : 21 ≤ k ∧ k < W.length) (hl : (zL s).1 k = 1) (hv : v = 1 ∨ v = 2 ∨ v = 3) : GL W (yC s (up1 (zC s) k v)) := by
  obtain ⟨a, b, ⟨k1, k2⟩, d, c1, c2, c3, c4⟩ := h
  have v0 : v ≠ 0 := by rcases hv with z | z | z <;> rw [z] <;> decide
  refine ⟨a, b, ⟨k1, fun c f h0 => ?_⟩, d, fun j hj => ?_, fun j => ?_, c3, fun j hj => ?_⟩
  · have h0 : up1 (zC s) k v c = 0 := h0
    by_cases e : c = k
    · rw [e, up1_s] at h0; exact absurd h0 v0
    · rw [up1_o e] at h0; exact k2 c f h0
  · show up1 (zC s) k v j = 2
    rw [up1_o (by omega)]; exact c1 j hj
  · show (up1 (zC s) k v j = 0 ∨ up1 (zC s) k v j = 1 ∨ up1 (zC s) k v j = 2 ∨ up1 (zC s) k v j = 3) ∧ (up1 (zC s) k v j ≠ 0 → _)
    by_cases e : j = k
    · rw [e, up1_s]; exact ⟨Or.inr hv, fun _ => ⟨hk.2, hl⟩⟩
    · rw [up1_o e]; exact c2 j
  · refine ⟨(c4 j hj).1, ?_⟩
    show up1 (zC s) k v j ≠ 0
    by_cases e : j = k
    · rw [e, up1_s]; exact v0
    · rw [up1_o e]; exact (c4 j hj).2
theorem oN_t {a b : Nat} (ha : a < 3) (hb : b < 3) (h : Int32.ofNat a = Int32.ofNat b) : a = b := (oN_inj (by omega) (by omega)).mp h
/-- a start's state changes, and it goes -/
theorem MO.popS {k : Nat × Bool} {v : Int32} (h : MO W s t o (.inr k :: U)) (hv : v = 2 ∨ v = 3) : MO W (yC s (up1 (zC s) k.1 v)) t none U := by
  obtain ⟨hU, hnd, hfr⟩ := h.2.2.2.1
  have hk := hU.2.1
  have hnd := List.nodup_cons.mp hnd
  have v1 : v ≠ 1 := by rcases hv with z | z <;> rw [z] <;> decide
  have hs : sle s (yC s (up1 (zC s) k.1 v)) := sle_of rfl rfl
  refine h.mv (h.1.1.cC hk.1 hk.2.1 (Or.inr hv)) h.1.2.1 h.1.2.2 hs (fun k hk => hk) (fun _ _ _ => rfl) ((h.2.1.2 t h.2.1.1).mv rfl hs (Nat.le_refl _)) (Nat.le_refl _) (fun t' ht hne k' hk' => ?_) ⟨hU.2.2.mono hs (fun k hk => hk) (fun k' hk' => ?_), hnd.2, hfr⟩ (fun k' hk' => ?_)
  · have := UO.own (h.2.2.1 t' ht hne).1.1 k' hk'
    refine ⟨up1_o (fun e => hne ?_), rfl⟩
    rw [e] at this
    exact oN_t ht h.2.1.1 (this.2.2.2.symm.trans hk.2.2.2)
  · exact ⟨up1_o (fun e => hnd.1 (e ▸ hk')), rfl⟩
  · have hk' : up1 (zC s) k.1 v k' = 1 := hk'
    by_cases e : k' = k.1
    · rw [e, up1_s] at hk'; exact absurd hk' v1
    · rw [up1_o e] at hk'
      rcases h.2.2.2.2 k' hk' with z | z
      · rcases List.mem_cons.mp z with y | y
        · exact absurd y e
        · exact Or.inl y
      · exact Or.inr z
theorem thO.cl {r : Int32} (h : thO W s r) : ∃ e, clR s r = some e ∧ clN s r = e ∧ (e < W.length ∧ (zL s).1 e = 1) ∧ PB W e 1 := by
  obtain ⟨-, e, a, b, c⟩ := h
  exact ⟨e, a, by unfold clN; rw [a]; rfl, b, c⟩
theorem unw_ok (hW : WO W) : ∀ U o s r, MO W s t o U → lSt (zN s t) = 1 → thO W s r → (zF s).length + U.length < 1000000 → MK W (unw W t U r s) t
  | [], o, s, r, h, hon, hr, hn => by
    have hs : sle s (unw W t [] r s) := sle_of rfl rfl
    have e : zN (unw W t [] r s) t = qR (zN s t) 2 (0, 0, Int32.ofNat (clN s r), ruR s r) := up1_s
    refine ⟨?_, fun _ => by show lU (zN (unw W t [] r s) t) = []; rw [e]⟩
    have eg : gU (unw W t [] r s) t = [] := by show lU (zN (unw W t [] r s) t) = []; rw [e]
    rw [eg]
    refine h.mv (h.1.1.same rfl rfl rfl rfl rfl rfl) h.1.2.1 h.1.2.2 hs (fun k hk => hk) (fun t' _ hne => up1_o hne) ?_ (Nat.le_refl _) (fun t' _ _ k _ => ⟨rfl, rfl⟩) ⟨trivial, List.nodup_nil, Nat.zero_le _⟩ (fun k hk => ?_)
    · obtain ⟨x1, ⟨x2, x4⟩, x3⟩ := h.2.1.2 t h.2.1.1
      unfold LX
      rw [e]
      exact ⟨fun z => absurd z (show ¬ (2 : Nat) = 1 by decide), ⟨Nat.le_refl _, x4⟩, x3⟩
    · exact h.2.2.2.2 k hk
  | .inr (k, own) :: U, o, s, r, h, hon, hr, hn => by
    have h1 := (h.popS (v := 3) (Or.inr rfl)).ev (t' := t) (w := 6) (k := k) (m := none)
    obtain ⟨e1, e2, e3, e4, e5, e6, e7, e8, e9, -, e10⟩ := evS_r (s := yC s (up1 (zC s) k 3)) (t' := t) (w := 6) (k := k) (m := none)
    have hs1 : sle s (evS (yC s (up1 (zC s) k 3)) t 6 k none) := sle_of e6 e7
    have r1 := hr.mv hs1 e1
    have hl : (zF s).length + (U.length + 1) < 1000000 := hn
    unfold unw
    by_cases c1 : own = true ∧ bel W (clN s r) 10 = false
    · rw [if_pos c1]
      refine unw_ok hW U none _ _ (h1.addF (by omega) (by omega)) (by show lSt (zN (evS _ _ _ _ _) t) = 1; rw [e8]; exact hon) (thO.new hW.1 h1.1.1.1.1 (by omega) (by omega) (by rw [e7]; show (zF s).length < _; omega)) ?_
      show (zF (evS _ _ _ _ _) ++ _).length + U.length < _
      rw [e7, List.length_append]
      show (zF s).length + 1 + U.length < _
      omega
    · rw [if_neg c1]
      refine unw_ok hW U none _ _ h1 (by rw [e8]; exact hon) r1 ?_
      rw [e7]; show (zF s).length + U.length < _; omega
  | .inl (c, j, a, lo, st) :: U, o, s, r, h, hon, hr, hn => by
    obtain ⟨⟨hF, hU, hR⟩, hnd, hfr⟩ := h.2.2.2.1
    obtain ⟨hck, hb, hwf, ⟨s1, g1, -⟩, hlen⟩ := hF.in hW h.1.1
    obtain ⟨e, he, hce, hel, hpb⟩ := hr.cl
    have hl : (zF s).length + (U.length + 1) < 1000000 := hn
    have hfr' : frs U + 1 ≤ 40 := hfr
    unfold unw
    cases ec : catH W a (clN s r) (hs (gmt (gc W c) j)) with
    | none =>
      obtain ⟨e1, e2, e3, e4, e5, e6, e7, e8, e9, -, e10⟩ := evS_r (s := s) (t' := t) (w := 3) (k := c) (m := some j)
      have hM : MO W s t (some (gmt (gc W c) j).2.2.1) U := ⟨h.1, h.2.1, h.2.2.1, ⟨hR, hnd, by omega⟩, h.2.2.2.2⟩
      exact unw_ok hW U _ _ _ hM.ev (by rw [e8]; exact hon) (hr.mv (sle_of e6 e7) e1) (by rw [e7]; omega)
    | some g =>
      obtain ⟨hd, hm, hcov, hg, hcl⟩ := catH_in ec
      have hh := handS_in (stepS_in g1).1 hd hm hcov
      have hlo := hU.lo
      have hcv : cv W s c (co (gmt (gc W c) j)) (2, if hd.2.2.2 = nAny then nFault else hd.2.2.2) (r, true) := by
        refine ⟨cf.cls rfl (Or.inr ?_), fun _ => hr.1⟩
        by_cases ca : hd.2.2.2 = nAny
        · rw [if_pos ca]
          exact ⟨1, hW.1.fault, Or.inr (Or.inr ⟨e, he, hpb⟩)⟩
        · rw [if_neg ca]
          obtain ⟨d, hd1, hd2⟩ := hcl.resolve_left ca
          rw [hce] at hd2
          obtain ⟨n, hn'⟩ := bel_iff.mp hd2
          refine ⟨d, hd1, ?_⟩
          rcases reach_up h.1.1.1.1 h.1.1.1.2.2 hW.1 n e d hel.1 hel.2 hn' with z | z | z
          · exact Or.inr (Or.inr ⟨e, he, z⟩)
          · exact Or.inl z
          · exact Or.inr (Or.inl z)
      have hat := at_hand hW.1 hh hlen hlo hcv
      rw [hg] at hat
      have hgl : g < (co (gmt (gc W c) j)).length := by rw [← hg]; exact (hwf.2.2.2.1.2 hd hm).2.2.1
      have hM : MO W s t none (.inl (c, j, g, lo, [(r, true)]) :: U) := ⟨h.1, h.2.1, h.2.2.1, ⟨⟨⟨hF.1, hF.2.1, hgl, hF.2.2.2⟩, hat, hR⟩, hnd, hfr⟩, h.2.2.2.2⟩
      have eg : gU (evS (sU s t (.inl (c, j, g, lo, [(r, true)]) :: U)) t 7 c (some j)) t = .inl (c, j, g, lo, [(r, true)]) :: U := by
        show lU (zN (evS _ _ _ _ _) t) = _
        rw [evS_r.2.2.2.2.2.2.2.1]; exact gU_sU
      refine ⟨by rw [eg]; exact hM.put.ev, fun z => absurd ?_ z⟩
      show lSt (zN (evS _ _ _ _ _) t) = 1
      rw [evS_r.2.2.2.2.2.2.2.1]
      show lSt (up1 (zN s) t _ t) = 1
      rw [up1_s]; exact hon
end
