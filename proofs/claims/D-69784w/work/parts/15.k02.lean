/-! WORLDS GROW: what holds of a machine holds in the grown world -/
section
variable {W W' : List Cls} {c a n K t : Nat} {x : Mth} {s : Ms} {L : Nat → Int32}
theorem upW_pre2 (h : W <+: W') {d e : Nat} (hd : d < W.length) (e1 : upW W d = some e) : upW W' d = some e ∧ e < W'.length := by
  have hl := h.length_le
  unfold upW at e1 ⊢
  by_cases c0 : d = 0
  · rw [if_pos c0] at e1; cases e1
  rw [if_neg c0] at e1 ⊢
  rw [isFc_pre h hd]
  by_cases c1 : isFc W d = true
  · rw [if_pos c1] at e1 ⊢
    cases e1
    exact ⟨rfl, by omega⟩
  · rw [if_neg c1] at e1 ⊢
    rw [gc_pre h hd]
    have := fnd_lt e1
    exact ⟨fnd_pre h e1, by omega⟩
theorem upW_lt {d e : Nat} (hd : d < W.length) (e1 : upW W d = some e) : e < W.length := (upW_pre2 (List.prefix_rfl (l := W)) hd e1).2
theorem PB_pre (h : W <+: W') {d e : Nat} (hd : d < W.length) (hp : PB W d e) : PB W' d e := by
  obtain ⟨n, hn⟩ := hp
  induction n generalizing d with
  | zero => exact ⟨0, hn⟩
  | succ n ih =>
    obtain ⟨f, h1, h2⟩ := hn
    obtain ⟨m, hm⟩ := ih (upW_lt hd h1) h2
    exact ⟨m + 1, f, (upW_pre2 h hd h1).1, hm⟩
theorem cv_pre (h : W <+: W') (hB : BI W) (hG : GL W s) {C : List Ins} {κ : Kd} {v : Vl} (hv : cv W s c C κ v) : cv W' s c C κ v := by
  obtain ⟨⟨h0, h1, h2, h3, h4, h5⟩, hr⟩ := hv
  have lt : ∀ {e}, v.2 = true → v.1 ≠ 0 → clR s v.1 = some e → e < W.length := fun z1 z2 z3 => (clR_lk hB hG (hr z1) z2 z3).1.1
  refine ⟨⟨h0, h1, h2, fun z => ?_, fun z => ?_, fun z => ?_⟩, hr⟩
  · obtain ⟨a1, a2⟩ := h3 z
    refine ⟨a1, ?_⟩
    by_cases z0 : v.1 = 0
    · exact Or.inl z0
    · rcases a2 with a2 | ⟨d, b1, b2⟩
      · exact absurd a2 z0
      · refine Or.inr ⟨d, fnd_pre h b1, ?_⟩
        rcases b2 with b2 | b2 | ⟨e, b2, b3⟩
        · exact Or.inl (by rw [isFc_pre h (fnd_lt b1)]; exact b2)
        · exact Or.inr (Or.inl b2)
        · exact Or.inr (Or.inr ⟨e, b2, PB_pre h (lt a1 z0 b2) b3⟩)
  · obtain ⟨a1, a2, e, b1, b2⟩ := h4 z
    exact ⟨a1, a2, e, b1, PB_pre h (lt a1 a2 b1) b2⟩
  · obtain ⟨a1, a2, e, b1, b2⟩ := h5 z
    exact ⟨a1, a2, e, b1, fnd_pre h b2⟩
theorem cvL_pre (h : W <+: W') (hB : BI W) (hG : GL W s) {C : List Ins} {ks : List Kd} {vs : List Vl} (hv : cvL W s c C ks vs) : cvL W' s c C ks vs := fun i hi => cv_pre h hB hG (hv i hi)
theorem ofkN_pre (h : W <+: W') (hI : LInv W L) : ∀ n d, d < W.length → L d = 1 → ofkN W' n d = ofkN W n d
  | 0, _, _, _ => rfl
  | n + 1, d, hd, h1 => by
    obtain ⟨e1, e2⟩ := upW_pre h hI hd h1
    unfold ofkN
    rw [e1, gc_pre h hd]
    cases e : upW W d with
    | none => rfl
    | some p =>
      obtain ⟨hp, lp⟩ := e2 p e
      show ofkN W' n p ++ _ = ofkN W n p ++ _
      rw [ofkN_pre h hI n p hp lp]
/-- edges from linked classes are as they were -/
theorem edge_pre (h : W <+: W') (hI : LInv W L) (hn : ∀ d, d < W'.length → (gc W' d).1 ≠ []) {d e : Nat} (hd : d < W.length) (h1 : L d = 1) (he : edge true W' d e) : edge true W d e ∧ e < W.length ∧ L e = 1 := by
  have hfn : fnd W' [] = none := by
    cases z : fnd W' [] with
    | none => rfl
    | some q => exact absurd (fnd_name z) (hn q (fnd_lt z))
  obtain ⟨i, hi, e1⟩ := he
  rw [gc_pre h hd] at hi
  rcases hI.2 d hd h1 with z | ⟨-, ⟨p, hp, lp⟩, hf⟩
  · subst z
    exfalso
    unfold dirW at e1
    rw [hI.1.2.2.1] at hi
    have i0 : i = 0 := by simpa using hi
    rw [if_pos i0, gc_pre h hd, hI.1.2.1, if_pos rfl, hfn] at e1
    cases e1
  · unfold dirW at e1
    rw [gc_pre h hd] at e1
    by_cases c0 : i = 0
    · rw [if_pos c0, if_pos rfl, fnd_pre h hp] at e1
      cases e1
      refine ⟨⟨0, Nat.zero_le _, ?_⟩, fnd_lt hp, lp⟩
      unfold dirW
      rw [if_pos rfl, if_pos rfl]; exact hp
    · rw [if_neg c0] at e1
      have hm : gf (gc W d) (i - 1) ∈ (gc W d).2.2.1 := by
        show (gc W d).2.2.1.getD (i - 1) _ ∈ _
        rw [List.getD_eq_getElem?_getD, List.getElem?_eq_getElem (by omega)]; exact List.getElem_mem _
      obtain ⟨q, hq, lq⟩ := hf _ hm
      rw [fnd_pre h hq] at e1
      cases e1
      refine ⟨⟨i, hi, ?_⟩, fnd_lt hq, lq⟩
      unfold dirW
      rw [if_neg c0]; exact hq
theorem Rc_pre (h : W <+: W') (hI : LInv W L) (hn : ∀ d, d < W'.length → (gc W' d).1 ≠ []) : ∀ {n d e : Nat}, d < W.length → L d = 1 → Rc (edge true W') n d e → Rc (edge true W) n d e
  | 0, _, _, _, _, h => h
  | n + 1, d, e, hd, h1, ⟨f, z1, z2⟩ => by
    obtain ⟨q1, q2, q3⟩ := edge_pre h hI hn hd h1 z1
    exact ⟨f, q1, Rc_pre h hI hn q2 q3 z2⟩
theorem LInv.grow (h : W <+: W') (hI : LInv W L) (hn : ∀ d, d < W'.length → (gc W' d).1 ≠ []) (hz : ∀ d, W.length ≤ d → L d = 0) : LInv W' L := by
  obtain ⟨⟨a1, a2, a3, a4, a5⟩, a6⟩ := id hI
  have hl := h.length_le
  refine ⟨⟨by rw [gc_pre h (by omega)]; exact a1, by rw [gc_pre h (by omega)]; exact a2, by rw [gc_pre h (by omega)]; exact a3, by omega, a5⟩, fun d hd h1 => ?_⟩
  have hdl : d < W.length := by
    rcases Nat.lt_or_ge d W.length with z | z
    · exact z
    · rw [hz d z] at h1; exact absurd h1 (by decide)
  rcases a6 d hdl h1 with z | ⟨b1, ⟨p, b2, b3⟩, b4⟩
  · exact Or.inl z
  · refine Or.inr ⟨fun ⟨e, z1, n, z2⟩ => ?_, ⟨p, by rw [gc_pre h hdl]; exact fnd_pre h b2, b3⟩, fun f hf => ?_⟩
    · obtain ⟨q1, q2, q3⟩ := edge_pre h hI hn hdl h1 z1
      exact b1 ⟨e, q1, n, Rc_pre h hI hn q2 q3 z2⟩
    · rw [gc_pre h hdl] at hf
      obtain ⟨q, b5, b6⟩ := b4 f hf
      exact ⟨q, fnd_pre h b5, b6⟩
theorem KJ.grow (h : W <+: W') (hI : LInv W L) (hJ : KJ W L) (hz : ∀ d, W.length ≤ d → L d = 0) : KJ W' L := fun d hd h1 => by
  have hdl : d < W.length := by
    rcases Nat.lt_or_ge d W.length with z | z
    · exact z
    · rw [hz d z] at h1; exact absurd h1 (by decide)
  obtain ⟨k1, k2⟩ := hJ d hd h1
  unfold KIc
  rw [gc_pre h hdl]
  refine ⟨fun m hm => by rw [chkM_pre h hdl (k1 m hm)]; exact k1 m hm, fun f hf e he => ?_⟩
  rcases hI.2 d hdl h1 with z | ⟨-, -, b4⟩
  · omega
  · obtain ⟨q, b5, -⟩ := b4 f hf
    rw [fnd_pre h b5] at he
    cases he
    rw [isFc_pre h (fnd_lt b5)]
    exact k2 f hf _ b5
theorem GL.grow (h : W <+: W') (hW' : WO W') (hB : BI W) (hG : GL W s) (hn : ∀ d, d < W'.length → (gc W' d).1 ≠ []) (hz : LZ W s) : GL W' s := by
  have hl := h.length_le
  obtain ⟨⟨a1, a2, a3⟩, ⟨b1, b2, b3⟩, ⟨c1, c2⟩, d1, ⟨e1, e2, e3, e4⟩⟩ := id hG
  refine ⟨⟨a1.grow h hn hz, a2, a3.grow h a1 hz⟩, ⟨b1, fun r hr => ⟨(b2 r hr).1, ?_⟩, fun i hi => ⟨(b3 i hi).1, cv_pre h hB hG (b3 i hi).2⟩⟩, ⟨fun c f hc hf hfl => ?_, c2⟩, d1, e1, fun k => ⟨(e2 k).1, fun q => ⟨by have := ((e2 k).2 q).1; omega, ((e2 k).2 q).2⟩⟩, e3, fun k hk => ⟨⟨(e4 k hk).1.1, by have := (e4 k hk).1.2; omega⟩, (e4 k hk).2⟩⟩
  · have := (b2 r hr).2
    unfold obO at this ⊢
    cases e : (gOb s r).1 with
    | none => rw [e] at this; exact this
    | some d =>
      rw [e] at this
      obtain ⟨⟨p1, p2⟩, p3, p4⟩ := this
      show (d < W'.length ∧ _) ∧ _ = osz W' d ∧ ∀ k, k < osz W' d → _ = gk (ofk W' d) k
      rw [(osz_pre h a1 p1 p2).1]
      have eo : ofk W' d = ofk W d := ofkN_pre h a1 52 d p1 p2
      rw [eo]
      exact ⟨⟨by omega, p2⟩, p3, p4⟩
  · rcases Nat.lt_or_ge c W.length with z | z
    · rw [gc_pre h z] at hf hfl ⊢
      exact cv_pre h hB hG (c1 c f z hf hfl)
    · have z0 : zC s c = 0 := Decidable.byContradiction (fun q => by have := ((e2 c).2 q).1; omega)
      rw [c2 c f z0]
      exact cv_zero ((hW'.2.2.1.1 _ (gc_mem hc)).1.1 _ (getD_mem hf)).1
theorem FmO_pre (h : W <+: W') {f : Fm} (hf : FmO W s f) : FmO W' s f := by
  have hl := h.length_le
  obtain ⟨⟨a1, a2, a3⟩, b1, b2, b3⟩ := hf
  unfold FmO
  rw [gc_pre h a2]
  exact ⟨⟨a1, by omega, a3⟩, b1, b2, b3⟩
theorem FmU_pre (h : W <+: W') (hB : BI W) (hG : GL W s) {f : Fm} {o : Option Kd} (hf : FmO W s f) (hu : FmU W s f o) : FmU W' s f o := by
  obtain ⟨⟨a1, a2, a3⟩, b1, b2, b3⟩ := hf
  have hck := (hG.1.2.2 f.1 a1 a3).1 (gmt (gc W f.1) f.2.1) (getD_mem b1)
  have ek := kAt_pre h a2 hck b2
  unfold FmU at hu ⊢
  rw [gc_pre h a2]
  cases o with
  | none =>
    obtain ⟨q1, q2, q3⟩ := hu
    show at_ W' s f.1 (gmt (gc W f.1) f.2.1) f.2.2.1 f.2.2.2.1 f.2.2.2.2
    unfold at_
    rw [ek]
    exact ⟨cvL_pre h hB hG q1, q2, cvL_pre h hB hG q3⟩
  | some κ =>
    obtain ⟨q1, q2, q3, q4⟩ := hu
    show _ ∧ cvL W' s _ _ (kAt W' _ _ _).1 _ ∧ (kRs W' _ _ _).length = _ ∧ cvL W' s _ _ (kRs W' _ _ _) _
    have er : kRs W' f.1 (gmt (gc W f.1) f.2.1) f.2.2.1 = kRs W f.1 (gmt (gc W f.1) f.2.1) f.2.2.1 := by
      show (kAt W' _ _ _).2.take ((kAt W' _ _ _).2.length - (wlist W' _ _ _).length) = _
      rw [ek, wlist_pre h a2]
    rw [ek, er]
    exact ⟨q1, cvL_pre h hB hG q2, q3, cvL_pre h hB hG q4⟩
theorem UO_pre (h : W <+: W') (hB : BI W) (hG : GL W s) : ∀ {U : List Un} {o : Option Kd}, UO W s t o U → UO W' s t o U
  | [], _, _ => trivial
  | .inl f :: U, o, ⟨a1, a2, a3⟩ => by
    have e : gc W' f.1 = gc W f.1 := gc_pre h a1.1.2.1
    refine ⟨FmO_pre h a1, FmU_pre h hB hG a1 a2, ?_⟩
    rw [e]
    exact UO_pre h hB hG a3
  | .inr k :: U, o, ⟨a1, a2, a3⟩ => ⟨a1, ⟨⟨a2.1.1, by have := a2.1.2; have := h.length_le; omega⟩, a2.2⟩, UO_pre h hB hG a3⟩
theorem GI.grow (h : W <+: W') (hW' : WO W') (hB : BI W) (hG : GI W K s) (hn : ∀ d, d < W'.length → (gc W' d).1 ≠ []) (hz : LZ W s) : GI W' K s := by
  have hl := h.length_le
  obtain ⟨⟨⟨a1, a2, a3⟩, b1, c1, d1⟩, e1, f1⟩ := hG
  refine ⟨⟨⟨a1.grow h hW' hB hn hz, a2, a3⟩, fun t ht => ?_, fun t ht => ⟨⟨UO_pre h hB a1 (c1 t ht).1.1, (c1 t ht).1.2⟩, (c1 t ht).2⟩, d1⟩, e1, f1⟩
  obtain ⟨q1, q2, q3⟩ := b1 t ht
  refine ⟨q1, q2, fun y hy => ?_⟩
  have := q3 y hy
  cases y with
  | inl r => exact this
  | inr k => exact Nat.lt_of_lt_of_le this hl
theorem WI.grow (h : W <+: W') (hW' : WO W') (hB : BI W) (hG : WI W K s) (hn : ∀ d, d < W'.length → (gc W' d).1 ≠ []) (hz : LZ W s) : WI W' K s := ⟨hG.1.grow h hW' hB hn hz, hG.2⟩
end
