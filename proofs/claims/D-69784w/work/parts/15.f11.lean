/-! THE MACHINE: objects -/
section
variable {W : List Cls} {L : Nat → Int32}
theorem ofkN_len : ∀ n c, (ofkN W n c).length = oszN W n c
  | 0, _ => rfl
  | n + 1, c => by
    unfold ofkN oszN
    rw [List.length_append, List.length_map]
    cases upW W c with
    | none => rfl
    | some p =>
      dsimp only
      rw [ofkN_len n p]; rfl
theorem ofk_len {c : Nat} : (ofk W c).length = osz W c := ofkN_len 52 c
theorem ofkN_eq (hI : LInv W L) : ∀ n m c, c < W.length → (c = 0 ∨ L c = 1) → mu W c < n → mu W c < m → ofkN W n c = ofkN W m c := by
  intro n
  induction n with
  | zero => intro m c _ _ h; exact absurd h (by omega)
  | succ n ih =>
    intro m c hc hl hn hm
    obtain ⟨m', em⟩ : ∃ m', m = m' + 1 := ⟨m - 1, by omega⟩
    subst em
    show (match upW W c with | none => [] | some p => ofkN W n p) ++ _ = (match upW W c with | none => [] | some p => ofkN W m' p) ++ _
    by_cases c0 : c = 0
    · have : upW W c = none := by unfold upW; rw [if_pos c0]
      rw [this]
    · obtain ⟨e, eu, hel, he, hmu⟩ := hI.upm hc (hl.resolve_left c0) c0
      rw [eu]
      show ofkN W n e ++ _ = ofkN W m' e ++ _
      rw [ih m' e hel (Or.inr he) (by omega) (by omega)]
abbrev ownK (W : List Cls) (c : Nat) : List Kd := ((gc W c).2.2.2.2.1.filter (fun f => decide (f.2.2.1 &&& 1 = 0))).map (fun f => f.2.1)
theorem ofk_up (h51 : W.length ≤ 51) (hI : LInv W L) {c p : Nat} (hc : c < W.length) (hl : L c = 1) (hp : upW W c = some p) : ofk W c = ofk W p ++ ownK W c := by
  have c0 : c ≠ 0 := fun z => by unfold upW at hp; rw [if_pos z] at hp; cases hp
  obtain ⟨e, eu, hel, he, hmu⟩ := hI.upm hc hl c0
  rw [hp] at eu; cases eu
  unfold ofk
  show (match upW W c with | none => [] | some p => ofkN W 51 p) ++ _ = _
  rw [hp]
  show ofkN W 51 p ++ _ = _
  rw [ofkN_eq hI 51 52 p hel (Or.inr he) (by have := mu_le (W := W) (c := c); omega) (by have := mu_le (W := W) (c := c); omega)]
theorem filt_at {α β : Type} {P : α → Bool} {g : α → β} {d : α} {e : β} : ∀ {l : List α} {f : Nat}, f < l.length → P (l.getD f d) = true → ((l.filter P).map g).getD ((l.take f).filter P).length e = g (l.getD f d)
  | [], f, hf, _ => absurd hf (Nat.not_lt_zero f)
  | x :: l, 0, _, hp => by
    have hp : P x = true := hp
    simp [hp]
  | x :: l, f + 1, hf, hp => by
    have hp : P (l.getD f d) = true := hp
    have ih := filt_at (g := g) (e := e) (l := l) (f := f) (by simpa using hf) hp
    by_cases c : P x = true
    · simp only [List.take_succ_cons, List.filter_cons, c, if_true, List.length_cons, List.map_cons, List.getD_cons_succ]
      exact ih
    · simp only [List.take_succ_cons, List.filter_cons, c, if_false, List.getD_cons_succ]
      exact ih
theorem instF_lt {l : List Fld} {f : Nat} (hf : f < l.length) (hi : (l.getD f ([], (0, []), 0, 0, false)).2.2.1 &&& 1 = 0) : instF (l.take f) < instF l := by
  have h1 := instF_take hf
  rw [if_pos hi] at h1
  have h2 : instF (l.take (f + 1)) ≤ instF l := by
    unfold instF
    have : l.take (f + 1) ++ l.drop (f + 1) = l := List.take_append_drop _ _
    conv => rhs; rw [← this, List.filter_append, List.length_append]
    omega
  omega
/-- where a field lies in an object -/
theorem slt_ok (hB : BI W) (h51 : W.length ≤ 51) (hI : LInv W L) {p f : Nat} (hf : f < (gc W p).2.2.2.2.1.length) (hi : (gfl (gc W p) f).2.2.1 &&& 1 = 0) (h21 : 21 ≤ p) : ∀ n e, e < W.length → L e = 1 → Rc (fun a b => upW W a = some b) n e p → sltF W (p, f) < osz W e ∧ gk (ofk W e) (sltF W (p, f)) = (gfl (gc W p) f).2.1
  | 0, e, he, hl, h => by
    have h : e = p := h
    subst h
    obtain ⟨u, eu, hul, lu, hmu⟩ := hI.upm he hl (by omega)
    have hz := osz_up hI eu hul (Or.inr lu) (by have := mu_le (W := W) (c := e); omega)
    have hlt := instF_lt hf hi
    have hk := ofk_up h51 hI he hl eu
    have hou : oszU W e = (ofk W u).length := by rw [ofk_len]; unfold oszU; rw [eu]
    refine ⟨?_, ?_⟩
    · show oszU W e + instF _ < _
      rw [hz]
      show oszU W e + instF ((gc W e).2.2.2.2.1.take f) < _
      omega
    · show gk (ofk W e) (oszU W e + instF ((gc W e).2.2.2.2.1.take f)) = _
      rw [hk, hou, gk_app2 (by omega), show (ofk W u).length + instF ((gc W e).2.2.2.2.1.take f) - (ofk W u).length = instF ((gc W e).2.2.2.2.1.take f) by omega]
      exact filt_at (P := fun f : Fld => decide (f.2.2.1 &&& 1 = 0)) (g := fun f : Fld => f.2.1) (d := ([], (0, []), 0, 0, false)) hf (decide_eq_true hi)
  | n + 1, e, he, hl, ⟨u, eu, h⟩ => by
    have eu : upW W e = some u := eu
    have e0 : e ≠ 0 := fun z => by unfold upW at eu; rw [if_pos z] at eu; cases eu
    obtain ⟨u', eu', hul, lu, hmu⟩ := hI.upm he hl e0
    rw [eu] at eu'; cases eu'
    obtain ⟨a, b⟩ := slt_ok hB h51 hI hf hi h21 n u hul lu h
    have hz := osz_up hI eu hul (Or.inr lu) (by have := mu_le (W := W) (c := e); omega)
    have hk := ofk_up h51 hI he hl eu
    have hou : oszU W e = osz W u := by unfold oszU; rw [eu]
    refine ⟨by omega, ?_⟩
    rw [hk, gk_app1 (by rw [ofk_len]; exact a)]; exact b
/-- kinds of cells are types -/
theorem ofkN_ty (hC : WC W) : ∀ n c, c < W.length → ∀ κ ∈ ofkN W n c, tyOk κ
  | 0, _, _, κ, h => absurd h List.not_mem_nil
  | n + 1, c, hc, κ, h => by
    unfold ofkN at h
    rcases List.mem_append.mp h with z | z
    · cases eu : upW W c with
      | none => rw [eu] at z; exact absurd z List.not_mem_nil
      | some p => rw [eu] at z; exact ofkN_ty hC n p (up_lt hc eu) κ z
    · obtain ⟨f, hf, e⟩ := List.mem_map.mp z
      rw [← e]
      exact ((hC.at hc).1.1 f (List.mem_filter.mp hf).1).1
end
/-! the heap -/
section
variable {W : List Cls} {s s' : Ms} {t c j a : Nat} {lo st : List Vl} {U : List Un} {o : Option Kd} {q : Nat × Nat}
theorem sle_h {H : Hp} (h1 : ∀ r, thr s r = true → H.2.2.1 r = true) (h2 : ∀ r, thr s r = true → (H.2.2.2.1 r).1 = (gOb s r).1) (h0 : (H.2.2.2.1 0).1 = (gOb s 0).1) : sle s (yH s H) := fun r hr => by
  obtain ⟨n, e, en, hn⟩ := hr.n
  refine ⟨⟨n, e, ?_⟩, ?_⟩
  · rcases hn with z | z | z
    · exact Or.inl z
    · exact Or.inr (Or.inl ⟨z.1, h1 n z.2⟩)
    · exact Or.inr (Or.inr z)
  · unfold clR
    by_cases cb : 800 < r.toNatClampNeg
    · rw [if_pos cb, if_pos cb]
    · rw [if_neg cb, if_neg cb]
      show (H.2.2.2.1 r.toNatClampNeg).1 = (gOb s r.toNatClampNeg).1
      rw [en]
      rcases hn with z | z | z
      · rw [z]; exact h0
      · exact h2 n z.2
      · omega
theorem MO.hH {H : Hp} (h : MO W s t o U) (hH : HO W ((s.1, s.2.1, s.2.2.1, s.2.2.2.1, s.2.2.2.2.1, H, s.2.2.2.2.2.2) : Ms)) (hs : sle s ((s.1, s.2.1, s.2.2.1, s.2.2.2.1, s.2.2.2.2.1, H, s.2.2.2.2.2.2) : Ms)) : MO W ((s.1, s.2.1, s.2.2.1, s.2.2.2.1, s.2.2.2.2.1, H, s.2.2.2.2.2.2) : Ms) t o U := by
  have hG := h.1.1
  refine h.mv ⟨hG.1, hH, ⟨fun c f hc hf h0 => (hG.2.2.1.1 c f hc hf h0).sle hs, hG.2.2.1.2⟩, hG.2.2.2.1, hG.2.2.2.2⟩ h.1.2.1 h.1.2.2 hs (fun _ z => z) (fun _ _ _ => rfl) ((h.2.1.2 t h.2.1.1).mv rfl hs (Nat.le_refl _)) (Nat.le_refl _) (fun _ _ _ _ _ => ⟨rfl, rfl⟩) (h.2.2.2.1.mv hs (fun _ z => z) (fun _ _ => ⟨rfl, rfl⟩)) h.2.2.2.2
theorem cnt_succ {P : Nat → Bool} (n : Nat) : ((List.range (n + 1)).filter P).length = ((List.range n).filter P).length + (if P n then 1 else 0) := by
  rw [List.range_succ, List.filter_append, List.length_append]
  congr 1
  by_cases c : P n = true
  · rw [if_pos c, List.filter_cons, if_pos c]; rfl
  · rw [if_neg c, List.filter_cons, if_neg c]; rfl
theorem cnt_up {P : Nat → Bool} {r : Nat} (hr : P r = false) : ∀ n, ((List.range n).filter (up1 P r true)).length = ((List.range n).filter P).length + (if r < n then 1 else 0)
  | 0 => by rw [if_neg (by omega)]; rfl
  | n + 1 => by
    rw [cnt_succ, cnt_succ, cnt_up hr n]
    by_cases e : n = r
    · subst e
      rw [up1_s, hr, if_neg (by omega), if_pos rfl, if_neg (by decide), if_pos (by omega)]
    · rw [up1_o e]
      by_cases c : r < n
      · rw [if_pos c, if_pos (show r < n + 1 by omega)]; omega
      · rw [if_neg c, if_neg (show ¬ r < n + 1 by omega)]; omega
theorem cnt_all {P : Nat → Bool} (h0 : P 0 = false) : ∀ n, (∀ r, 1 ≤ r → r < n + 1 → P r = true) → ((List.range (n + 1)).filter P).length = n
  | 0, _ => by rw [cnt_succ, h0]; rfl
  | n + 1, h => by
    rw [cnt_succ, cnt_all h0 n (fun r h1 h2 => h r h1 (by omega)), h (n + 1) (by omega) (by omega), if_pos rfl]
theorem lfr_ok {P : Nat → Bool} : ∀ n r k, r ≤ k → k < r + n → P k = false → P (lfr P n r) = false ∧ r ≤ lfr P n r ∧ lfr P n r ≤ k
  | 0, r, k, h1, h2, _ => absurd h2 (by omega)
  | n + 1, r, k, h1, h2, h3 => by
    unfold lfr
    by_cases c : P r = true
    · rw [if_pos c]
      have : r ≠ k := fun z => by rw [z, h3] at c; cases c
      have := lfr_ok n (r + 1) k (by omega) (by omega) h3
      exact ⟨this.1, by omega, this.2.2⟩
    · rw [if_neg c]
      exact ⟨by simpa using c, Nat.le_refl _, h1⟩
theorem lfree_ok (h : HO W s) (hn : (zH s).1 ≠ 800) : thr s (lfree s) = false ∧ 1 ≤ lfree s ∧ lfree s ≤ 800 := by
  obtain ⟨⟨⟨h0, h1⟩, h2, -⟩, -⟩ := h
  have : ∃ k, 1 ≤ k ∧ k ≤ 800 ∧ thr s k = false := Classical.byContradiction (fun z => hn (by
    rw [h2]
    exact cnt_all h0 800 (fun r r1 r2 => by
      cases e : thr s r with
      | true => rfl
      | false => exact absurd ⟨r, r1, by omega, e⟩ z)))
  obtain ⟨k, k1, k2, k3⟩ := this
  have := lfr_ok (P := (zH s).2.2.1) 801 1 k k1 (by omega) k3
  exact ⟨this.1, this.2.1, Nat.le_trans this.2.2 k2⟩
def mkO (W : List Cls) (s : Ms) (cl : Option Nat) (n : Nat) (ks : List Kd) : Prop := match cl with
  | none => n ≤ 300 ∧ ks = []
  | some d => (d < W.length ∧ (zL s).1 d = 1) ∧ n = osz W d ∧ ks = ofk W d
theorem mkOb_ok (hW : WO W) {cl : Option Nat} {n : Nat} {ks : List Kd} (h : MO W s t o U) (hf : ¬ fulS s n) (hm : mkO W s cl n ks) : MO W (mkOb s cl n ks) t o U ∧ sle s (mkOb s cl n ks) ∧ vRf (mkOb s cl n ks) (Int32.ofNat (lfree s)) ∧ clR (mkOb s cl n ks) (Int32.ofNat (lfree s)) = cl := by
  have hH := h.1.1.2.1
  have hf1 : (zH s).1 ≠ 800 := fun z => hf (Or.inl z)
  have hf2 : (zH s).2.1 + n ≤ 4000 := Nat.le_of_not_lt (fun z => hf (Or.inr z))
  obtain ⟨l1, l2, l3⟩ := lfree_ok hH hf1
  obtain ⟨⟨⟨h0, h1⟩, h2, h3⟩, h4, h5⟩ := hH
  have hne : ∀ r, thr s r = true → r ≠ lfree s := fun r hr z => by rw [z, l1] at hr; cases hr
  have hs : sle s (mkOb s cl n ks) := sle_h (fun r hr => by
      show up1 (zH s).2.2.1 (lfree s) true r = true
      rw [up1_o (hne r hr)]; exact hr) (fun r hr => by
      show (up1 (zH s).2.2.2.1 (lfree s) _ r).1 = _
      rw [up1_o (hne r hr)]) (by
      show (up1 (zH s).2.2.2.1 (lfree s) _ 0).1 = _
      rw [up1_o (by omega)])
  have eK : ∀ i, i < (zH s).2.1 → gKd (mkOb s cl n ks) i = gKd s i := fun i hi => if_neg (fun z => by omega)
  have eC : ∀ i, i < (zH s).2.1 → gCell (mkOb s cl n ks) i = gCell s i := fun i hi => if_neg (fun z => by omega)
  have eK2 : ∀ k, k < n → gKd (mkOb s cl n ks) ((zH s).2.1 + k) = gk ks k := fun k hk => by
    show (if (zH s).2.1 ≤ (zH s).2.1 + k ∧ (zH s).2.1 + k < (zH s).2.1 + n then ks.getD ((zH s).2.1 + k - (zH s).2.1) (0, []) else _) = _
    rw [if_pos (by omega), show (zH s).2.1 + k - (zH s).2.1 = k by omega]
  have eO : gOb (mkOb s cl n ks) (lfree s) = (cl, (zH s).2.1, n, 0, (gOb s (lfree s)).2.2.2.2) := up1_s
  have hty : ∀ k, tyOk (gk ks k) := fun k => by
    unfold mkO at hm
    cases cl with
    | none => rw [hm.2]; exact Or.inl rfl
    | some d =>
      by_cases hk : k < ks.length
      · have := gk_mem hk
        rw [hm.2.2] at this
        rw [hm.2.2]
        exact ofkN_ty hW.2.2.1 52 d hm.1.1 _ this
      · show tyOk (ks.getD k _)
        rw [List.getD_eq_getElem?_getD, List.getElem?_eq_none (by omega)]
        exact Or.inl rfl
  have hHO : HO W (mkOb s cl n ks) := by
    refine ⟨⟨⟨?_, fun r hr => ?_⟩, ?_, hf2⟩, fun r hr => ?_, fun i hi => ?_⟩
    · show up1 (zH s).2.2.1 (lfree s) true 0 = false
      rw [up1_o (by omega)]; exact h0
    · show up1 (zH s).2.2.1 (lfree s) true r = false
      rw [up1_o (by omega)]; exact h1 r hr
    · show (zH s).1 + 1 = ((List.range 801).filter (up1 (zH s).2.2.1 (lfree s) true)).length
      rw [cnt_up l1, if_pos (by omega), h2]
    · by_cases e : r = lfree s
      · rw [e, eO]
        refine ⟨Nat.le_refl _, ?_⟩
        unfold obO
        rw [eO]
        unfold mkO at hm
        cases cl with
        | none => exact ⟨hm.1, fun k hk => (eK2 k hk).trans (by rw [hm.2]; rfl)⟩
        | some d => exact ⟨hm.1, hm.2.1, fun k hk => by rw [← hm.2.2]; exact eK2 k (by rw [hm.2.1]; exact hk)⟩
      · have hr' : thr s r = true := by
          have hr : up1 (zH s).2.2.1 (lfree s) true r = true := hr
          rw [up1_o e] at hr; exact hr
        have eO' : gOb (mkOb s cl n ks) r = gOb s r := up1_o e
        obtain ⟨p1, p2⟩ := h4 r hr'
        rw [eO']
        refine ⟨by show _ ≤ (zH s).2.1 + n; omega, ?_⟩
        unfold obO at p2 ⊢
        rw [eO']
        cases ec : (gOb s r).1 with
        | none =>
          rw [ec] at p2
          exact ⟨p2.1, fun k hk => (eK _ (by omega)).trans (p2.2 k hk)⟩
        | some d =>
          rw [ec] at p2
          exact ⟨p2.1, p2.2.1, fun k hk => (eK _ (by rw [p2.2.1] at p1; omega)).trans (p2.2.2 k hk)⟩
    · have hi : i < (zH s).2.1 + n := hi
      by_cases ci : i < (zH s).2.1
      · rw [eK i ci, eC i ci]
        exact ⟨(h5 i ci).1, (h5 i ci).2.sle hs⟩
      · obtain ⟨k, ek⟩ : ∃ k, i = (zH s).2.1 + k := ⟨i - (zH s).2.1, by omega⟩
        have hk : k < n := by omega
        have e0 : gCell (mkOb s cl n ks) i = 0 := if_pos (by omega)
        rw [e0, ek, eK2 k hk]
        exact ⟨hty k, cv_zero (hty k)⟩
  refine ⟨h.hH hHO hs, hs, ⟨lfree s, rfl, Or.inr (Or.inl ⟨l3, up1_s⟩)⟩, ?_⟩
  unfold clR
  rw [oN_tnc (by omega), if_neg (by omega), eO]
theorem obO.eq {r : Nat} (h : obO W s r) (e1 : (gOb s' r).1 = (gOb s r).1) (e2 : (gOb s' r).2.1 = (gOb s r).2.1) (e3 : (gOb s' r).2.2.1 = (gOb s r).2.2.1) (ek : gKd s' = gKd s) (el : (zL s').1 = (zL s).1) : obO W s' r := by
  unfold obO at *
  rw [e1, e2, e3, ek, el]; exact h
theorem wCell_ok {i : Nat} {v : Int32} (h : MO W s t o U) (hv : cv W s 0 [] (gKd s i) (v, decide ((gKd s i).1 ≠ 0))) : MO W (wCell s i v) t o U ∧ sle s (wCell s i v) := by
  have hs : sle s (wCell s i v) := sle_h (fun r hr => hr) (fun r hr => rfl) rfl
  obtain ⟨h1, h4, h5⟩ := h.1.1.2.1
  refine ⟨h.hH ⟨h1, h4, fun k hk => ?_⟩ hs, hs⟩
  show tyOk (gKd s k) ∧ cv W _ 0 [] (gKd s k) (up1 (zH s).2.2.2.2.1 i v k, decide ((gKd s k).1 ≠ 0))
  refine ⟨(h5 k hk).1, ?_⟩
  by_cases e : k = i
  · rw [e, up1_s]; exact hv.sle hs
  · rw [up1_o e]; exact (h5 k hk).2.sle hs
theorem wLock_ok {r n o' : Int32} (h : MO W s t o U) : MO W (wLock s r n o') t o U ∧ sle s (wLock s r n o') := by
  unfold wLock
  by_cases c : 800 < r.toNatClampNeg
  · rw [if_pos c]
    have el : ((zF s).set (r.toNatClampNeg - 801) ((gFt s (r.toNatClampNeg - 801)).1, (gFt s (r.toNatClampNeg - 801)).2.1, n, o')).length = (zF s).length := List.length_set
    have e1 : ∀ k, (((zF s).set (r.toNatClampNeg - 801) ((gFt s (r.toNatClampNeg - 801)).1, (gFt s (r.toNatClampNeg - 801)).2.1, n, o')).getD k (0, 0, 0, 0)).1 = ((zF s).getD k (0, 0, 0, 0)).1 := fun k => by
      rw [List.getD_eq_getElem?_getD, List.getElem?_set]
      by_cases e : r.toNatClampNeg - 801 = k
      · rw [if_pos e]
        by_cases e2 : r.toNatClampNeg - 801 < (zF s).length
        · rw [if_pos e2, ← e]; rfl
        · rw [if_neg e2, List.getD_eq_getElem?_getD, List.getElem?_eq_none (by omega)]
      · rw [if_neg e, List.getD_eq_getElem?_getD]
    have hs : sle s (yF s ((zF s).set (r.toNatClampNeg - 801) ((gFt s (r.toNatClampNeg - 801)).1, (gFt s (r.toNatClampNeg - 801)).2.1, n, o'))) := fun k hk => by
      obtain ⟨m, e, em, hm⟩ := hk.n
      refine ⟨⟨m, e, ?_⟩, ?_⟩
      · rcases hm with z | z | z
        · exact Or.inl z
        · exact Or.inr (Or.inl z)
        · exact Or.inr (Or.inr ⟨z.1, by show m ≤ 800 + (List.set _ _ _).length; rw [el]; exact z.2.1, z.2.2⟩)
      · unfold clR
        by_cases cb : 800 < k.toNatClampNeg
        · rw [if_pos cb, if_pos cb]
          exact congrArg some (e1 _)
        · rw [if_neg cb, if_neg cb]
    have hG := h.1.1
    refine ⟨h.mv ⟨hG.1, ⟨hG.2.1.1, hG.2.1.2.1, fun i hi => ⟨(hG.2.1.2.2 i hi).1, (hG.2.1.2.2 i hi).2.sle hs⟩⟩, ⟨fun c f hc hf h0 => (hG.2.2.1.1 c f hc hf h0).sle hs, hG.2.2.1.2⟩, fun f hf => ?_, hG.2.2.2.2⟩ h.1.2.1 h.1.2.2 hs (fun _ z => z) (fun _ _ _ => rfl) ((h.2.1.2 t h.2.1.1).mv rfl hs (Nat.le_refl _)) (Nat.le_refl _) (fun _ _ _ _ _ => ⟨rfl, rfl⟩) (h.2.2.2.1.mv hs (fun _ z => z) (fun _ _ => ⟨rfl, rfl⟩)) h.2.2.2.2, hs⟩
    rcases List.mem_or_eq_of_mem_set hf with z | z
    · exact hG.2.2.2.1 f z
    · rw [z]
      by_cases e2 : r.toNatClampNeg - 801 < (zF s).length
      · exact hG.2.2.2.1 (gFt s (r.toNatClampNeg - 801)) (getD_mem e2)
      · rw [List.set_eq_of_length_le (by omega)] at hf
        have := hG.2.2.2.1 f hf
        rw [z] at this; exact this
  · rw [if_neg c]
    have hs : sle s (yH s ((zH s).1, (zH s).2.1, (zH s).2.2.1, up1 (zH s).2.2.2.1 r.toNatClampNeg ((gOb s r.toNatClampNeg).1, (gOb s r.toNatClampNeg).2.1, (gOb s r.toNatClampNeg).2.2.1, n, o'), (zH s).2.2.2.2)) := sle_h (fun r hr => hr) (fun k hk => by
        show (up1 (zH s).2.2.2.1 r.toNatClampNeg _ k).1 = _
        by_cases e : k = r.toNatClampNeg
        · rw [e, up1_s]
        · rw [up1_o e]) (by
        show (up1 (zH s).2.2.2.1 r.toNatClampNeg _ 0).1 = _
        by_cases e : 0 = r.toNatClampNeg
        · rw [e, up1_s]
        · rw [up1_o e])
    obtain ⟨h1, h4, h5⟩ := h.1.1.2.1
    refine ⟨h.hH ⟨h1, fun k hk => ?_, fun k hk => ⟨(h5 k hk).1, (h5 k hk).2.sle hs⟩⟩ hs, hs⟩
    obtain ⟨p1, p2⟩ := h4 k hk
    have eo : ∀ k, ((up1 (zH s).2.2.2.1 r.toNatClampNeg ((gOb s r.toNatClampNeg).1, (gOb s r.toNatClampNeg).2.1, (gOb s r.toNatClampNeg).2.2.1, n, o') : Nat → Ob) k).1 = (gOb s k).1 ∧ ((up1 (zH s).2.2.2.1 r.toNatClampNeg ((gOb s r.toNatClampNeg).1, (gOb s r.toNatClampNeg).2.1, (gOb s r.toNatClampNeg).2.2.1, n, o') : Nat → Ob) k).2.1 = (gOb s k).2.1 ∧ ((up1 (zH s).2.2.2.1 r.toNatClampNeg ((gOb s r.toNatClampNeg).1, (gOb s r.toNatClampNeg).2.1, (gOb s r.toNatClampNeg).2.2.1, n, o') : Nat → Ob) k).2.2.1 = (gOb s k).2.2.1 := fun k => by
      by_cases e : k = r.toNatClampNeg
      · rw [e, up1_s]; exact ⟨rfl, rfl, rfl⟩
      · rw [up1_o e]; exact ⟨rfl, rfl, rfl⟩
    refine ⟨?_, p2.eq (eo k).1 (eo k).2.1 (eo k).2.2 rfl rfl⟩
    show ((up1 (zH s).2.2.2.1 r.toNatClampNeg _ : Nat → Ob) k).2.1 + ((up1 (zH s).2.2.2.1 r.toNatClampNeg _ : Nat → Ob) k).2.2.1 ≤ _
    rw [(eo k).2.1, (eo k).2.2]; exact p1
end
