/-! THE MACHINE: faults are few -/
def cntN (p : Nat → Bool) : Nat → Nat
  | 0 => 0
  | n + 1 => cntN p n + (if p n then 1 else 0)
theorem cntN_le {p q : Nat → Bool} : ∀ n, (∀ k, k < n → p k = true → q k = true) → cntN p n ≤ cntN q n
  | 0, _ => Nat.le_refl _
  | n + 1, h => by
    have ih := cntN_le n (fun k hk => h k (by omega))
    have hn := h n (by omega)
    unfold cntN
    cases e : p n with
    | false => rw [if_neg (by decide)]; omega
    | true => rw [if_pos rfl, if_pos (hn e)]; omega
theorem cntN_lt {p q : Nat → Bool} : ∀ n, (∀ k, k < n → p k = true → q k = true) → ∀ k, k < n → p k = false → q k = true → cntN p n + 1 ≤ cntN q n
  | 0, _, k, hk, _, _ => absurd hk (Nat.not_lt_zero k)
  | n + 1, h, k, hk, hp, hq => by
    have hn := h n (by omega)
    unfold cntN
    by_cases e : k = n
    · have ih := cntN_le n (fun k hk => h k (by omega))
      rw [← e, hp, hq, if_neg (by decide), if_pos rfl, e]; omega
    · have ih := cntN_lt n (fun k hk => h k (by omega)) k (by omega) hp hq
      cases ep : p n with
      | false => rw [if_neg (by decide)]; omega
      | true => rw [if_pos rfl, if_pos (hn ep)]; omega
theorem cntN_all {p : Nat → Bool} : ∀ n, cntN p n ≤ n
  | 0 => Nat.le_refl _
  | n + 1 => by
    have := cntN_all (p := p) n
    unfold cntN
    split <;> omega
def nC0 (f : Nat → Int32) : Nat := cntN (fun k => decide (f k = 0)) 51
def nC3 (f : Nat → Int32) : Nat := cntN (fun k => decide (f k = 3)) 51
theorem nC3_le {f : Nat → Int32} : nC3 f ≤ 51 := cntN_all 51
theorem nC0_le {f : Nat → Int32} : nC0 f ≤ 51 := cntN_all 51
theorem nC3_up {f : Nat → Int32} {k : Nat} (hk : k < 51) (h : f k ≠ 3) : nC3 f + 1 ≤ nC3 (up1 f k 3) := by
  refine cntN_lt 51 (fun j _ hj => ?_) k hk (decide_eq_false h) (decide_eq_true up1_s)
  have hj := of_decide_eq_true hj
  have : j ≠ k := fun z => h (by rw [← z]; exact hj)
  exact decide_eq_true (by rw [up1_o this]; exact hj)
theorem nC3_mv {f : Nat → Int32} {k : Nat} {v : Int32} (h : f k ≠ 3) : nC3 f ≤ nC3 (up1 f k v) := by
  refine cntN_le 51 (fun j _ hj => ?_)
  have hj := of_decide_eq_true hj
  have : j ≠ k := fun z => h (by rw [← z]; exact hj)
  exact decide_eq_true (by rw [up1_o this]; exact hj)
theorem nC0_mv {f : Nat → Int32} {k : Nat} {v : Int32} (h : v ≠ 0) : nC0 (up1 f k v) ≤ nC0 f := by
  refine cntN_le 51 (fun j _ hj => ?_)
  have hj := of_decide_eq_true hj
  by_cases e : j = k
  · rw [e, up1_s] at hj; exact absurd hj h
  · rw [up1_o e] at hj; exact decide_eq_true hj
theorem nC0_up {f : Nat → Int32} {k : Nat} {v : Int32} (hk : k < 51) (h : f k = 0) (hv : v ≠ 0) : nC0 (up1 f k v) + 1 ≤ nC0 f := by
  refine cntN_lt 51 (fun j _ hj => ?_) k hk (decide_eq_false (by rw [up1_s]; exact hv)) (decide_eq_true h)
  have hj := of_decide_eq_true hj
  by_cases e : j = k
  · rw [e, up1_s] at hj; exact absurd hj hv
  · rw [up1_o e] at hj; exact decide_eq_true hj
/-- at most d faults more, but for classes that failed -/
def Fb (d : Nat) (s s' : Ms) : Prop := (zF s').length + 2 * nC3 (zC s) ≤ (zF s).length + d + 2 * nC3 (zC s')
section
variable {br : Int32} {W : List Cls} {s s' s2 : Ms} {t c j a k d d' : Nat} {lo st : List Vl} {U V : List Un} {q : Nat × Nat} {i : Ins} {o : Option Kd}
theorem Fb.of (e1 : zF s' = zF s) (e2 : zC s' = zC s) : Fb 0 s s' := by unfold Fb; rw [e1, e2]; omega
theorem Fb.trans (h : Fb d s s') (h2 : Fb d' s' s2) : Fb (d + d') s s2 := by unfold Fb at *; omega
theorem Fb.le (h : Fb d s s') (hd : d ≤ d') : Fb d' s s' := by unfold Fb at *; omega
theorem Fb.ev {w' k' t' : Nat} {m : Option Nat} : Fb 0 s (evS s t' w' k' m) := Fb.of evS_r.2.2.2.2.2.2.1 evS_r.2.1
theorem Fb.ft {f : Nat} {ru : Int32} : Fb 1 s (addFt s f ru) := by
  unfold Fb
  show (zF s ++ _).length + 2 * nC3 (zC s) ≤ (zF s).length + 1 + 2 * nC3 (zC s)
  rw [List.length_append, List.length_singleton]; omega
theorem Fb.yc {v : Int32} (h : zC s k ≠ 3) : Fb 0 s (yC s (up1 (zC s) k v)) := by
  have := nC3_mv (v := v) h
  unfold Fb
  show (zF s).length + 2 * nC3 (zC s) ≤ (zF s).length + 0 + 2 * nC3 (up1 (zC s) k v)
  omega
/-- what goes down the units: for a start unit on top even one fault less -/
theorem unw_fb : ∀ (U : List Un) (r : Int32) (s : Ms), (∀ k ∈ sts U, zC s k = 1 ∧ k < 51) → (sts U).Nodup → Fb 0 s (unw W t U r s) ∧ ∀ k own U', U = .inr (k, own) :: U' → (zF (unw W t U r s)).length + 2 * nC3 (zC s) + 1 ≤ (zF s).length + 2 * nC3 (zC (unw W t U r s))
  | [], r, s, _, _ => ⟨Fb.of rfl rfl, fun k own U' e => by cases e⟩
  | .inr (k, own) :: U, r, s, h1, h2 => by
    have hk := h1 k List.mem_cons_self
    have hn : k ∉ sts U ∧ (sts U).Nodup := List.nodup_cons.mp h2
    have hu := nC3_up (f := zC s) hk.2 (by rw [hk.1]; decide)
    have hz : ∀ x ∈ sts U, up1 (zC s) k 3 x = 1 ∧ x < 51 := fun x hx => by
      have hx1 := h1 x (List.mem_cons_of_mem _ hx)
      have hne : x ≠ k := fun z => hn.1 (by rw [← z]; exact hx)
      rw [up1_o hne]; exact hx1
    have eC : zC (evS (yC s (up1 (zC s) k 3)) t 6 k none) = up1 (zC s) k 3 := evS_r.2.1
    have eF : zF (evS (yC s (up1 (zC s) k 3)) t 6 k none) = zF s := evS_r.2.2.2.2.2.2.1
    have key : (zF (unw W t (.inr (k, own) :: U) r s)).length + 2 * nC3 (zC s) + 1 ≤ (zF s).length + 2 * nC3 (zC (unw W t (.inr (k, own) :: U) r s)) := by
      unfold unw
      by_cases c1 : own = true ∧ bel W (clN s r) 10 = false
      · rw [if_pos c1]
        have ih := (unw_fb U (lastF (addFt (evS (yC s (up1 (zC s) k 3)) t 6 k none) 20 0)) (addFt (evS (yC s (up1 (zC s) k 3)) t 6 k none) 20 0) (fun x hx => by show zC (evS (yC s (up1 (zC s) k 3)) t 6 k none) x = 1 ∧ _; rw [eC]; exact hz x hx) hn.2).1
        unfold Fb at ih
        have e1 : (zF (addFt (evS (yC s (up1 (zC s) k 3)) t 6 k none) 20 0)).length = (zF s).length + 1 := by
          show (zF (evS (yC s (up1 (zC s) k 3)) t 6 k none) ++ _).length = _
          rw [eF, List.length_append, List.length_singleton]
        have e2 : zC (addFt (evS (yC s (up1 (zC s) k 3)) t 6 k none) 20 0) = up1 (zC s) k 3 := eC
        rw [e1, e2] at ih
        omega
      · rw [if_neg c1]
        have ih := (unw_fb U r (evS (yC s (up1 (zC s) k 3)) t 6 k none) (fun x hx => by rw [eC]; exact hz x hx) hn.2).1
        unfold Fb at ih
        rw [eF, eC] at ih
        omega
    refine ⟨by unfold Fb; omega, fun k' own' U' e => ?_⟩
    exact key
  | .inl (c, j, a, lo, st) :: U, r, s, h1, h2 => by
    refine ⟨?_, fun k own U' e => by cases e⟩
    unfold unw
    cases ec : catH W a (clN s r) (hs (gmt (gc W c) j)) with
    | none =>
      have eC : zC (evS s t 3 c (some j)) = zC s := evS_r.2.1
      exact Fb.ev.trans (unw_fb U r (evS s t 3 c (some j)) (fun x hx => by rw [eC]; exact h1 x hx) h2).1
    | some g => exact Fb.trans (s' := sU s t (.inl (c, j, g, lo, [(r, true)]) :: U)) (Fb.of rfl rfl) Fb.ev
/-- starts of a thread -/
theorem MO.stsf (hW : WO W) (h : MO W s t o U) : (∀ k ∈ sts U, zC s k = 1 ∧ k < 51) ∧ (sts U).Nodup := by
  refine ⟨fun k hk => ?_, h.2.2.2.1.2.1⟩
  have := h.2.2.2.1.1.own k hk
  have := hW.2.2.2
  exact ⟨(h.2.2.2.1.1.own k hk).2.2.1, by have := (h.2.2.2.1.1.own k hk).1.2; omega⟩
theorem fail_fb (hW : WO W) (h : MO W s t o (gU s t)) {f : Nat} {ru : Int32} : Fb 1 s (failS W t s f ru) := (Fb.ft.trans (unw_fb (gU s t) _ (addFt s f ru) (h.stsf hW).1 (h.stsf hW).2).1)
theorem enter_fb (hW : WO W) (h : MO W s t o (gU s t)) {c' j' : Nat} {args : List Vl} : Fb 1 s (enterS W t s V c' j' args) := by
  unfold enterS
  split
  · exact fail_fb hW h
  · exact (Fb.trans (s' := sU s t _) (Fb.of rfl rfl) Fb.ev).le (by omega)
theorem begs_fb (h0 : zC s k = 0) : Fb 0 s (begS W t s k) := by
  unfold begS
  have h1 : Fb 0 s (yB (yO (yC s (up1 (zC s) k 1)) (up1 (zO s) k (Int32.ofNat t))) (zB s ++ [k])) := by
    have := nC3_mv (f := zC s) (k := k) (v := 1) (by rw [h0]; decide)
    unfold Fb
    show (zF s).length + 2 * nC3 (zC s) ≤ (zF s).length + 0 + 2 * nC3 (up1 (zC s) k 1)
    omega
  exact Fb.trans (d := 0) (d' := 0) (s' := evS (yB (yO (yC s (up1 (zC s) k 1)) (up1 (zO s) k (Int32.ofNat t))) (zB s ++ [k])) t 4 k none) (h1.trans Fb.ev) (Fb.of rfl rfl)
theorem must_fb (hC : CO W s) : Fb 0 s (mustS br W t s k).2.2 := by
  unfold mustS
  by_cases e2 : zC s k = 2
  · rw [if_pos e2]; exact Fb.of rfl rfl
  rw [if_neg e2]
  by_cases e1 : zC s k = 1
  · rw [if_pos e1]
    split <;> exact Fb.of rfl rfl
  rw [if_neg e1]
  by_cases e3 : zC s k = 3
  · rw [if_pos e3]; exact Fb.of rfl rfl
  rw [if_neg e3]
  have e0 : zC s k = 0 := by rcases (hC.2.1 k).1 with z | z | z | z; exact z; exact absurd z e1; exact absurd z e2; exact absurd z e3
  split
  · exact begs_fb (s := yL s (lkN br W 60 (zL s) k).2) e0
  · exact Fb.of rfl rfl
theorem leave_fb (hW : WO W) {f : Fm} (h : MO W s t o (.inl f :: U)) {op : Nat} {v : Int32} : Fb 0 s (leaveS s t c j op v U) := by
  have hp := (h.popF).stsf hW
  cases U with
  | nil => exact Fb.trans (d := 0) (d' := 0) (s' := evS s t 2 c (some j)) Fb.ev (Fb.of rfl rfl)
  | cons u U' =>
    cases u with
    | inr k =>
      obtain ⟨k, own⟩ := k
      have hk := hp.1 k List.mem_cons_self
      have eC : zC (evS s t 2 c (some j)) = zC s := evS_r.2.1
      have h1 : Fb 0 (evS s t 2 c (some j)) (yC (evS s t 2 c (some j)) (up1 (zC s) k 2)) := by
        have := Fb.yc (s := evS s t 2 c (some j)) (k := k) (v := 2) (by rw [eC, hk.1]; decide)
        rw [eC] at this; exact this
      exact Fb.trans (d := 0) (d' := 0) (s' := sU (yC (evS s t 2 c (some j)) (up1 (zC s) k 2)) t U') (Fb.trans (d := 0) (d' := 0) (Fb.ev.trans h1) (Fb.of rfl rfl)) Fb.ev
    | inl f =>
      obtain ⟨c', j', a', lo', st'⟩ := f
      exact Fb.trans (d := 0) (d' := 0) (s' := evS s t 2 c (some j)) Fb.ev (Fb.of rfl rfl)
theorem act_fb (hA : At W s t c j a lo st U i) : Fb 1 s (doS W t s c j a lo st U i q) := by
  have hM' : MO W s t none (gU s t) := by rw [hA.2.1]; exact hA.1.2.1
  have hW := hA.1.1
  refine doS_ind (P := fun s' => Fb 1 s s') (fun s' f hq => ?_) (fun f ru => fail_fb hW hM') (fun r => ((unw_fb _ _ _ (hM'.stsf hW).1 (hM'.stsf hW).2).1).le (by omega)) (fun o v => (leave_fb hW hA.1.2.1).le (by omega)) (fun V c' j' args => enter_fb hW hM')
  unfold Fb
  show (zF s').length + 2 * nC3 (zC s) ≤ (zF s).length + 1 + 2 * nC3 (zC s')
  rw [hq.1.1, hq.2.2]; omega
/-- threads that are not done -/
def rnT (s : Ms) : Nat := cntN (fun t => decide (lSt (zN s t) = 1)) 3
theorem rnT_le (hk : ∀ t', t' ≠ t → zN s' t' = zN s t') (hon : lSt (zN s t) = 1) : rnT s' ≤ rnT s := by
  refine cntN_le 3 (fun t' _ h => ?_)
  by_cases e : t' = t
  · rw [e]; exact decide_eq_true hon
  · rw [hk t' e] at h; exact h
theorem rnT_lt (hk : ∀ t', t' ≠ t → zN s' t' = zN s t') (hon : lSt (zN s t) = 1) (ht : t < 3) (hd : lSt (zN s' t) ≠ 1) : rnT s' + 1 ≤ rnT s := by
  refine cntN_lt 3 (fun t' _ h => ?_) t ht (decide_eq_false hd) (decide_eq_true hon)
  by_cases e : t' = t
  · rw [e]; exact decide_eq_true hon
  · rw [hk t' e] at h; exact h
theorem fails_fb (hW : WO W) (h : MO W s t o (gU s t)) {own : Bool} (hg : gU s t = .inr (k, own) :: U) {f : Nat} {ru : Int32} : Fb 0 s (failS W t s f ru) := by
  have := (unw_fb (W := W) (t := t) (gU s t) (lastF (addFt s f ru)) (addFt s f ru) (h.stsf hW).1 (h.stsf hW).2).2 k own U hg
  have e1 : (zF (addFt s f ru)).length = (zF s).length + 1 := by
    show (zF s ++ _).length = _
    rw [List.length_append, List.length_singleton]
  have e2 : zC (addFt s f ru) = zC s := rfl
  rw [e1, e2] at this
  unfold Fb failS
  omega
theorem fail_nil (hg : gU s t = []) {f : Nat} {ru : Int32} : lSt (zN (failS W t s f ru) t) = 2 := by
  unfold failS
  rw [hg]
  have e : zN (unw W t [] (lastF (addFt s f ru)) (addFt s f ru)) t = qR (zN (addFt s f ru) t) 2 (0, 0, Int32.ofNat (clN (addFt s f ru) (lastF (addFt s f ru))), ruR (addFt s f ru) (lastF (addFt s f ru))) := up1_s
  rw [e]
theorem first_fb (hW : WO W) (hM : MO W s t none (gU s t)) (hon : lSt (zN s t) = 1) (hg : gU s t = []) : Fb 0 s (firstS br W t s) ∨ (Fb 1 s (firstS br W t s) ∧ lSt (zN (firstS br W t s) t) = 2) := by
  have hok := fMth_ok (br := br) (W := W) (a := zL s) (kn := (lCa (zN s t)).1) (x := (lCa (zN s t)).2.1) (o := 52) (acc := fun _ => false) hM.1.1.1.2.1 hW.2.2.2
  have hm : LkM W (zL s) (fMth br W (zL s) (lCa (zN s t)).1 (lCa (zN s t)).2.1 52 (fun _ => false)).2 := by rw [hok.2]; exact lkd_M hW.2.2.2 hM.1.1.1
  unfold firstS
  cases ef : fMth br W (zL s) (lCa (zN s t)).1 (lCa (zN s t)).2.1 52 (fun _ => false) with
  | mk y L =>
    rw [ef] at hm
    have hM1 := hM.lL hm
    have h0 : Fb 0 s (yL s L) := Fb.of rfl rfl
    cases y with
    | inl e => exact Or.inr ⟨h0.trans (fail_fb hW hM1), fail_nil (s := yL s L) hg⟩
    | inr q =>
      obtain ⟨c1, hlk, -, hf1, -, -⟩ := fMth_in ef
      have hqm := fMth1_ok (fnd_lt (lkd_in hlk).1) hf1
      have hmf := must_fb (br := br) (t := t) (k := q.1) hM1.1.1.2.2.2.2
      obtain ⟨m0, m2, m1, m3⟩ := mustS_ok (br := br) (k := q.1) hW hM1 hon hqm.1
      dsimp only
      generalize mustS br W t (yL s L) q.1 = mr at m0 m1 m2 m3 hmf
      obtain ⟨r0, e, s1⟩ := mr
      dsimp only at m0 m1 m2 m3 hmf ⊢
      match r0, m0, m1, m2, m3 with
      | 0, m0, _, _, _ =>
        obtain ⟨es, -, -⟩ := m0 rfl
        subst es
        have h40 : ¬ frs (gU (yL s L) t) = 40 := by
          show ¬ frs (gU s t) = 40
          rw [hg]; decide
        left
        show Fb 0 s (enterS W t (yL s L) [] q.1 q.2 _)
        unfold enterS
        rw [if_neg h40]
        exact Fb.trans (d := 0) (d' := 0) h0 (Fb.trans (d := 0) (d' := 0) (s' := sU (yL s L) t _) (Fb.of rfl rfl) Fb.ev)
      | 1, _, _, _, _ => exact Or.inl (h0.trans hmf)
      | 2, _, _, m2, _ =>
        obtain ⟨he, hM2, hN, hF2⟩ := m2 rfl
        have eg : gU s1 t = [] := by show lU (zN s1 t) = _; rw [hN]; exact hg
        have hM2 : MO W s1 t none (gU s1 t) := by rw [eg]; rw [show gU (yL s L) t = [] from hg] at hM2; exact hM2
        exact Or.inr ⟨(Fb.trans (d := 0) (d' := 0) h0 hmf).trans (fail_fb hW hM2), fail_nil eg⟩
      | 3, _, _, _, _ => exact Or.inl (h0.trans hmf)
      | n + 4, _, _, _, m3 => exact absurd m3 (by omega)
theorem startg_fb (hW : WO W) {own : Bool} (hM : MO W s t none (.inr (k, own) :: U)) : Fb 0 s (startG W t s k U) := by
  have hs := hM.stsf hW
  have hk := hs.1 k List.mem_cons_self
  unfold startG
  split
  · rename_i m _
    have h0 : Fb 0 s (sU s t (.inr (k, true) :: U)) := Fb.of rfl rfl
    have eg : gU (sU s t (.inr (k, true) :: U)) t = .inr (k, true) :: U := gU_sU
    unfold enterS
    split
    · have := (unw_fb (W := W) (t := t) (gU (sU s t (.inr (k, true) :: U)) t) (lastF (addFt (sU s t (.inr (k, true) :: U)) 8 0)) (addFt (sU s t (.inr (k, true) :: U)) 8 0) (by rw [eg]; exact hs.1) (by rw [eg]; exact hs.2)).2 k true U eg
      have e1 : (zF (addFt (sU s t (.inr (k, true) :: U)) 8 0)).length = (zF s).length + 1 := by
        show (zF s ++ _).length = _
        rw [List.length_append, List.length_singleton]
      have e2 : zC (addFt (sU s t (.inr (k, true) :: U)) 8 0) = zC s := rfl
      rw [e1, e2] at this
      unfold Fb failS
      omega
    · exact Fb.trans (d := 0) (d' := 0) h0 (Fb.trans (d := 0) (d' := 0) (s' := sU (sU s t (.inr (k, true) :: U)) t _) (Fb.of rfl rfl) Fb.ev)
  · exact Fb.trans (d := 0) (d' := 0) (s' := sU (yC s (up1 (zC s) k 2)) t U) (Fb.trans (d := 0) (d' := 0) (Fb.yc (by rw [hk.1]; decide)) (Fb.of rfl rfl)) Fb.ev
theorem start_fb (hW : WO W) {own : Bool} (hM : MO W s t none (gU s t)) (hon : lSt (zN s t) = 1) (hg : gU s t = .inr (k, own) :: U) : Fb 0 s (startS br W t s k own U) := by
  have hM' := hM
  rw [hg] at hM'
  have hk := ((hM'.stsf hW).1 k List.mem_cons_self).2
  have hkW : k < W.length := (hM'.2.2.2.1.1.own k List.mem_cons_self).1.2
  unfold startS
  split
  · split
    · exact Fb.of rfl rfl
    · rename_i p hp
      have hpl := up_lt hkW hp
      have hmf := must_fb (br := br) (t := t) (k := p) hM.1.1.2.2.2.2
      obtain ⟨m0, m2, m1, m3⟩ := mustS_ok (br := br) (k := p) hW hM hon hpl
      generalize mustS br W t s p = mr at m0 m1 m2 m3 hmf
      obtain ⟨r0, e, s1⟩ := mr
      dsimp only at m0 m1 m2 m3 hmf ⊢
      match r0, m0, m1, m2, m3 with
      | 0, m0, _, _, _ =>
        obtain ⟨es, -, -⟩ := m0 rfl
        subst es
        exact startg_fb hW hM'
      | 1, _, _, _, _ => exact hmf
      | 2, _, _, m2, _ =>
        obtain ⟨he, hM2, hN, hF2⟩ := m2 rfl
        have eg : gU s1 t = gU s t := by show lU (zN s1 t) = _; rw [hN]
        have hM2 : MO W s1 t none (gU s1 t) := by rw [eg]; exact hM2
        exact Fb.trans (d := 0) (d' := 0) hmf (fails_fb hW hM2 (eg.trans hg))
      | 3, _, _, _, _ => exact hmf
      | n + 4, _, _, _, m3 => exact absurd m3 (by omega)
  · exact startg_fb hW hM'
theorem ins_fb (hW : WO W) (hM : MO W s t none (gU s t)) (hon : lSt (zN s t) = 1) (hg : gU s t = .inl (c, j, a, lo, st) :: U) (hF : (zF s).length + U.length + 3 < 1000000) : Fb 0 s (insS br W t s c j a lo st U) ∨ (Fb 1 s (insS br W t s c j a lo st U) ∧ zK (insS br W t s c j a lo st U) = zK s + 1) := by
  have hM' := hM
  rw [hg] at hM'
  unfold insS
  dsimp only
  generalize hi : gin (co (gmt (gc W c) j)) a = i
  by_cases cw : i.1 = 60 ∧ (tv st 0).1 ≠ 0 ∧ lckd s t (tv st 0).1
  · rw [if_pos cw]; exact Or.inl (Fb.of rfl rfl)
  rw [if_neg cw]
  have tk : ∀ {s1 : Ms}, Fb 0 s s1 → Fb 0 s (tickS s1 t i.1) := fun h => Fb.trans (d := 0) (d' := 0) h (Fb.of rfl rfl)
  have hok := fIns_ok (br := br) (c := c) (x := gmt (gc W c) j) (i := i) hW.2.2.2 hM.1.1.1
  have hok2 : LkM W (zL s) (if i.1 = 54 ∨ i.1 = 55 then ((.inr (0, 0), zL s) : FR) else fIns br W (zL s) c (gmt (gc W c) j) i).2 := by
    split
    · exact LkM.rf hM.1.1.1
    · exact hok.2
  have hlt : ∀ q, (if i.1 = 54 ∨ i.1 = 55 then ((.inr (0, 0), zL s) : FR) else fIns br W (zL s) c (gmt (gc W c) j) i).1 = .inr q → strt i.1 → q.1 < W.length := fun q e cs => by
    rw [if_neg (by unfold strt at cs; omega)] at e
    have := fIns_lt (L := (fIns br W (zL s) c (gmt (gc W c) j) i).2) (q := q) (Prod.ext e rfl)
    unfold strt at cs
    rcases cs with z | z | z | z
    · exact this.1 z
    · exact (this.2.1 (by omega)).1
    · exact (this.2.1 (by omega)).1
    · exact (this.2.2 (by omega)).1
  generalize (if i.1 = 54 ∨ i.1 = 55 then ((.inr (0, 0), zL s) : FR) else fIns br W (zL s) c (gmt (gc W c) j) i) = fr at hok2 hlt
  obtain ⟨y, L⟩ := fr
  have h0 : Fb 0 s (yL s L) := Fb.of rfl rfl
  have hML := hM.lL (L := L) hok2
  have hMt : ∀ {s1 : Ms}, MO W s1 t none (gU s1 t) → MO W (tickS s1 t i.1) t none (gU (tickS s1 t i.1) t) := fun h => by rw [tick_U]; exact h.tick
  have fl : ∀ {s1 : Ms} {e : Int32}, Fb 0 s s1 → MO W s1 t none (gU s1 t) → zK s1 = zK s → Fb 1 s (failC W t (tickS s1 t i.1) e) ∧ zK (failC W t (tickS s1 t i.1) e) = zK s + 1 := fun {s1 e} h hm hk => by
    refine ⟨(tk h).trans (fail_fb hW (hMt hm)), ?_⟩
    have := (KpM.fail (W := W) (t := t) (s := tickS s1 t i.1) (f := e.toNatClampNeg % 100) (ru := Int32.ofNat (e.toNatClampNeg / 100))).1.2
    refine this.trans ?_
    show zK s1 + 1 = _
    rw [hk]
  have ac : ∀ {s1 : Ms} {q : Nat × Nat}, Fb 0 s s1 → MO W s1 t none (gU s1 t) → zN s1 = zN s → zF s1 = zF s → zK s1 = zK s → Fb 1 s (doS W t (tickS s1 t i.1) c j a lo st U i q) ∧ zK (doS W t (tickS s1 t i.1) c j a lo st U i q) = zK s + 1 := fun {s1 q} h hm hn hf hk => by
    have eg : gU s1 t = .inl (c, j, a, lo, st) :: U := by show lU (zN s1 t) = _; rw [hn]; exact hg
    have hA : At W (tickS s1 t i.1) t c j a lo st U i := by
      refine ⟨⟨hW, ?_, ?_⟩, ?_, hi.symm, ?_⟩
      · rw [eg] at hm; exact hm.tick
      · rw [tick_N, hn]; exact hon
      · rw [tick_U]; exact eg
      · show (zF s1).length + _ + 3 < _; rw [hf]; exact hF
    refine ⟨(tk h).trans (act_fb hA), ?_⟩
    refine (KpM.act (W := W) (t := t) (s := tickS s1 t i.1) (c := c) (j := j) (a := a) (lo := lo) (st := st) (U := U) (i := i) (q := q)).1.2.trans ?_
    show zK s1 + 1 = _
    rw [hk]
  cases y with
  | inl e => exact Or.inr (fl h0 hML rfl)
  | inr q =>
    dsimp only
    by_cases cs : strt i.1
    · rw [if_pos cs]
      have hql := hlt q rfl cs
      have hmf := must_fb (br := br) (t := t) (k := q.1) hML.1.1.2.2.2.2
      have hmk := (KpM.must (br := br) (W := W) (t := t) (s := yL s L) (k := q.1)).1.2
      obtain ⟨m0, m2, m1, m3⟩ := mustS_ok (br := br) (k := q.1) hW hML hon hql
      generalize mustS br W t (yL s L) q.1 = mr at m0 m1 m2 m3 hmf hmk
      obtain ⟨r0, e, s1⟩ := mr
      dsimp only at m0 m1 m2 m3 hmf hmk ⊢
      match r0, m0, m1, m2, m3 with
      | 0, m0, _, _, _ =>
        obtain ⟨es, -, -⟩ := m0 rfl
        subst es
        exact Or.inr (ac h0 hML rfl rfl rfl)
      | 1, _, _, _, _ => exact Or.inl (h0.trans hmf)
      | 2, _, _, m2, _ =>
        obtain ⟨he, hM2, hN, hF2⟩ := m2 rfl
        have eg : gU s1 t = gU s t := by show lU (zN s1 t) = _; rw [hN]
        exact Or.inr (fl (h0.trans hmf) (by rw [eg]; exact hM2) hmk)
      | 3, _, _, _, _ => exact Or.inl (h0.trans hmf)
      | n + 4, _, _, _, m3 => exact absurd m3 (by omega)
    · rw [if_neg cs]
      exact Or.inr (ac h0 hML rfl rfl rfl)
/-- faults are paid for by steps, threads that end, classes that failed -/
theorem adv_fb (hW : WO W) (hM : MO W s t none (gU s t)) (hon : lSt (zN s t) = 1) (hF : (zF s).length + 100 < 1000000) : (zF (advS br W t s)).length + rnT (advS br W t s) + zK s + 2 * nC3 (zC s) ≤ (zF s).length + rnT s + zK (advS br W t s) + 2 * nC3 (zC (advS br W t s)) := by
  have hq := Kq.adv (br := br) (W := W) (s := s) (t := t)
  have hr := rnT_le hq.2.1 hon
  have hd := rnT_lt hq.2.1 hon hM.2.1.1
  have hk : zK s ≤ zK (advS br W t s) := by rcases hq.2.2 with z | z <;> omega
  have key : Fb 0 s (advS br W t s) ∨ (Fb 1 s (advS br W t s) ∧ (zK (advS br W t s) = zK s + 1 ∨ lSt (zN (advS br W t s) t) = 2)) := by
    have hl := hM.2.2.2.1.len hW
    unfold advS
    cases eg : gU s t with
    | nil =>
      rcases first_fb (br := br) hW hM hon eg with z | z
      · exact Or.inl z
      · exact Or.inr ⟨z.1, Or.inr z.2⟩
    | cons u U =>
      rw [eg] at hl
      have hl : U.length + 1 ≤ 91 := hl
      cases u with
      | inr k =>
        obtain ⟨k, own⟩ := k
        exact Or.inl (start_fb hW hM hon eg)
      | inl f =>
        obtain ⟨c, j, a, lo, st⟩ := f
        rcases ins_fb (br := br) hW hM hon eg (by omega) with z | z
        · exact Or.inl z
        · exact Or.inr ⟨z.1, Or.inl z.2⟩
  unfold Fb at key
  rcases key with z | ⟨z, z1 | z1⟩
  · omega
  · omega
  · have := hd (by omega)
    omega
end
