/-! SPEC: who is there; turns; the operation trace (printed by gen/ko.py) -/
def KoM (t : Nat) (s s' : Ms) : Prop := (zN s' t).1 = (zN s t).1
section
variable {br : Int32} {W : List Cls} {s s' s2 : Ms} {t c j a k : Nat} {lo st : List Vl} {U V : List Un} {q : Nat × Nat} {i : Ins}
theorem KoM.rf : KoM t s s := rfl
theorem KoM.trans (h : KoM t s s') (h2 : KoM t s' s2) : KoM t s s2 := Eq.trans h2 h
theorem KoM.of (e3 : zN s' = zN s) : KoM t s s' := by unfold KoM; rw [e3]
theorem KoM.ev {w' k' : Nat} {m : Option Nat} : KoM t s (evS s t w' k' m) := KoM.of evS_r.2.2.2.2.2.2.2.1
theorem KoM.su : KoM t s (sU s t V) := by show (up1 (zN s) t _ t).1 = _; rw [up1_s]
theorem KoM.wt {x : Option (Int32 ⊕ Nat)} : KoM t s (sWt s t x) := by show (up1 (zN s) t _ t).1 = _; rw [up1_s]
theorem KoM.tk {op : Nat} : KoM t s (tickS s t op) := by show (up1 (zN s) t _ t).1 = _; rw [up1_s]
theorem KoM.dn {x : Nat} {r : Int32 × Int32 × Int32 × Int32} : KoM t s (yN s (up1 (zN s) t (qR (zN s t) x r))) := by show (up1 (zN s) t _ t).1 = _; rw [up1_s]
theorem KoM.yc {f : Nat → Int32} : KoM t s (yC s f) := KoM.of rfl
theorem KoM.ft {f : Nat} {ru : Int32} : KoM t s (addFt s f ru) := KoM.of rfl
theorem KoM.unwd : ∀ (U : List Un) (r : Int32) (s : Ms), KoM t s (unw W t U r s)
  | [], r, s => KoM.dn
  | .inr (k, own) :: U, r, s => by
    unfold unw
    by_cases c1 : own = true ∧ bel W (clN s r) 10 = false
    · rw [if_pos c1]; exact ((KoM.yc.trans KoM.ev).trans KoM.ft).trans (KoM.unwd U _ _)
    · rw [if_neg c1]; exact (KoM.yc.trans KoM.ev).trans (KoM.unwd U _ _)
  | .inl (c, j, a, lo, st) :: U, r, s => by
    unfold unw
    cases ec : catH W a (clN s r) (hs (gmt (gc W c) j)) with
    | none => exact KoM.ev.trans (KoM.unwd U _ _)
    | some g => exact KoM.su.trans KoM.ev
theorem KoM.fail {f : Nat} {ru : Int32} : KoM t s (failS W t s f ru) := KoM.ft.trans (KoM.unwd _ _ _)
theorem KoM.enter {c' j' : Nat} {args : List Vl} : KoM t s (enterS W t s V c' j' args) := by
  unfold enterS
  split
  · exact KoM.fail
  · exact KoM.su.trans KoM.ev
theorem KoM.begs : KoM t s (begS W t s k) := by
  unfold begS
  exact (KoM.trans (s' := evS (yB (yO (yC s (up1 (zC s) k 1)) (up1 (zO s) k (Int32.ofNat t))) (zB s ++ [k])) t 4 k none) (KoM.trans (s' := yB (yO (yC s (up1 (zC s) k 1)) (up1 (zO s) k (Int32.ofNat t))) (zB s ++ [k])) (KoM.of rfl) KoM.ev) (KoM.of rfl)).trans KoM.su
theorem KoM.must : KoM t s (mustS br W t s k).2.2 := by
  unfold mustS
  split
  · exact KoM.rf
  split
  · split
    · exact KoM.rf
    · exact KoM.wt
  split
  · exact KoM.rf
  split
  · exact KoM.trans (s' := yL s (lkN br W 60 (zL s) k).2) (KoM.of rfl) KoM.begs
  · exact KoM.of rfl
theorem KoM.leave {o : Nat} {v : Int32} : KoM t s (leaveS s t c j o v U) := by
  cases U with
  | nil => exact KoM.ev.trans KoM.dn
  | cons u U' =>
    cases u with
    | inr k =>
      obtain ⟨k, own⟩ := k
      exact ((KoM.ev.trans KoM.yc).trans KoM.su).trans KoM.ev
    | inl f =>
      obtain ⟨c', j', a', lo', st'⟩ := f
      exact KoM.ev.trans KoM.su
theorem KoM.act : KoM t s (doS W t s c j a lo st U i q) := doS_ind (P := fun s' => KoM t s s') (fun s' f hq => KoM.trans (KoM.of hq.1.2.2) KoM.su) (fun f ru => KoM.fail) (fun r => KoM.unwd _ _ _) (fun o v => KoM.leave) (fun V c' j' args => KoM.enter)
theorem KoM.first : KoM t s (firstS br W t s) := by
  unfold firstS
  cases fMth br W (zL s) (lCa (zN s t)).1 (lCa (zN s t)).2.1 52 (fun _ => false) with
  | mk y L =>
    have h0 : KoM t s (yL s L) := KoM.of rfl
    cases y with
    | inl e => exact h0.trans KoM.fail
    | inr q =>
      have hm := KoM.must (br := br) (W := W) (t := t) (s := yL s L) (k := q.1)
      dsimp only
      generalize mustS br W t (yL s L) q.1 = mr at hm
      obtain ⟨r0, e, s1⟩ := mr
      have hm : KoM t (yL s L) s1 := hm
      match r0 with
      | 0 => exact (h0.trans hm).trans KoM.enter
      | 1 => exact h0.trans hm
      | 2 => exact (h0.trans hm).trans KoM.fail
      | n + 3 => exact h0.trans hm
theorem KoM.startg : KoM t s (startG W t s k U) := by
  unfold startG
  split
  · exact KoM.su.trans KoM.enter
  · exact (KoM.yc.trans KoM.su).trans KoM.ev
theorem KoM.start {own : Bool} : KoM t s (startS br W t s k own U) := by
  unfold startS
  split
  · split
    · exact KoM.rf
    · rename_i p _
      have hm := KoM.must (br := br) (W := W) (t := t) (s := s) (k := p)
      generalize mustS br W t s p = mr at hm
      obtain ⟨r0, e, s1⟩ := mr
      have hm : KoM t s s1 := hm
      match r0 with
      | 0 => exact hm.trans KoM.startg
      | 1 => exact hm
      | 2 => exact hm.trans KoM.fail
      | n + 3 => exact hm
  · exact KoM.startg
theorem KoM.ins : KoM t s (insS br W t s c j a lo st U) := by
  unfold insS
  dsimp only
  generalize gin (co (gmt (gc W c) j)) a = i
  split
  · exact KoM.wt
  generalize (if i.1 = 54 ∨ i.1 = 55 then ((.inr (0, 0), zL s) : FR) else fIns br W (zL s) c (gmt (gc W c) j) i) = fr
  obtain ⟨y, L⟩ := fr
  have h0 : KoM t s (yL s L) := KoM.of rfl
  cases y with
  | inl e => exact (h0.trans KoM.tk).trans KoM.fail
  | inr q =>
    dsimp only
    split
    · have hm := KoM.must (br := br) (W := W) (t := t) (s := yL s L) (k := q.1)
      generalize mustS br W t (yL s L) q.1 = mr at hm
      obtain ⟨r0, e, s1⟩ := mr
      have hm : KoM t (yL s L) s1 := hm
      match r0 with
      | 0 => exact ((h0.trans hm).trans KoM.tk).trans KoM.act
      | 1 => exact (h0.trans hm)
      | 2 => exact ((h0.trans hm).trans KoM.tk).trans KoM.fail
      | n + 3 => exact (h0.trans hm)
    · exact (h0.trans KoM.tk).trans KoM.act
theorem KoM.adv : KoM t s (advS br W t s) := by
  unfold advS
  cases gU s t with
  | nil => exact KoM.first
  | cons u U =>
    cases u with
    | inr k =>
      obtain ⟨k, own⟩ := k
      exact KoM.start
    | inl f =>
      obtain ⟨c, j, a, lo, st⟩ := f
      exact KoM.ins
end
section
variable {A : List Nm} {W : List Cls} {br : Int32} {K t : Nat} {s s1 : Ms}
theorem turnS_in (h : turnS s = some (t, s1)) : ∃ x, s1 = yT s x := by
  unfold turnS at h
  split at h
  · cases h; exact ⟨zT s, rfl⟩
  split at h
  · cases h; exact ⟨_, rfl⟩
  split at h
  · cases h; exact ⟨_, rfl⟩
  split at h
  · cases h; exact ⟨_, rfl⟩
  · cases h
/-- over turns -/
theorem gow_inv (hW : WO W) (h12 : W12 W) : ∀ f n s, GI W K s → zK s + n + K + 300 < 1000000 → EvA s → NTs s → EvA (gowS br W f n s).2 ∧ NTs (gowS br W f n s).2
  | 0, n, s, _, _, h1, h2 => ⟨h1, h2⟩
  | f + 1, 0, s, _, _, h1, h2 => ⟨h1, h2⟩
  | f + 1, n + 1, s, hG, hb, h1, h2 => by
    cases e : turnS s with
    | none =>
      have eg : gowS br W (f + 1) (n + 1) s = (false, s) := by
        show (match turnS s with | none => (false, s) | some (t, s1) => _) = _
        rw [e]
      rw [eg]; exact ⟨h1, h2⟩
    | some p =>
      obtain ⟨t, s1⟩ := p
      have eg : gowS br W (f + 1) (n + 1) s = gowS br W f (if zK s1 < zK (turnA br W t s1) then n else n + 1) (turnA br W t s1) := by
        show (match turnS s with | none => (false, s) | some (t, s1) => _) = _
        rw [e]
      rw [eg]
      obtain ⟨hok, hG2, hstep⟩ := turn_ok (br := br) hW hG (by omega) e
      obtain ⟨⟨ht, hon, hw0⟩, hM, ⟨eF, eK, eK1⟩, -, -, -⟩ := hG.beg e
      obtain ⟨x, ex⟩ := turnS_in e
      subst ex
      have hkq := Kq.adv (br := br) (W := W) (t := t) (s := sWt (yT s x) t none)
      have hko := KoM.adv (br := br) (W := W) (t := t) (s := sWt (yT s x) t none)
      have a1 : EvA (turnA br W t (yT s x)) := EvA.adv (br := br) h12 (s := sWt (yT s x) t none) h1 hM
      have a2 : NTs (turnA br W t (yT s x)) := fun t' ht' hp => by
        by_cases et : t' = t
        · subst et
          have hp : (zN (advS br W t' (sWt (yT s x) t' none)) t').1 = false := hp
          have hko : (zN (advS br W t' (sWt (yT s x) t' none)) t').1 = (zN (sWt (yT s x) t' none) t').1 := hko
          rw [hko] at hp
          have eN : zN (sWt (yT s x) t' none) t' = qW (zN s t') none := up1_s
          rw [eN] at hp hon
          have := (h2 t' ht' hp).1.1
          have hon : lSt (zN s t') = 1 := hon
          omega
        · have eN : zN (turnA br W t (yT s x)) t' = zN s t' := (hkq.2.1 t' et).trans (up1_o et)
          have := h2 t' ht'
          show (lSt (zN (turnA br W t (yT s x)) t') = 0 ∧ lSp (zN (turnA br W t (yT s x)) t') = 0) ∧ lRs (zN (turnA br W t (yT s x)) t') = (0, 0, -2, 0) ∧ lU (zN (turnA br W t (yT s x)) t') = []
          rw [eN] at hp ⊢
          exact this hp
      refine gow_inv hW h12 f _ _ hG2 ?_ a1 a2
      by_cases cs : zK (yT s x) < zK (turnA br W t (yT s x))
      · rw [if_pos cs]
        rcases hstep with z | z <;> omega
      · rw [if_neg cs]
        rcases hstep with z | z
        · omega
        · exact absurd (show zK s < zK (turnA br W t (yT s x)) by omega) cs
end
def trcO (s : Ms) (a b : Int32) : Int32 := if a < 0 ∨ b < 0 ∨ 4 < b then -1 else if Int32.ofNat (zE s).length ≤ a then -2
  else if b = 0 then Int32.ofNat ((zE s).getD a.toNatClampNeg (0, 0, 0, none, 0)).1 else if b = 1 then Int32.ofNat ((zE s).getD a.toNatClampNeg (0, 0, 0, none, 0)).2.1
  else if b = 2 then Int32.ofNat ((zE s).getD a.toNatClampNeg (0, 0, 0, none, 0)).2.2.1 else if b = 3 then oJ ((zE s).getD a.toNatClampNeg (0, 0, 0, none, 0)).2.2.2.1
  else Int32.ofNat ((zE s).getD a.toNatClampNeg (0, 0, 0, none, 0)).2.2.2.2
theorem idx_lt {a : Int32} {n : Nat} (hn : n < 2147483648) (h0 : ¬ a < 0) (h1 : ¬ Int32.ofNat n ≤ a) : a.toNatClampNeg < n := by
  have h1 := Int32.not_le.mp h1
  rw [← tnc_oN h0] at h1
  exact (oN_lt (tnc_lt _) hn).mp h1
section
variable {A : List Nm} {W : List Cls} {k C B F K : Nat} {br a b : Int32} {nq nk np nh nr : Nat} {s : Ms} {M M' : Mem} {Q : Int32 → Mem → Prop} {on : Nat → Bool}
theorem c_trace (hk : k < 3) (hOn : cOn on M) (hon : on k = true) (hE : (zE s).length ≤ 400) (h : RA A W (k + 1) br nq nk np nh nr C B F s M) (hQ : Q (trcO s a b) M) : w_Works_trace 0 (Int32.ofNat k) a b Q M := by
  unfold w_Works_trace
  refine c_isWorld hOn (fun j hj e _ _ => ?_) (fun q => by rw [wOf_k hk, hon] at q; cases q)
  refine itn (by decide) ?_
  unfold trcO at hQ
  by_cases c0 : a < 0
  · rw [if_pos (Or.inl c0)] at hQ
    exact itp c0 hQ
  refine itn c0 ?_
  unfold w_Works_isIn
  by_cases c1 : b < 0
  · rw [if_pos (Or.inr (Or.inl c1))] at hQ
    exact itp c1 (itp rfl hQ)
  refine itn c1 ?_
  by_cases c2 : 4 < b
  · rw [if_pos (Or.inr (Or.inr c2))] at hQ
    exact itp c2 (itp rfl hQ)
  rw [if_neg (fun z => z.elim c0 (fun z => z.elim c1 c2))] at hQ
  obtain ⟨a1, a2⟩ := hOn.at hk hon
  obtain ⟨l87, e29, e87⟩ := h.2.2.2.1.1
  refine itn c2 (itn (by decide) ⟨a1, k + 1, a2, ?_⟩)
  rw [e29]
  by_cases c3 : Int32.ofNat (zE s).length ≤ a
  · rw [if_pos c3] at hQ
    exact itp c3 hQ
  rw [if_neg c3] at hQ
  refine itn c3 ?_
  have hi := idx_lt (by omega) c0 c3
  have ea := (tnc_oN c0).symm
  obtain ⟨n, hn, en, -⟩ := i61 (m := 4) (by decide) c1 c2
  generalize a.toNatClampNeg = i at hi ea hQ
  subst ea
  subst en
  obtain ⟨x0, x1, x2, x3, x4⟩ := e87 i hi
  rw [show (5 : Int32) * Int32.ofNat i = Int32.ofNat (5 * i) from oN_mul 5 _, oN_add, oN_tnc (k := 5 * i + n) (by omega), l87]
  refine ⟨(vp_oN (by omega)).mpr (by omega), ?_⟩
  have hh : n = 0 ∨ n = 1 ∨ n = 2 ∨ n = 3 ∨ n = 4 := by omega
  rcases hh with z | z | z | z | z <;> subst z
  · rw [if_pos (by decide)] at hQ; rw [show 5 * i + 0 = 5 * i from rfl, x0]; exact hQ
  · rw [if_neg (by decide), if_pos (by decide)] at hQ; rw [x1]; exact hQ
  · rw [if_neg (by decide), if_neg (by decide), if_pos (by decide)] at hQ; rw [x2]; exact hQ
  · rw [if_neg (by decide), if_neg (by decide), if_neg (by decide), if_pos (by decide)] at hQ; rw [x3]; exact hQ
  · rw [if_neg (by decide), if_neg (by decide), if_neg (by decide), if_neg (by decide)] at hQ; rw [x4]; exact hQ
end
section
variable {G : List Sl} {US : UST} {A : List Nm} {S : List Sg} {W : List Cls} {k C B F K ud t : Nat} {br a b x : Int32} {nq nl nf nk : Nat} {s : Ms} {M M' : Mem} {Q : Int32 → Mem → Prop} {on : Nat → Bool}
theorem ct_trace (hk : k < 3) (hOn : tOn on M) (hon : on k = true) (hE : (zE s).length ≤ 400) (hEv : EvA s) (h : TAx G US A S W k br nq nl nf nk B F x s M) (hQ : Q (trcO s a b) M) : w_Model_trace 0 (Int32.ofNat k) a b Q M := by
  unfold w_Model_trace
  refine ct_isWorld hOn (fun j hj e _ _ => ?_) (fun q => by rw [wOf_k hk, hon] at q; cases q)
  refine itn (by decide) ?_
  unfold trcO at hQ
  by_cases c0 : a < 0
  · rw [if_pos (Or.inl c0)] at hQ
    exact itp c0 hQ
  refine itn c0 ?_
  by_cases c1 : b < 0
  · rw [if_pos (Or.inr (Or.inl c1))] at hQ
    exact itp c1 hQ
  refine itn c1 ?_
  by_cases c2 : 4 < b
  · rw [if_pos (Or.inr (Or.inr c2))] at hQ
    exact itn (Int32.not_le.mpr c2) hQ
  rw [if_neg (fun z => z.elim c0 (fun z => z.elim c1 c2))] at hQ
  obtain ⟨a1, a2⟩ := hOn.at hk
  obtain ⟨⟨l5, l6, l7, l8⟩, e70, eE⟩ := h.2.2.2.1.1
  have l5 : mL M 165 k = 400 := l5
  have l6 : mL M 166 k = 400 := l6
  have l7 : mL M 167 k = 400 := l7
  have l8 : mL M 168 k = 400 := l8
  have e70 : mI M 12 k 70 = Int32.ofNat (zE s).length := e70
  refine itp (Int32.not_lt.mp c2) ⟨a1, k, a2, ?_⟩
  rw [e70]
  by_cases c3 : Int32.ofNat (zE s).length ≤ a
  · rw [if_pos c3] at hQ
    exact itn (Int32.not_lt.mpr c3) hQ
  rw [if_neg c3] at hQ
  refine itp (Int32.not_le.mp c3) ?_
  have hi := idx_lt (by omega) c0 c3
  have ea := (tnc_oN c0).symm
  obtain ⟨n, hn, en, -⟩ := i61 (m := 4) (by decide) c1 c2
  generalize a.toNatClampNeg = i at hi ea hQ
  subst ea
  subst en
  obtain ⟨x0, x1, x2, x4⟩ := eE i hi
  have x0 : mI M 165 k i = Int32.ofNat ((zE s).getD i (0, 0, 0, none, 0)).1 := x0
  have x1 : mI M 166 k i = Int32.ofNat ((zE s).getD i (0, 0, 0, none, 0)).2.1 := x1
  have x2 : mI M 167 k i = oJt ((zE s).getD i (0, 0, 0, none, 0)).2.2.1 ((zE s).getD i (0, 0, 0, none, 0)).2.2.2.1 := x2
  have x4 : mI M 168 k i = Int32.ofNat ((zE s).getD i (0, 0, 0, none, 0)).2.2.2.2 := x4
  have hev : evOk ((zE s).getD i (0, 0, 0, none, 0)) := hEv _ (getD_mem hi)
  have vv : ∀ {m : Nat}, m = 400 → vp_in (Int32.ofNat i) m := fun e => by rw [e]; exact (vp_oN (by omega)).mpr (by omega)
  generalize (zE s).getD i (0, 0, 0, none, 0) = e at x0 x1 x2 x4 hQ hev
  obtain ⟨e1, e2, e3, e4, e5⟩ := e
  obtain ⟨h3, h4⟩ := hev
  dsimp only at x0 x1 x2 x4 hQ h3 h4
  refine ⟨vv l7, ?_⟩
  have hh : n = 0 ∨ n = 1 ∨ n = 2 ∨ n = 3 ∨ n = 4 := by omega
  rcases hh with z | z | z | z | z <;> subst z
  · rw [if_pos (by decide)] at hQ
    exact itp rfl ⟨vv l5, by rw [x0]; exact hQ⟩
  · rw [if_neg (by decide), if_pos (by decide)] at hQ
    exact itn (by decide) (itp rfl ⟨vv l6, by rw [x1]; exact hQ⟩)
  · rw [if_neg (by decide), if_neg (by decide), if_pos (by decide)] at hQ
    cases e4 with
    | none =>
      obtain ⟨n1, n2⟩ := neg1 (k := e3) (by omega)
      have x2 : mI M 167 k i = (-1 : Int32) - Int32.ofNat e3 := x2
      generalize (-1 : Int32) - Int32.ofNat e3 = z at n1 n2 x2
      rw [x2, n2]
      exact itn (by decide) (itn (by decide) (itp rfl (itn (Int32.not_le.mpr n1) hQ)))
    | some j =>
      rw [x2]
      have hj := h4 j rfl
      refine itn (by decide) (itn (by decide) (itp rfl (itp (oN_zero_le (show 12 * e3 + j < 2147483648 by omega)) ⟨by decide, ?_⟩)))
      show Q (Int32.ofNat (12 * e3 + j) / 12) M
      rw [show (12 : Int32) = Int32.ofNat 12 from rfl, oN_div (by omega) (by omega), show (12 * e3 + j) / 12 = e3 by omega]
      exact hQ
  · rw [if_neg (by decide), if_neg (by decide), if_neg (by decide), if_pos (by decide)] at hQ
    cases e4 with
    | none =>
      obtain ⟨n1, n2⟩ := neg1 (k := e3) (by omega)
      have x2 : mI M 167 k i = (-1 : Int32) - Int32.ofNat e3 := x2
      generalize (-1 : Int32) - Int32.ofNat e3 = z at n1 n2 x2
      rw [x2]
      exact itn (by decide) (itn (by decide) (itn (by decide) (itp rfl (itn (Int32.not_le.mpr n1) hQ))))
    | some j =>
      rw [x2]
      have hj := h4 j rfl
      refine itn (by decide) (itn (by decide) (itn (by decide) (itp rfl (itp (oN_zero_le (show 12 * e3 + j < 2147483648 by omega)) ⟨by decide, ?_⟩))))
      show Q (Int32.ofNat (12 * e3 + j) - Int32.ofNat (12 * e3 + j) / 12 * 12) M
      rw [show (12 : Int32) = Int32.ofNat 12 from rfl, oN_mod (by omega) (by omega), show (12 * e3 + j) % 12 = j by omega]
      exact hQ
  · rw [if_neg (by decide), if_neg (by decide), if_neg (by decide), if_neg (by decide)] at hQ
    exact itn (by decide) (itn (by decide) (itn (by decide) (itn (by decide) ⟨vv l8, by rw [x4]; exact hQ⟩)))
end
