/-! codes of linking tell rules and nothing beyond the classes is linked, over turns (turned from j37) -/
def LN (W : List Cls) (L : LkS) : Prop := LG L ∧ ∀ c, W.length ≤ c → L.1 c = 0
def LgP (W : List Cls) (s s' : Ms) : Prop := LN W (zL s) → LN W (zL s')
section
variable {br : Int32} {W : List Cls} {s s' s2 : Ms} {t c j a k : Nat} {lo st : List Vl} {U V : List Un} {q : Nat × Nat} {i : Ins}
theorem lkN_ln {L : LkS} (hk : k < W.length) (h : LN W L) : LN W (lkN br W 60 L k).2 := ⟨(lkN_rl 60 L k h.1).2, fun e he => by
  rw [lkN_far 60 L k e (fun r => by
    have := Reach.clo (V := fun d => d < W.length) (fun a b ha hab => edge_lt ha hab) r hk
    have : e < W.length := this
    omega)]
  exact h.2 e he⟩
theorem lkd_ln {L : LkS} {nm : Nm} (h : LN W L) : LN W (lkd br W L nm).2 := by
  unfold lkd
  cases e : fnd W nm with
  | none => exact h
  | some c =>
    have := lkN_ln (br := br) (fnd_lt e) h
    dsimp only
    split <;> exact this
theorem fIns_ln {L : LkS} {x : Mth} (hB : LB L) (h51 : W.length ≤ 51) (h : LN W L) : LN W (fIns br W L c x i).2 := by
  unfold fIns
  split
  · exact h
  split
  · have := lkd_ln (br := br) (nm := iK i) h
    revert this
    cases lkd br W L (iK i) with
    | mk y L' =>
      intro this
      cases y with
      | inl e => exact this
      | inr d =>
        dsimp only
        split <;> exact this
  split
  · rw [(fFld_ok hB h51).2]; exact lkd_ln h
  split
  · rw [(fMth_ok hB h51).2]; exact lkd_ln h
  · exact h
theorem upW_lt2 {p : Nat} (hf : isFc W k = false) (e : upW W k = some p) : p < W.length := by
  unfold upW at e
  by_cases c0 : k = 0
  · rw [if_pos c0] at e; cases e
  · rw [if_neg c0, hf, if_neg (by decide)] at e; exact fnd_lt e
theorem LgP.of (e : zL s' = zL s) : LgP W s s' := fun h => by rw [e]; exact h
theorem LgP.trans (h : LgP W s s') (h2 : LgP W s' s2) : LgP W s s2 := fun z => h2 (h z)
theorem LgP.ev {w' k' : Nat} {m : Option Nat} : LgP W s (evS s t w' k' m) := LgP.of (ev_all (s := s) (t := t) (w' := w') (k' := k') (m := m)).1
theorem LgP.su : LgP W s (sU s t V) := LgP.of rfl
theorem LgP.wt {x : Option (Int32 ⊕ Nat)} : LgP W s (sWt s t x) := LgP.of rfl
theorem LgP.tk {op : Nat} : LgP W s (tickS s t op) := LgP.of rfl
theorem LgP.yc {f : Nat → Int32} : LgP W s (yC s f) := LgP.of rfl
theorem LgP.ft {f : Nat} {ru : Int32} : LgP W s (addFt s f ru) := LgP.of rfl
theorem LgP.unwd : ∀ (U : List Un) (r : Int32) (s : Ms), LgP W s (unw W t U r s)
  | [], r, s => LgP.of rfl
  | .inr (k, own) :: U, r, s => by
    unfold unw
    by_cases c1 : own = true ∧ bel W (clN s r) 10 = false
    · rw [if_pos c1]; exact ((LgP.yc.trans LgP.ev).trans LgP.ft).trans (LgP.unwd U _ _)
    · rw [if_neg c1]; exact (LgP.yc.trans LgP.ev).trans (LgP.unwd U _ _)
  | .inl (c, j, a, lo, st) :: U, r, s => by
    unfold unw
    cases ec : catH W a (clN s r) (hs (gmt (gc W c) j)) with
    | none => exact LgP.ev.trans (LgP.unwd U _ _)
    | some g => exact LgP.su.trans LgP.ev
theorem LgP.fail {f : Nat} {ru : Int32} : LgP W s (failS W t s f ru) := LgP.ft.trans (LgP.unwd _ _ _)
theorem LgP.enter {c' j' : Nat} {args : List Vl} : LgP W s (enterS W t s V c' j' args) := by
  unfold enterS
  split
  · exact LgP.fail
  · exact LgP.su.trans LgP.ev
theorem LgP.begs : LgP W s (begS W t s k) := by
  unfold begS
  exact LgP.trans (s' := evS (yB (yO (yC s (up1 (zC s) k 1)) (up1 (zO s) k (Int32.ofNat t))) (zB s ++ [k])) t 4 k none) (LgP.trans (s' := yB (yO (yC s (up1 (zC s) k 1)) (up1 (zO s) k (Int32.ofNat t))) (zB s ++ [k])) (LgP.of rfl) LgP.ev) (LgP.of rfl)
theorem LgP.must (hk : k < W.length) (h : LN W (zL s)) : LN W (zL (mustS br W t s k).2.2) := by
  have hl := lkN_ln (br := br) hk h
  unfold mustS
  split
  · exact h
  split
  · split
    · exact h
    · exact h
  split
  · exact h
  split
  · exact LgP.begs (s := yL s (lkN br W 60 (zL s) k).2) hl
  · exact hl
theorem LgP.leave {o : Nat} {v : Int32} : LgP W s (leaveS s t c j o v U) := by
  cases U with
  | nil => exact LgP.ev.trans (LgP.of rfl)
  | cons u U' =>
    cases u with
    | inr k =>
      obtain ⟨k, own⟩ := k
      exact ((LgP.ev.trans LgP.yc).trans LgP.su).trans LgP.ev
    | inl f =>
      obtain ⟨c', j', a', lo', st'⟩ := f
      exact LgP.ev.trans LgP.su
theorem LgP.wl {y n o : Int32} : LgP W s (wLock s y n o) := fun h => by
  unfold wLock
  split <;> exact h
theorem LgP.act {op : Nat} : LgP W s (doS W t (tickS s t op) c j a lo st U i q) := fun h => by
  have h1 : LN W (zL (tickS s t op)) := LgP.tk h
  exact doS_ind4 (s := tickS s t op) (P := fun s => LN W (zL s)) (R := fun s => LN W (zL s)) h1 (fun _ n ks => h1) (fun n ks => h1) (fun X => h1) (fun m v => h1) (fun y => LgP.wl h1) (fun y hy => LgP.wl h1) (fun s' f h' => LgP.su h') (fun f ru hr => LgP.fail h1) (fun r => LgP.unwd _ _ _ h1) (fun o v => LgP.leave h1) (fun V c' j' args => LgP.enter h1)
theorem LgP.first (hB : LB (zL s)) (h51 : W.length ≤ 51) : LgP W s (firstS br W t s) := fun h => by
  unfold firstS
  have hf : LN W (fMth br W (zL s) (lCa (zN s t)).1 (lCa (zN s t)).2.1 52 (fun _ => false)).2 := by
    rw [(fMth_ok hB h51).2]; exact lkd_ln h
  have hq : ∀ q L, fMth br W (zL s) (lCa (zN s t)).1 (lCa (zN s t)).2.1 52 (fun _ => false) = (.inr q, L) → q.1 < W.length := fun q L e => by
    obtain ⟨c, e1, -, e2, -⟩ := fMth_in e
    have hc := fnd_lt (lkd_in e1).1
    unfold fMth1 at e2
    split at e2
    · obtain ⟨j, -, ej⟩ := Option.map_eq_some_iff.mp e2
      rw [← ej]; exact hc
    · exact (mthW_ok hc e2).1
  revert hf hq
  cases fMth br W (zL s) (lCa (zN s t)).1 (lCa (zN s t)).2.1 52 (fun _ => false) with
  | mk y L =>
    intro hf hq
    have h0 : LN W (zL (yL s L)) := hf
    cases y with
    | inl e => exact LgP.fail h0
    | inr q =>
      have hm := LgP.must (br := br) (W := W) (t := t) (s := yL s L) (k := q.1) (hq q L rfl) h0
      dsimp only
      generalize mustS br W t (yL s L) q.1 = mr at hm
      obtain ⟨r0, e, s1⟩ := mr
      have hm1 : LN W (zL s1) := hm
      match r0 with
      | 0 => exact LgP.enter hm1
      | 1 => exact hm1
      | 2 => exact LgP.fail hm1
      | n + 3 => exact hm1
theorem LgP.startg : LgP W s (startG W t s k U) := by
  unfold startG
  split
  · exact LgP.su.trans LgP.enter
  · exact (LgP.yc.trans LgP.su).trans LgP.ev
theorem LgP.start {own : Bool} : LgP W s (startS br W t s k own U) := fun h => by
  unfold startS
  split
  · rename_i hcf
    split
    · exact h
    · rename_i p ep
      have hm := LgP.must (br := br) (W := W) (t := t) (s := s) (k := p) (upW_lt2 hcf.2 ep) h
      generalize mustS br W t s p = mr at hm
      obtain ⟨r0, e, s1⟩ := mr
      have hm1 : LN W (zL s1) := hm
      match r0 with
      | 0 => exact LgP.startg hm1
      | 1 => exact hm1
      | 2 => exact LgP.fail hm1
      | n + 3 => exact hm1
  · exact LgP.startg h
theorem LgP.ins (hB : LB (zL s)) (h51 : W.length ≤ 51) : LgP W s (insS br W t s c j a lo st U) := fun h => by
  unfold insS
  dsimp only
  generalize hi : gin (co (gmt (gc W c) j)) a = i
  split
  · exact LgP.wt h
  have hf : ∀ fr, (if i.1 = 54 ∨ i.1 = 55 then ((.inr (0, 0), zL s) : FR) else fIns br W (zL s) c (gmt (gc W c) j) i) = fr → LN W fr.2 ∧ ∀ q, fr.1 = .inr q → strt i.1 → q.1 < W.length := by
    intro fr e
    by_cases c5 : i.1 = 54 ∨ i.1 = 55
    · rw [if_pos c5] at e
      subst e
      exact ⟨h, fun q _ z => by unfold strt at z; omega⟩
    · rw [if_neg c5] at e
      have := fIns_ln (br := br) (c := c) (x := gmt (gc W c) j) (i := i) hB h51 h
      rw [e] at this
      refine ⟨this, fun q z hs => ?_⟩
      obtain ⟨y, L⟩ := fr
      have z : y = .inr q := z
      subst z
      have hq := fIns_lt e
      unfold strt at hs
      rcases hs with hs | hs | hs | hs
      · exact hq.1 hs
      · exact (hq.2.1 (by unfold isFo; omega)).1
      · exact (hq.2.1 (by unfold isFo; omega)).1
      · exact (hq.2.2 (by unfold isMo; omega)).1
  generalize (if i.1 = 54 ∨ i.1 = 55 then ((.inr (0, 0), zL s) : FR) else fIns br W (zL s) c (gmt (gc W c) j) i) = fr at hf
  obtain ⟨hf2, hf3⟩ := hf fr rfl
  obtain ⟨y, L⟩ := fr
  have h0 : LN W (zL (yL s L)) := hf2
  cases y with
  | inl e => exact LgP.fail (LgP.tk h0)
  | inr q =>
    dsimp only
    split
    · rename_i hst
      have hm := LgP.must (br := br) (W := W) (t := t) (s := yL s L) (k := q.1) (hf3 q rfl hst) h0
      generalize mustS br W t (yL s L) q.1 = mr at hm
      obtain ⟨r0, e, s1⟩ := mr
      have hm1 : LN W (zL s1) := hm
      match r0 with
      | 0 => exact LgP.act hm1
      | 1 => exact hm1
      | 2 => exact LgP.fail (LgP.tk hm1)
      | n + 3 => exact hm1
    · exact LgP.act h0
theorem LgP.adv (hB : LB (zL s)) (h51 : W.length ≤ 51) : LgP W s (advS br W t s) := by
  unfold advS
  cases gU s t with
  | nil => exact LgP.first hB h51
  | cons u U =>
    cases u with
    | inr k =>
      obtain ⟨k, own⟩ := k
      exact LgP.start
    | inl f =>
      obtain ⟨c, j, a, lo, st⟩ := f
      exact LgP.ins hB h51
end
section
variable {W : List Cls} {br : Int32} {K t : Nat} {s s1 : Ms}
theorem LgP.turn (hB : LB (zL s)) (h51 : W.length ≤ 51) (e : turnS s = some (t, s1)) (h : LN W (zL s)) : LN W (zL (turnA br W t s1)) := by
  obtain ⟨x, ex⟩ := turnS_in e
  subst ex
  exact LgP.of (s := advS br W t (sWt (yT s x) t none)) rfl (LgP.adv (br := br) (W := W) (t := t) (s := sWt (yT s x) t none) hB h51 h)
theorem gow_lg (hW : WO W) {f n : Nat} (hG : GI W K s) (hb : zK s + n + K + 300 < 1000000) (h : LN W (zL s)) : LN W (zL (gowS br W f n s).2) := gow_ind (P := fun s => LN W (zL s)) hW (fun s t s1 g _ e h => LgP.turn g.1.1.1.1.2.1 hW.2.2.2 e h) f n s hG hb h
end
