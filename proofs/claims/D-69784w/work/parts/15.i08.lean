/-! SPEC: the cells of what is there, and who waits has the thing at hand (printed by gen/cs.py) -/
/-- how many cells the things below n have -/
def szS (P : Nat → Bool) (O : Nat → Ob) : Nat → Nat
  | 0 => 0
  | n + 1 => szS P O n + (if P n = true then (O n).2.2.1 else 0)
def SzN (s : Ms) : Prop := szS (thr s) (gOb s) 801 ≤ (zH s).2.1
def SzP (s s' : Ms) : Prop := SzN s → SzN s'
theorem szS_eq {P P' : Nat → Bool} {O O' : Nat → Ob} : ∀ n, (∀ r, r < n → P' r = P r) → (∀ r, r < n → P r = true → (O' r).2.2.1 = (O r).2.2.1) → szS P' O' n = szS P O n
  | 0, _, _ => rfl
  | n + 1, h1, h2 => by
    unfold szS
    rw [szS_eq n (fun r hr => h1 r (by omega)) (fun r hr => h2 r (by omega)), h1 n (by omega)]
    by_cases c : P n = true
    · rw [if_pos c, if_pos c, h2 n (by omega) c]
    · rw [if_neg c, if_neg c]
theorem szS_up {P : Nat → Bool} {O : Nat → Ob} {r : Nat} {x : Ob} (hr : P r = false) : ∀ n, szS (up1 P r true) (up1 O r x) n = szS P O n + (if r < n then x.2.2.1 else 0)
  | 0 => rfl
  | n + 1 => by
    unfold szS
    rw [szS_up hr n]
    by_cases e : n = r
    · subst e
      rw [up1_s, up1_s, if_pos rfl, if_neg (Nat.lt_irrefl n), hr, if_neg (show ¬ (false = true) by decide), if_pos (Nat.lt_succ_self n)]
    · rw [up1_o e, up1_o e]
      by_cases c : r < n
      · rw [if_pos c, if_pos (show r < n + 1 by omega)]; omega
      · rw [if_neg c, if_neg (show ¬ r < n + 1 by omega), Nat.add_zero, Nat.add_zero]
theorem lfr_lt {P : Nat → Bool} : ∀ n r, lfr P n r < r + n → P (lfr P n r) = false
  | 0, r, h => absurd h (by unfold lfr; omega)
  | n + 1, r, h => by
    unfold lfr at h ⊢
    by_cases c : P r = true
    · rw [if_pos c] at h ⊢; exact lfr_lt n (r + 1) (by omega)
    · rw [if_neg c]; exact Bool.eq_false_iff.2 c
section
variable {br : Int32} {W : List Cls} {s s' s2 : Ms} {t c j a k : Nat} {lo st : List Vl} {U V : List Un} {q : Nat × Nat} {i : Ins}
theorem SzP.of (e1 : thr s' = thr s) (e2 : ∀ r, (gOb s' r).2.2.1 = (gOb s r).2.2.1) (e3 : (zH s').2.1 = (zH s).2.1) : SzP s s' := fun h => by
  unfold SzN
  rw [e3, szS_eq 801 (fun r _ => congrFun e1 r) (fun r _ _ => e2 r)]
  exact h
theorem SzP.rf : SzP s s := id
theorem SzP.trans (h : SzP s s') (h2 : SzP s' s2) : SzP s s2 := fun z => h2 (h z)
theorem SzP.eq (e2 : zH s' = zH s) : SzP s s' := fun h => by unfold SzN thr gOb; rw [e2]; exact h
theorem SzP.ev {w' k' : Nat} {m : Option Nat} : SzP s (evS s t w' k' m) := SzP.eq evS_r.2.2.2.2.2.1
theorem SzP.su : SzP s (sU s t V) := SzP.eq rfl
theorem SzP.wt {x : Option (Int32 ⊕ Nat)} : SzP s (sWt s t x) := SzP.eq rfl
theorem SzP.dn {x : Nat} {r : Int32 × Int32 × Int32 × Int32} : SzP s (yN s (up1 (zN s) t (qR (zN s t) x r))) := SzP.eq rfl
theorem SzP.yc {f : Nat → Int32} : SzP s (yC s f) := SzP.eq rfl
theorem SzP.ft {f : Nat} {ru : Int32} : SzP s (addFt s f ru) := SzP.eq rfl
theorem SzN.lock {y n o : Int32} (h : SzN s) : SzN (wLock s y n o) := by
  unfold wLock
  split
  · exact SzP.eq rfl h
  · refine SzP.of (s := s) rfl (fun r => ?_) rfl h
    show (up1 (zH s).2.2.2.1 y.toNatClampNeg ((gOb s y.toNatClampNeg).1, (gOb s y.toNatClampNeg).2.1, (gOb s y.toNatClampNeg).2.2.1, n, o) r).2.2.1 = _
    by_cases c3 : r = y.toNatClampNeg
    · rw [c3, up1_s]
    · rw [up1_o c3]
theorem SzN.mk {cl : Option Nat} {n : Nat} {ks : List Kd} (h : SzN s) : SzN (mkOb s cl n ks) := by
  show szS (up1 (zH s).2.2.1 (lfree s) true) (up1 (zH s).2.2.2.1 (lfree s) (cl, (zH s).2.1, n, 0, (gOb s (lfree s)).2.2.2.2)) 801 ≤ (zH s).2.1 + n
  have h : szS (zH s).2.2.1 (zH s).2.2.2.1 801 ≤ (zH s).2.1 := h
  by_cases c : lfree s < 801
  · have hz : (zH s).2.2.1 (lfree s) = false := lfr_lt 801 1 (show lfree s < 1 + 801 by omega)
    rw [szS_up hz 801, if_pos c]
    show _ + n ≤ _
    omega
  · rw [szS_eq (P := (zH s).2.2.1) (O := (zH s).2.2.2.1) 801 (fun r hr => up1_o (by omega)) (fun r hr _ => by rw [up1_o (by omega)])]
    omega
theorem SzP.unwd : ∀ (U : List Un) (r : Int32) (s : Ms), SzP s (unw W t U r s)
  | [], r, s => SzP.dn
  | .inr (k, own) :: U, r, s => by
    unfold unw
    by_cases c1 : own = true ∧ bel W (clN s r) 10 = false
    · rw [if_pos c1]; exact ((SzP.yc.trans SzP.ev).trans SzP.ft).trans (SzP.unwd U _ _)
    · rw [if_neg c1]; exact (SzP.yc.trans SzP.ev).trans (SzP.unwd U _ _)
  | .inl (c, j, a, lo, st) :: U, r, s => by
    unfold unw
    cases ec : catH W a (clN s r) (hs (gmt (gc W c) j)) with
    | none => exact SzP.ev.trans (SzP.unwd U _ _)
    | some g => exact SzP.su.trans SzP.ev
theorem SzP.fail {f : Nat} {ru : Int32} : SzP s (failS W t s f ru) := SzP.ft.trans (SzP.unwd _ _ _)
theorem SzP.enter {c' j' : Nat} {args : List Vl} : SzP s (enterS W t s V c' j' args) := by
  unfold enterS
  split
  · exact SzP.fail
  · exact SzP.su.trans SzP.ev
theorem SzP.begs : SzP s (begS W t s k) := by
  unfold begS
  exact (SzP.trans (s' := evS (yB (yO (yC s (up1 (zC s) k 1)) (up1 (zO s) k (Int32.ofNat t))) (zB s ++ [k])) t 4 k none) (SzP.trans (s' := yB (yO (yC s (up1 (zC s) k 1)) (up1 (zO s) k (Int32.ofNat t))) (zB s ++ [k])) (SzP.eq rfl) SzP.ev) (SzP.eq rfl)).trans SzP.su
theorem SzP.must : SzP s (mustS br W t s k).2.2 := by
  unfold mustS
  split
  · exact SzP.rf
  split
  · split
    · exact SzP.rf
    · exact SzP.wt
  split
  · exact SzP.rf
  split
  · exact SzP.trans (s' := yL s (lkN br W 60 (zL s) k).2) (SzP.eq rfl) SzP.begs
  · exact SzP.eq rfl
theorem SzP.leave {o : Nat} {v : Int32} : SzP s (leaveS s t c j o v U) := by
  cases U with
  | nil => exact SzP.ev.trans SzP.dn
  | cons u U' =>
    cases u with
    | inr k =>
      obtain ⟨k, own⟩ := k
      exact ((SzP.ev.trans SzP.yc).trans SzP.su).trans SzP.ev
    | inl f =>
      obtain ⟨c', j', a', lo', st'⟩ := f
      exact SzP.ev.trans SzP.su
theorem SzP.act {op : Nat} : SzP s (doS W t (tickS s t op) c j a lo st U i q) := fun h => by
  have h1 : SzN (tickS s t op) := SzP.eq (s := s) (s' := tickS s t op) rfl h
  exact doS_ind2 (s := tickS s t op) (P := SzN) (R := SzN) h1 (fun cl n ks => h1.mk) (fun X => SzP.eq rfl h1) (fun m v => SzP.of (s := tickS s t op) rfl (fun r => rfl) rfl h1) (fun y => h1.lock) (fun y hy => h1.lock) (fun s' f h' => SzP.su h') (fun f ru => SzP.fail h1) (fun r => SzP.unwd _ _ _ h1) (fun o v => SzP.leave h1) (fun V c' j' args => SzP.enter h1)
theorem SzP.tk {op : Nat} : SzP s (tickS s t op) := SzP.eq rfl
theorem SzP.first : SzP s (firstS br W t s) := by
  unfold firstS
  cases fMth br W (zL s) (lCa (zN s t)).1 (lCa (zN s t)).2.1 52 (fun _ => false) with
  | mk y L =>
    have h0 : SzP s (yL s L) := SzP.eq rfl
    cases y with
    | inl e => exact h0.trans SzP.fail
    | inr q =>
      have hm := SzP.must (br := br) (W := W) (t := t) (s := yL s L) (k := q.1)
      dsimp only
      generalize mustS br W t (yL s L) q.1 = mr at hm
      obtain ⟨r0, e, s1⟩ := mr
      have hm : SzP (yL s L) s1 := hm
      match r0 with
      | 0 => exact (h0.trans hm).trans SzP.enter
      | 1 => exact h0.trans hm
      | 2 => exact (h0.trans hm).trans SzP.fail
      | n + 3 => exact h0.trans hm
theorem SzP.startg : SzP s (startG W t s k U) := by
  unfold startG
  split
  · exact SzP.su.trans SzP.enter
  · exact (SzP.yc.trans SzP.su).trans SzP.ev
theorem SzP.start {own : Bool} : SzP s (startS br W t s k own U) := by
  unfold startS
  split
  · split
    · exact SzP.rf
    · rename_i p _
      have hm := SzP.must (br := br) (W := W) (t := t) (s := s) (k := p)
      generalize mustS br W t s p = mr at hm
      obtain ⟨r0, e, s1⟩ := mr
      have hm : SzP s s1 := hm
      match r0 with
      | 0 => exact hm.trans SzP.startg
      | 1 => exact hm
      | 2 => exact hm.trans SzP.fail
      | n + 3 => exact hm
  · exact SzP.startg
theorem SzP.ins : SzP s (insS br W t s c j a lo st U) := by
  unfold insS
  dsimp only
  generalize gin (co (gmt (gc W c) j)) a = i
  split
  · exact SzP.wt
  generalize (if i.1 = 54 ∨ i.1 = 55 then ((.inr (0, 0), zL s) : FR) else fIns br W (zL s) c (gmt (gc W c) j) i) = fr
  obtain ⟨y, L⟩ := fr
  have h0 : SzP s (yL s L) := SzP.eq rfl
  cases y with
  | inl e => exact (h0.trans SzP.tk).trans SzP.fail
  | inr q =>
    dsimp only
    split
    · have hm := SzP.must (br := br) (W := W) (t := t) (s := yL s L) (k := q.1)
      generalize mustS br W t (yL s L) q.1 = mr at hm
      obtain ⟨r0, e, s1⟩ := mr
      have hm : SzP (yL s L) s1 := hm
      match r0 with
      | 0 => exact (h0.trans hm).trans SzP.act
      | 1 => exact (h0.trans hm)
      | 2 => exact ((h0.trans hm).trans SzP.tk).trans SzP.fail
      | n + 3 => exact (h0.trans hm)
    · exact h0.trans SzP.act
theorem SzP.adv : SzP s (advS br W t s) := by
  unfold advS
  cases gU s t with
  | nil => exact SzP.first
  | cons u U =>
    cases u with
    | inr k =>
      obtain ⟨k, own⟩ := k
      exact SzP.start
    | inl f =>
      obtain ⟨c, j, a, lo, st⟩ := f
      exact SzP.ins
/-- who waits for a thing has it on top of the stack -/
def WtX (t : Nat) (s : Ms) : Prop := ∀ r, lWt (zN s t) = some (.inl r) → ∃ f V, gU s t = .inl f :: V ∧ 0 < f.2.2.2.2.length ∧ tv f.2.2.2.2 0 = (r, true)
theorem KwY.must : ((mustS br W t s k).1 = 3 ∧ WtX t (mustS br W t s k).2.2) ∨ ((mustS br W t s k).1 < 3 ∧ KwM t s (mustS br W t s k).2.2) := by
  unfold mustS
  split
  · exact Or.inr ⟨by dsimp only; decide, KwM.rf⟩
  split
  · rename_i c1
    split
    · exact Or.inr ⟨by dsimp only; decide, KwM.rf⟩
    · rename_i c2
      refine Or.inl ⟨rfl, fun r hr => ?_⟩
      have hr : lWt (up1 (zN s) t (qW (zN s t) (some (.inr k))) t) = some (.inl r) := hr
      rw [up1_s] at hr
      cases hr
  split
  · exact Or.inr ⟨by dsimp only; decide, KwM.rf⟩
  split
  · exact Or.inr ⟨by dsimp only; decide, KwM.trans (s' := yL s (lkN br W 60 (zL s) k).2) (KwM.of rfl) KwM.begs⟩
  · exact Or.inr ⟨by dsimp only; decide, KwM.of rfl⟩
def KwY (t : Nat) (s s' : Ms) : Prop := KwM t s s' ∨ WtX t s'
theorem KwY.first : KwY t s (firstS br W t s) := by
  unfold firstS
  cases fMth br W (zL s) (lCa (zN s t)).1 (lCa (zN s t)).2.1 52 (fun _ => false) with
  | mk y L =>
    have h0 : KwM t s (yL s L) := KwM.of rfl
    cases y with
    | inl e => exact Or.inl (h0.trans KwM.fail)
    | inr q =>
      have hm := KwY.must (br := br) (W := W) (t := t) (s := yL s L) (k := q.1)
      dsimp only
      generalize mustS br W t (yL s L) q.1 = mr at hm
      obtain ⟨r0, e, s1⟩ := mr
      dsimp only at hm
      rcases hm with ⟨h3, hw⟩ | ⟨h3, hm⟩
      · subst h3; exact Or.inr hw
      · match r0, h3 with
        | 0, _ => exact Or.inl ((h0.trans hm).trans KwM.enter)
        | 1, _ => exact Or.inl (h0.trans hm)
        | 2, _ => exact Or.inl ((h0.trans hm).trans KwM.fail)
        | n + 3, h3 => exact absurd h3 (by omega)
theorem KwY.start {own : Bool} : KwY t s (startS br W t s k own U) := by
  unfold startS
  split
  · split
    · exact Or.inl KwM.rf
    · rename_i p _
      have hm := KwY.must (br := br) (W := W) (t := t) (s := s) (k := p)
      generalize mustS br W t s p = mr at hm
      obtain ⟨r0, e, s1⟩ := mr
      dsimp only at hm
      rcases hm with ⟨h3, hw⟩ | ⟨h3, hm⟩
      · subst h3; exact Or.inr hw
      · match r0, h3 with
        | 0, _ => exact Or.inl (hm.trans KwM.startg)
        | 1, _ => exact Or.inl hm
        | 2, _ => exact Or.inl (hm.trans KwM.fail)
        | n + 3, h3 => exact absurd h3 (by omega)
  · exact Or.inl KwM.startg
theorem KwY.ins (hW : WO W) (hM : MO W s t none (.inl (c, j, a, lo, st) :: U)) (hg : gU s t = .inl (c, j, a, lo, st) :: U) (hon : lSt (zN s t) = 1) (hF : (zF s).length + U.length + 3 < 1000000) : KwY t s (insS br W t s c j a lo st U) := by
  unfold insS
  dsimp only
  generalize hi : gin (co (gmt (gc W c) j)) a = i
  have hA : At W s t c j a lo st U i := ⟨⟨hW, hM, hon⟩, hg, hi.symm, hF⟩
  split
  · rename_i c1
    refine Or.inr (fun r hr => ?_)
    have hr : lWt (up1 (zN s) t (qW (zN s t) (some (.inl (tv st 0).1))) t) = some (.inl r) := hr
    rw [up1_s] at hr
    obtain ⟨tl, tk⟩ := hA.tk (ws := [wRef]) (by obtain ⟨o, r⟩ := i; have ho : o = 60 := c1.1; subst ho; rfl)
    have hfl := (tk 0 (by simp)).2.fl (Or.inl (wOne_ref (tk 0 (by simp)).1))
    have hk := hA.in.1.2.1
    have er : (tv st 0).1 = r := by cases hr; rfl
    refine ⟨(c, j, a, lo, st), U, ?_, ?_, ?_⟩
    · show lU (up1 (zN s) t (qW (zN s t) (some (.inl (tv st 0).1))) t) = _
      rw [up1_s]; exact hg
    · show 0 < st.length
      have tl : 1 ≤ (k2 W c j a).length := tl
      omega
    · exact Prod.ext er hfl
  generalize (if i.1 = 54 ∨ i.1 = 55 then ((.inr (0, 0), zL s) : FR) else fIns br W (zL s) c (gmt (gc W c) j) i) = fr
  obtain ⟨y, L⟩ := fr
  have h0 : KwM t s (yL s L) := KwM.of rfl
  cases y with
  | inl e => exact Or.inl ((h0.trans KwM.tk).trans KwM.fail)
  | inr q =>
    dsimp only
    split
    · have hm := KwY.must (br := br) (W := W) (t := t) (s := yL s L) (k := q.1)
      generalize mustS br W t (yL s L) q.1 = mr at hm
      obtain ⟨r0, e, s1⟩ := mr
      dsimp only at hm
      rcases hm with ⟨h3, hw⟩ | ⟨h3, hm⟩
      · subst h3; exact Or.inr hw
      · match r0, h3 with
        | 0, _ => exact Or.inl (((h0.trans hm).trans KwM.tk).trans KwM.act)
        | 1, _ => exact Or.inl (h0.trans hm)
        | 2, _ => exact Or.inl (((h0.trans hm).trans KwM.tk).trans KwM.fail)
        | n + 3, h3 => exact absurd h3 (by omega)
    · exact Or.inl ((h0.trans KwM.tk).trans KwM.act)
theorem KwY.adv (hW : WO W) (hM : MO W s t none (gU s t)) (hon : lSt (zN s t) = 1) (hF : (zF s).length + 100 < 1000000) : KwY t s (advS br W t s) := by
  have hl := hM.2.2.2.1.len hW
  unfold advS
  cases eg : gU s t with
  | nil => exact KwY.first
  | cons u U =>
    cases u with
    | inr k =>
      obtain ⟨k, own⟩ := k
      exact KwY.start
    | inl f =>
      obtain ⟨c, j, a, lo, st⟩ := f
      rw [eg] at hM hl
      have hl : U.length + 1 ≤ 91 := hl
      exact KwY.ins hW hM eg hon (by omega)
end
def WtA (s : Ms) : Prop := ∀ t, t < 3 → WtX t s
section
variable {W : List Cls} {br : Int32} {K t : Nat} {s s1 : Ms}
theorem WtA.turn (hW : WO W) (hG : GI W K s) (hb : zK s + K + 300 < 1000000) (e : turnS s = some (t, s1)) (h : WtA s) : WtA (turnA br W t s1) := by
  obtain ⟨⟨ht, hon, hw0⟩, hM, ⟨hF, -⟩, -⟩ := hG.beg e
  obtain ⟨x, ex⟩ := turnS_in e
  subst ex
  have hkq := Kq.adv (br := br) (W := W) (t := t) (s := sWt (yT s x) t none)
  have hft := hG.ft
  have hkr := KwY.adv (br := br) (W := W) (t := t) (s := sWt (yT s x) t none) hW hM hon (by rw [hF]; omega)
  intro t' ht'
  by_cases et : t' = t
  · subst et
    rcases hkr with z | z
    · intro r hr
      have hr : lWt (zN (advS br W t' (sWt (yT s x) t' none)) t') = some (.inl r) := hr
      have hz : lWt (zN (advS br W t' (sWt (yT s x) t' none)) t') = none := Eq.trans z hw0
      rw [hz] at hr; cases hr
    · exact z
  · have eN : zN (turnA br W t (yT s x)) t' = zN s t' := (hkq.2.1 t' et).trans (up1_o et)
    intro r hr
    unfold gU
    rw [eN] at hr ⊢
    exact h t' ht' r hr
theorem WtA.of {s' : Ms} (h : WtA s) (e : zN s' = zN s) : WtA s' := fun t ht r hr => by
  unfold gU
  rw [e] at hr ⊢
  exact h t ht r hr
theorem SzN.turn (e : turnS s = some (t, s1)) (h : SzN s) : SzN (turnA br W t s1) := by
  obtain ⟨x, ex⟩ := turnS_in e
  subst ex
  exact SzP.eq (s := advS br W t (sWt (yT s x) t none)) rfl (SzP.adv (br := br) (W := W) (t := t) (s := sWt (yT s x) t none) (SzP.eq (s := s) rfl h))
theorem gow_ind (hW : WO W) {P : Ms → Prop} (hP : ∀ s t s1, GI W K s → zK s + K + 300 < 1000000 → turnS s = some (t, s1) → P s → P (turnA br W t s1)) : ∀ f n s, GI W K s → zK s + n + K + 300 < 1000000 → P s → P (gowS br W f n s).2
  | 0, n, s, _, _, h1 => h1
  | f + 1, 0, s, _, _, h1 => h1
  | f + 1, n + 1, s, hG, hb, h1 => by
    cases e : turnS s with
    | none =>
      have eg : gowS br W (f + 1) (n + 1) s = (false, s) := by
        show (match turnS s with | none => (false, s) | some (t, s1) => _) = _
        rw [e]
      rw [eg]; exact h1
    | some p =>
      obtain ⟨t, s1⟩ := p
      have eg : gowS br W (f + 1) (n + 1) s = gowS br W f (if zK s1 < zK (turnA br W t s1) then n else n + 1) (turnA br W t s1) := by
        show (match turnS s with | none => (false, s) | some (t, s1) => _) = _
        rw [e]
      rw [eg]
      obtain ⟨hok, hG2, hstep⟩ := turn_ok (br := br) hW hG (by omega) e
      have a1 := hP s t s1 hG (by omega) e h1
      obtain ⟨x, ex⟩ := turnS_in e
      subst ex
      refine gow_ind hW hP f _ _ hG2 ?_ a1
      by_cases cs : zK (yT s x) < zK (turnA br W t (yT s x))
      · rw [if_pos cs]
        rcases hstep with z | z <;> omega
      · rw [if_neg cs]
        rcases hstep with z | z
        · omega
        · exact absurd (show zK s < zK (turnA br W t (yT s x)) by omega) cs
theorem gow_wt (hW : WO W) {f n : Nat} (hG : GI W K s) (hb : zK s + n + K + 300 < 1000000) (h : WtA s) : WtA (gowS br W f n s).2 := gow_ind (P := WtA) hW (fun s t s1 g b e h => h.turn hW g b e) f n s hG hb h
theorem gow_sz (hW : WO W) {f n : Nat} (hG : GI W K s) (hb : zK s + n + K + 300 < 1000000) (h : SzN s) : SzN (gowS br W f n s).2 := gow_ind (P := SzN) hW (fun s t s1 g b e h => h.turn e) f n s hG hb h
end
