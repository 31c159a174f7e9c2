/-! the rule and the class that a broken thread tells (printed by gen/ru.py from h31, j15) -/
def ruB (v : Int32) : Bool := v == 0 || (decide (1 ≤ v) && decide (v ≤ 14)) || (decide (20 ≤ v) && decide (v ≤ 25)) || (decide (30 ≤ v) && decide (v ≤ 43)) || (decide (50 ≤ v) && decide (v ≤ 59))
def ruF (f : Nat) (ru : Int32) : Bool := decide (f < 2000) && ruB ru
/-- what is broken tells a rule and a class; so do faults -/
def RuN (s : Ms) : Prop := LG (zL s) ∧ (∀ f ∈ zF s, ruF f.1 f.2.1 = true) ∧ (∀ r d, (gOb s r).1 = some d → d < 2000) ∧ ∀ t, lSt (zN s t) = 2 → ∃ c, c < 2000 ∧ (lRs (zN s t)).2.2.1 = Int32.ofNat c ∧ ruB (lRs (zN s t)).2.2.2 = true
def RuP (s s' : Ms) : Prop := RuN s → RuN s'
theorem ru_is : ∀ m, m < 100 → ((1 ≤ m ∧ m ≤ 14) ∨ (20 ≤ m ∧ m ≤ 25) ∨ (30 ≤ m ∧ m ≤ 43) ∨ (50 ≤ m ∧ m ≤ 59)) → ruB (Int32.ofNat m) = true := by decide
theorem ruF_cd {r : Int32} (h : cdR r) : ruF (r.toNatClampNeg % 100) (Int32.ofNat (r.toNatClampNeg / 100)) = true := by
  rcases h with e | e | ⟨n, hn, hi, e⟩
  · subst e; rfl
  · subst e; rfl
  · subst e
    rw [oN_tnc (k := n) (by omega)]
    unfold ruF
    rw [ru_is (n / 100) (by omega) hi, decide_eq_true (show n % 100 < 2000 by omega)]; rfl
def cdQ (e : Int32) : Prop := ruF (e.toNatClampNeg % 100) (Int32.ofNat (e.toNatClampNeg / 100)) = true
theorem cdQ0 : cdQ 0 := by unfold cdQ; rfl
theorem cdQ11 : cdQ 11 := by unfold cdQ; rfl
section
variable {br : Int32} {W : List Cls} {s s' s2 : Ms} {t c j a k : Nat} {lo st : List Vl} {U V : List Un} {q : Nat × Nat} {i : Ins}
theorem doS_ind4 {P R : Ms → Prop} (hR : R s) (hmk1 : i.1 = 41 → ∀ n ks, R (mkOb s (some q.1) n ks)) (hmk2 : ∀ n ks, R (mkOb s none n ks)) (hyS : ∀ X, R (yS s X)) (hwC : ∀ m v, R (wCell s m v)) (hl1 : ∀ y, R (wLock s y ((lkR s y).1 + 1) (Int32.ofNat t))) (hl2 : ∀ y, (lkR s y).1 ≠ 0 → R (wLock s y ((lkR s y).1 + -1) (Int32.ofNat t))) (hnx : ∀ s' f, R s' → P (sU s' t (.inl f :: U))) (hfail : ∀ f ru, ruF f ru = true → P (failS W t s f ru)) (hunw : ∀ r, P (unw W t (gU s t) r s)) (hlv : ∀ o v, P (leaveS s t c j o v U)) (hent : ∀ V c' j' args, P (enterS W t s (.inl (c, j, a, lo, V) :: U) c' j' args)) : P (doS W t s c j a lo st U i q) := by
  have h1 : ∀ f, P (sU s t (.inl f :: U)) := fun f => hnx s f hR
  have hcl : P (cllS W t s c j a lo st U i q) := by
    unfold cllS
    have go : ∀ (m : Nat × Nat) (n : Nat), P (if m.1 < 21 then sU s t (.inl (c, j, a + 1, lo, drp st n) :: U) else enterS W t s (.inl (c, j, a, lo, drp st n) :: U) m.1 m.2 (st.drop (st.length - n))) := fun m n => by
      split
      · exact h1 _
      · exact hent _ _ _ _
    dsimp only
    by_cases c52 : i.1 = 52
    · rw [if_pos c52]; exact go q _
    rw [if_neg c52]
    by_cases c0 : (tv st (iA i).length).1 = 0
    · rw [if_pos c0]; exact hfail _ _ (by decide)
    rw [if_neg c0]
    by_cases c4 : i.1 ≠ 51 ∧ (gmt (gc W q.1) q.2).2.2.2.1 &&& 4 = 0
    · rw [if_pos c4]
      refine ite_P (P := P) (fun _ => hfail _ _ (by decide)) (fun _ => ?_)
      cases clR s (tv st (iA i).length).1 with
      | none => exact hfail _ _ (by decide)
      | some d =>
        dsimp only
        cases mthW W (iM i, iA i, iR i, 0, 0, 0, [], []) 5 d with
        | none => exact hfail _ _ (by decide)
        | some m => exact ite_P (P := P) (fun _ => hfail _ _ (by decide)) (fun _ => go m _)
    rw [if_neg c4]
    by_cases c8 : ¬ (gmt (gc W q.1) q.2).2.2.2.1 &&& 8 = 0
    · rw [if_pos c8]; exact hfail _ _ (by decide)
    · rw [if_neg c8]; exact go q _
  unfold doS
  dsimp only
  refine ite_P (P := P) (fun _ => ?_) (fun _ => ?_)
  · refine ite_P (P := P) (fun _ => ?_) (fun _ => ?_)
    · exact hfail _ _ (by decide)
    · exact h1 _
  refine ite_P (P := P) (fun _ => ?_) (fun _ => ?_)
  · exact h1 _
  refine ite_P (P := P) (fun _ => ?_) (fun _ => ?_)
  · exact h1 _
  refine ite_P (P := P) (fun _ => ?_) (fun _ => ?_)
  · exact h1 _
  refine ite_P (P := P) (fun _ => ?_) (fun _ => ?_)
  · exact h1 _
  refine ite_P (P := P) (fun h41 => ?_) (fun _ => ?_)
  · refine ite_P (P := P) (fun _ => ?_) (fun _ => ?_)
    · exact hfail _ _ (by decide)
    · exact hnx _ _ (hmk1 h41 _ _)
  refine ite_P (P := P) (fun _ => ?_) (fun _ => ?_)
  · refine ite_P (P := P) (fun _ => ?_) (fun _ => ?_)
    · exact hfail _ _ (by decide)
    refine ite_P (P := P) (fun _ => ?_) (fun _ => ?_)
    · exact hfail _ _ (by decide)
    · exact hnx _ _ (hmk2 _ _)
  refine ite_P (P := P) (fun _ => ?_) (fun _ => ?_)
  · exact h1 _
  refine ite_P (P := P) (fun _ => ?_) (fun _ => ?_)
  · exact hnx _ _ (hyS _)
  refine ite_P (P := P) (fun _ => ?_) (fun _ => ?_)
  · refine ite_P (P := P) (fun _ => ?_) (fun _ => ?_)
    · exact hfail _ _ (by decide)
    · exact h1 _
  refine ite_P (P := P) (fun _ => ?_) (fun _ => ?_)
  · refine ite_P (P := P) (fun _ => ?_) (fun _ => ?_)
    · exact hfail _ _ (by decide)
    · exact hnx _ _ (hwC _ _)
  refine ite_P (P := P) (fun _ => ?_) (fun _ => ?_)
  · refine ite_P (P := P) (fun _ => ?_) (fun _ => ?_)
    · exact hfail _ _ (by decide)
    · exact h1 _
  refine ite_P (P := P) (fun _ => ?_) (fun _ => ?_)
  · refine ite_P (P := P) (fun _ => ?_) (fun _ => ?_)
    · exact hfail _ _ (by decide)
    refine ite_P (P := P) (fun _ => ?_) (fun _ => ?_)
    · exact hfail _ _ (by decide)
    · exact h1 _
  refine ite_P (P := P) (fun _ => ?_) (fun _ => ?_)
  · refine ite_P (P := P) (fun _ => ?_) (fun _ => ?_)
    · exact hfail _ _ (by decide)
    refine ite_P (P := P) (fun _ => ?_) (fun _ => ?_)
    · exact hfail _ _ (by decide)
    · exact hnx _ _ (hwC _ _)
  refine ite_P (P := P) (fun _ => ?_) (fun _ => ?_)
  · refine ite_P (P := P) (fun _ => ?_) (fun _ => ?_)
    · exact hfail _ _ (by decide)
    · exact hnx _ _ (hl1 _)
  refine ite_P (P := P) (fun _ => ?_) (fun _ => ?_)
  · refine ite_P (P := P) (fun _ => ?_) (fun _ => ?_)
    · exact hfail _ _ (by decide)
    refine ite_P (P := P) (fun _ => ?_) (fun hz => ?_)
    · exact hfail _ _ (by decide)
    · exact hnx _ _ (hl2 _ (fun z => hz (Or.inl z)))
  refine ite_P (P := P) (fun _ => ?_) (fun _ => ?_)
  · exact hcl
  refine ite_P (P := P) (fun _ => ?_) (fun _ => ?_)
  · exact h1 _
  refine ite_P (P := P) (fun _ => ?_) (fun _ => ?_)
  · exact h1 _
  refine ite_P (P := P) (fun _ => ?_) (fun _ => ?_)
  · exact h1 _
  refine ite_P (P := P) (fun _ => ?_) (fun _ => ?_)
  · exact h1 _
  refine ite_P (P := P) (fun _ => ?_) (fun _ => ?_)
  · exact h1 _
  refine ite_P (P := P) (fun _ => ?_) (fun _ => ?_)
  · exact h1 _
  refine ite_P (P := P) (fun _ => ?_) (fun _ => ?_)
  · exact h1 _
  refine ite_P (P := P) (fun _ => ?_) (fun _ => ?_)
  · exact h1 _
  refine ite_P (P := P) (fun _ => ?_) (fun _ => ?_)
  · exact h1 _
  refine ite_P (P := P) (fun _ => ?_) (fun _ => ?_)
  · exact h1 _
  refine ite_P (P := P) (fun _ => ?_) (fun _ => ?_)
  · exact h1 _
  refine ite_P (P := P) (fun _ => ?_) (fun _ => ?_)
  · exact h1 _
  refine ite_P (P := P) (fun _ => ?_) (fun _ => ?_)
  · refine ite_P (P := P) (fun _ => ?_) (fun _ => ?_)
    · exact h1 _
    generalize fnd W (iK i) = od
    cases od with
    | none => exact hfail _ _ (by decide)
    | some d =>
      dsimp only
      refine ite_P (P := P) (fun _ => ?_) (fun _ => ?_)
      · exact h1 _
      refine ite_P (P := P) (fun _ => ?_) (fun _ => ?_)
      · exact h1 _
      · exact hfail _ _ (by decide)
  refine ite_P (P := P) (fun _ => ?_) (fun _ => ?_)
  · refine ite_P (P := P) (fun _ => ?_) (fun _ => ?_)
    · exact hfail _ _ (by decide)
    · exact hunw _
  refine ite_P (P := P) (fun _ => ?_) (fun _ => ?_)
  · exact hlv _ _
  · exact h1 _
theorem RuP.rf : RuP s s := id
theorem RuP.trans (h : RuP s s') (h2 : RuP s' s2) : RuP s s2 := fun z => h2 (h z)
theorem RuP.of (e1 : zL s' = zL s) (e2 : zF s' = zF s) (e3 : ∀ r, (gOb s' r).1 = (gOb s r).1) (e4 : ∀ t, lSt (zN s' t) = lSt (zN s t) ∧ lRs (zN s' t) = lRs (zN s t)) : RuP s s' := fun ⟨h1, h2, h3, h4⟩ => ⟨by rw [e1]; exact h1, by rw [e2]; exact h2, fun r d => by rw [e3]; exact h3 r d, fun t => by rw [(e4 t).1, (e4 t).2]; exact h4 t⟩
theorem ev_all {w' k' : Nat} {m : Option Nat} : zL (evS s t w' k' m) = zL s ∧ zF (evS s t w' k' m) = zF s ∧ zH (evS s t w' k' m) = zH s ∧ zN (evS s t w' k' m) = zN s := by
  unfold evS
  split <;> exact ⟨rfl, rfl, rfl, rfl⟩
theorem RuP.ev {w' k' : Nat} {m : Option Nat} : RuP s (evS s t w' k' m) := by
  obtain ⟨a, b, c, d⟩ := ev_all (s := s) (t := t) (w' := w') (k' := k') (m := m)
  exact RuP.of a b (fun r => by show ((zH _).2.2.2.1 r).1 = _; rw [c]) (fun t => by rw [d]; exact ⟨rfl, rfl⟩)
theorem RuP.su : RuP s (sU s t V) := RuP.of rfl rfl (fun _ => rfl) (fun t' => by
  show lSt (up1 (zN s) t (qU (zN s t) V) t') = lSt (zN s t') ∧ lRs (up1 (zN s) t (qU (zN s t) V) t') = lRs (zN s t')
  by_cases e : t' = t
  · rw [e, up1_s]; exact ⟨rfl, rfl⟩
  · rw [up1_o e]; exact ⟨rfl, rfl⟩)
theorem RuP.wt {x : Option (Int32 ⊕ Nat)} : RuP s (sWt s t x) := RuP.of rfl rfl (fun _ => rfl) (fun t' => by
  show lSt (up1 (zN s) t (qW (zN s t) x) t') = lSt (zN s t') ∧ lRs (up1 (zN s) t (qW (zN s t) x) t') = lRs (zN s t')
  by_cases e : t' = t
  · rw [e, up1_s]; exact ⟨rfl, rfl⟩
  · rw [up1_o e]; exact ⟨rfl, rfl⟩)
theorem RuP.tk {op : Nat} : RuP s (tickS s t op) := RuP.of rfl rfl (fun _ => rfl) (fun t' => by
  show lSt (up1 (zN s) t (qS (zN s t)) t') = lSt (zN s t') ∧ lRs (up1 (zN s) t (qS (zN s t)) t') = lRs (zN s t')
  by_cases e : t' = t
  · rw [e, up1_s]; exact ⟨rfl, rfl⟩
  · rw [up1_o e]; exact ⟨rfl, rfl⟩)
theorem RuP.dn {x : Nat} {r : Int32 × Int32 × Int32 × Int32} (h : RuN s) (hr : x = 2 → ∃ c, c < 2000 ∧ r.2.2.1 = Int32.ofNat c ∧ ruB r.2.2.2 = true) : RuN (yN s (up1 (zN s) t (qR (zN s t) x r))) := by
  refine ⟨h.1, h.2.1, h.2.2.1, fun t' => ?_⟩
  show lSt (up1 (zN s) t (qR (zN s t) x r) t') = 2 → ∃ c, c < 2000 ∧ (lRs (up1 (zN s) t (qR (zN s t) x r) t')).2.2.1 = Int32.ofNat c ∧ ruB (lRs (up1 (zN s) t (qR (zN s t) x r) t')).2.2.2 = true
  by_cases e : t' = t
  · rw [e, up1_s]; exact hr
  · rw [up1_o e]; exact h.2.2.2 t'
theorem RuP.yc {f : Nat → Int32} : RuP s (yC s f) := RuP.of rfl rfl (fun _ => rfl) (fun _ => ⟨rfl, rfl⟩)
theorem RuP.yl {L : LkS} (h : LG L) : RuP s (yL s L) := fun z => ⟨h, z.2⟩
theorem RuP.ft {f : Nat} {ru : Int32} (hr : ruF f ru = true) : RuP s (addFt s f ru) := fun h => ⟨h.1, fun x hx => by
  rcases List.mem_append.mp hx with z | z
  · exact h.2.1 x z
  · rw [List.mem_singleton.mp z]; exact hr, h.2.2⟩
theorem RuN.cl (h : RuN s) (r : Int32) : clN s r < 2000 ∧ ruB (ruR s r) = true := by
  have g : ruF (gFt s (r.toNatClampNeg - 801)).1 (gFt s (r.toNatClampNeg - 801)).2.1 = true := by
    by_cases e : r.toNatClampNeg - 801 < (zF s).length
    · exact h.2.1 _ (getD_mem e)
    · have : gFt s (r.toNatClampNeg - 801) = (0, 0, 0, 0) := by
        show (zF s).getD _ _ = _
        rw [List.getD_eq_getElem?_getD, List.getElem?_eq_none (by omega)]; rfl
      rw [this]; rfl
  unfold ruF at g
  rw [Bool.and_eq_true] at g
  unfold clN clR ruR
  by_cases c : 800 < r.toNatClampNeg
  · rw [if_pos c, if_pos c]
    exact ⟨of_decide_eq_true g.1, g.2⟩
  · rw [if_neg c, if_neg c]
    refine ⟨?_, rfl⟩
    cases e : (gOb s r.toNatClampNeg).1 with
    | none => exact (by decide : (0 : Nat) < 2000)
    | some d => exact h.2.2.1 _ d e
theorem RuP.unwd : ∀ (U : List Un) (r : Int32) (s : Ms), RuP s (unw W t U r s)
  | [], r, s => fun h => RuP.dn h (fun _ => ⟨_, (h.cl r).1, rfl, (h.cl r).2⟩)
  | .inr (k, own) :: U, r, s => by
    unfold unw
    by_cases c1 : own = true ∧ bel W (clN s r) 10 = false
    · rw [if_pos c1]; exact ((RuP.yc.trans RuP.ev).trans (RuP.ft rfl)).trans (RuP.unwd U _ _)
    · rw [if_neg c1]; exact (RuP.yc.trans RuP.ev).trans (RuP.unwd U _ _)
  | .inl (c, j, a, lo, st) :: U, r, s => by
    unfold unw
    cases ec : catH W a (clN s r) (hs (gmt (gc W c) j)) with
    | none => exact RuP.ev.trans (RuP.unwd U _ _)
    | some g => exact RuP.su.trans RuP.ev
theorem RuP.fail {f : Nat} {ru : Int32} (hr : ruF f ru = true) : RuP s (failS W t s f ru) := (RuP.ft hr).trans (RuP.unwd _ _ _)
theorem RuP.enter {c' j' : Nat} {args : List Vl} : RuP s (enterS W t s V c' j' args) := by
  unfold enterS
  split
  · exact RuP.fail rfl
  · exact RuP.su.trans RuP.ev
theorem RuP.begs : RuP s (begS W t s k) := by
  unfold begS
  exact ((RuP.trans (s' := evS (yB (yO (yC s (up1 (zC s) k 1)) (up1 (zO s) k (Int32.ofNat t))) (zB s ++ [k])) t 4 k none) (RuP.trans (s' := yB (yO (yC s (up1 (zC s) k 1)) (up1 (zO s) k (Int32.ofNat t))) (zB s ++ [k])) (RuP.of rfl rfl (fun _ => rfl) (fun _ => ⟨rfl, rfl⟩)) RuP.ev) (RuP.of rfl rfl (fun _ => rfl) (fun _ => ⟨rfl, rfl⟩)))).trans RuP.su
theorem RuP.must (h : RuN s) : RuN (mustS br W t s k).2.2 ∧ cdQ (mustS br W t s k).2.1 := by
  have hl := lkN_rl (br := br) (W := W) 60 (zL s) k h.1
  unfold mustS
  split
  · exact ⟨h, cdQ0⟩
  split
  · split
    · exact ⟨h, cdQ0⟩
    · exact ⟨RuP.wt h, cdQ0⟩
  split
  · exact ⟨h, cdQ11⟩
  split
  · exact ⟨RuP.begs (RuP.yl hl.2 h), cdQ0⟩
  · exact ⟨RuP.yl hl.2 h, ruF_cd hl.1⟩
theorem RuP.leave {o : Nat} {v : Int32} : RuP s (leaveS s t c j o v U) := by
  cases U with
  | nil => exact fun h => RuP.dn (RuP.ev h) (fun z => absurd z (by decide))
  | cons u U' =>
    cases u with
    | inr k =>
      obtain ⟨k, own⟩ := k
      exact ((RuP.ev.trans RuP.yc).trans RuP.su).trans RuP.ev
    | inl f =>
      obtain ⟨c', j', a', lo', st'⟩ := f
      exact RuP.ev.trans RuP.su
theorem RuP.wl {y n o : Int32} : RuP s (wLock s y n o) := fun h => by
  unfold wLock
  by_cases c : 800 < y.toNatClampNeg
  · rw [if_pos c]
    refine ⟨h.1, fun f hf => ?_, h.2.2⟩
    rcases List.mem_or_eq_of_mem_set hf with z | z
    · exact h.2.1 f z
    · rw [z]
      have g : ruF (gFt s (y.toNatClampNeg - 801)).1 (gFt s (y.toNatClampNeg - 801)).2.1 = true := by
        by_cases e : y.toNatClampNeg - 801 < (zF s).length
        · exact h.2.1 _ (getD_mem e)
        · have : gFt s (y.toNatClampNeg - 801) = (0, 0, 0, 0) := by
            show (zF s).getD _ _ = _
            rw [List.getD_eq_getElem?_getD, List.getElem?_eq_none (by omega)]; rfl
          rw [this]; rfl
      exact g
  · rw [if_neg c]
    refine ⟨h.1, h.2.1, fun r d => ?_, h.2.2.2⟩
    show ((up1 (zH s).2.2.2.1 y.toNatClampNeg ((gOb s y.toNatClampNeg).1, (gOb s y.toNatClampNeg).2.1, (gOb s y.toNatClampNeg).2.2.1, n, o)) r).1 = some d → _
    by_cases e : r = y.toNatClampNeg
    · rw [e, up1_s]; exact h.2.2.1 _ d
    · rw [up1_o e]; exact h.2.2.1 r d
theorem RuP.mk {cl : Option Nat} {n : Nat} {ks : List Kd} (hc : ∀ d, cl = some d → d < 2000) : RuP s (mkOb s cl n ks) := fun h => by
  refine ⟨h.1, h.2.1, fun r d => ?_, h.2.2.2⟩
  show (up1 (zH s).2.2.2.1 (lfree s) (cl, (zH s).2.1, n, 0, (gOb s (lfree s)).2.2.2.2) r).1 = some d → _
  by_cases e : r = lfree s
  · rw [e, up1_s]; exact hc d
  · rw [up1_o e]; exact h.2.2.1 r d
theorem RuP.act {op : Nat} (hq : i.1 = 41 → q.1 < 2000) : RuP s (doS W t (tickS s t op) c j a lo st U i q) := fun h => by
  have h1 : RuN (tickS s t op) := RuP.tk h
  exact doS_ind4 (s := tickS s t op) (P := RuN) (R := RuN) h1 (fun h41 n ks => RuP.mk (fun d e => by cases e; exact hq h41) h1) (fun n ks => RuP.mk (fun d e => by cases e) h1) (fun X => RuP.of (s := tickS s t op) rfl rfl (fun _ => rfl) (fun _ => ⟨rfl, rfl⟩) h1) (fun m v => RuP.of (s := tickS s t op) rfl rfl (fun _ => rfl) (fun _ => ⟨rfl, rfl⟩) h1) (fun y => RuP.wl h1) (fun y hy => RuP.wl h1) (fun s' f h' => RuP.su h') (fun f ru hr => RuP.fail hr h1) (fun r => RuP.unwd _ _ _ h1) (fun o v => RuP.leave h1) (fun V c' j' args => RuP.enter h1)
theorem RuP.first (hB : LB (zL s)) (h51 : W.length ≤ 51) : RuP s (firstS br W t s) := fun h => by
  unfold firstS
  have hf := fMth_rl (br := br) (kn := (lCa (zN s t)).1) (x := (lCa (zN s t)).2.1) (o := 52) (acc := fun _ => false) hB h.1 h51
  revert hf
  cases fMth br W (zL s) (lCa (zN s t)).1 (lCa (zN s t)).2.1 52 (fun _ => false) with
  | mk y L =>
    intro hf
    have h0 : RuN (yL s L) := RuP.yl hf.2 h
    cases y with
    | inl e => exact RuP.fail (ruF_cd (Or.inr (Or.inr hf.1))) h0
    | inr q =>
      have hm := RuP.must (br := br) (W := W) (t := t) (s := yL s L) (k := q.1) h0
      dsimp only
      generalize mustS br W t (yL s L) q.1 = mr at hm
      obtain ⟨r0, e, s1⟩ := mr
      have hm1 : RuN s1 := hm.1
      match r0 with
      | 0 => exact RuP.enter hm1
      | 1 => exact hm1
      | 2 => exact RuP.fail hm.2 hm1
      | n + 3 => exact hm1
theorem RuP.startg : RuP s (startG W t s k U) := by
  unfold startG
  split
  · exact RuP.su.trans RuP.enter
  · exact (RuP.yc.trans RuP.su).trans RuP.ev
theorem RuP.start {own : Bool} : RuP s (startS br W t s k own U) := fun h => by
  unfold startS
  split
  · split
    · exact h
    · rename_i p _
      have hm := RuP.must (br := br) (W := W) (t := t) (s := s) (k := p) h
      generalize mustS br W t s p = mr at hm
      obtain ⟨r0, e, s1⟩ := mr
      have hm1 : RuN s1 := hm.1
      match r0 with
      | 0 => exact RuP.startg hm1
      | 1 => exact hm1
      | 2 => exact RuP.fail hm.2 hm1
      | n + 3 => exact hm1
  · exact RuP.startg h
theorem RuP.ins (hB : LB (zL s)) (h51 : W.length ≤ 51) : RuP s (insS br W t s c j a lo st U) := fun h => by
  unfold insS
  dsimp only
  generalize hi : gin (co (gmt (gc W c) j)) a = i
  split
  · exact RuP.wt h
  have hf : ∀ fr, (if i.1 = 54 ∨ i.1 = 55 then ((.inr (0, 0), zL s) : FR) else fIns br W (zL s) c (gmt (gc W c) j) i) = fr → thR fr.1 ∧ LG fr.2 ∧ ∀ q, fr.1 = .inr q → i.1 = 41 → q.1 < 2000 := by
    intro fr e
    by_cases c5 : i.1 = 54 ∨ i.1 = 55
    · rw [if_pos c5] at e
      subst e
      exact ⟨trivial, h.1, fun q z h41 => by omega⟩
    · rw [if_neg c5] at e
      have := fIns_rl (br := br) (c := c) (x := gmt (gc W c) j) (i := i) hB h.1 h51
      rw [e] at this
      refine ⟨this.1, this.2, fun q z h41 => ?_⟩
      obtain ⟨y, L⟩ := fr
      have z : y = .inr q := z
      subst z
      have := fnd_lt (fIns_41 e h41)
      omega
  generalize (if i.1 = 54 ∨ i.1 = 55 then ((.inr (0, 0), zL s) : FR) else fIns br W (zL s) c (gmt (gc W c) j) i) = fr at hf
  obtain ⟨hf1, hf2, hf3⟩ := hf fr rfl
  obtain ⟨y, L⟩ := fr
  have h0 : RuN (yL s L) := RuP.yl hf2 h
  cases y with
  | inl e => exact RuP.fail (ruF_cd (Or.inr (Or.inr hf1))) (RuP.tk h0)
  | inr q =>
    have hq := hf3 q rfl
    dsimp only
    split
    · have hm := RuP.must (br := br) (W := W) (t := t) (s := yL s L) (k := q.1) h0
      generalize mustS br W t (yL s L) q.1 = mr at hm
      obtain ⟨r0, e, s1⟩ := mr
      have hm1 : RuN s1 := hm.1
      match r0 with
      | 0 => exact RuP.act hq hm1
      | 1 => exact hm1
      | 2 => exact RuP.fail hm.2 (RuP.tk hm1)
      | n + 3 => exact hm1
    · exact RuP.act hq h0
theorem RuP.adv (hB : LB (zL s)) (h51 : W.length ≤ 51) : RuP s (advS br W t s) := by
  unfold advS
  cases gU s t with
  | nil => exact RuP.first hB h51
  | cons u U =>
    cases u with
    | inr k =>
      obtain ⟨k, own⟩ := k
      exact RuP.start
    | inl f =>
      obtain ⟨c, j, a, lo, st⟩ := f
      exact RuP.ins hB h51
end
section
variable {W : List Cls} {br : Int32} {K t : Nat} {s s1 : Ms}
theorem RuN.turn (hB : LB (zL s)) (h51 : W.length ≤ 51) (e : turnS s = some (t, s1)) (h : RuN s) : RuN (turnA br W t s1) := by
  obtain ⟨x, ex⟩ := turnS_in e
  subst ex
  exact RuP.of (s := advS br W t (sWt (yT s x) t none)) rfl rfl (fun _ => rfl) (fun _ => ⟨rfl, rfl⟩) (RuP.adv (br := br) (W := W) (t := t) (s := sWt (yT s x) t none) hB h51 (RuP.wt (RuP.of (s := s) (s' := yT s x) rfl rfl (fun _ => rfl) (fun _ => ⟨rfl, rfl⟩) h)))
theorem gow_ru (hW : WO W) {f n : Nat} (hG : GI W K s) (hb : zK s + n + K + 300 < 1000000) (h : RuN s) : RuN (gowS br W f n s).2 := gow_ind hW (fun s t s1 g _ e h => RuN.turn g.1.1.1.1.2.1 hW.2.2.2 e h) f n s hG hb h
end
