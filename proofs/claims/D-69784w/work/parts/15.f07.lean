/-! THE MACHINE: links, starts, frames -/
section
variable {br : Int32} {W : List Cls} {s s' : Ms} {t k : Nat} {o : Option Kd} {U : List Un}
/-- links that come out of links -/
def LkM (W : List Cls) (a b : LkS) : Prop := (LInv W b.1 ∧ LB b ∧ KJ W b.1) ∧ ∀ k, a.1 k = 1 → b.1 k = 1
theorem lkN_M {a : LkS} (h51 : W.length ≤ 51) (h : LInv W a.1 ∧ LB a ∧ KJ W a.1) (hk : k < W.length) : LkM W a (lkN br W 60 a k).2 := ⟨⟨lkN_inv 60 a k hk (by have := rk_le (W := W) (c := k); omega) h.1, (lkN_lb 60 a k h.2.1).2, lkN_ki 60 a k h.2.2⟩, fun j hj => (lkN_kp 60 a k j (by rw [hj]; decide)).trans hj⟩
theorem lkd_M {a : LkS} {nm : Nm} (h51 : W.length ≤ 51) (h : LInv W a.1 ∧ LB a ∧ KJ W a.1) : LkM W a (lkd br W a nm).2 := by
  unfold lkd
  split
  · exact ⟨h, fun _ z => z⟩
  · rename_i c e
    split <;> exact lkN_M h51 h (fnd_lt e)
theorem LkM.rf {a : LkS} (h : LInv W a.1 ∧ LB a ∧ KJ W a.1) : LkM W a a := ⟨h, fun _ z => z⟩
/-- a field that is found -/
theorem fldW_ok {nm : Nm} {κ : Kd} {c : Nat} {q : Nat × Nat} (hc : c < W.length) (h : fldW W nm κ c = some q) : q.1 < W.length ∧ q.2 < (gc W q.1).2.2.2.2.1.length ∧ (gfl (gc W q.1) q.2).1 = nm ∧ (gfl (gc W q.1) q.2).2.1 = κ := by
  have : ∀ n u v, (∀ d, u = some d → d < W.length) → fdU W nm κ n u v = some q → q.1 < W.length ∧ q.2 < (gc W q.1).2.2.2.2.1.length ∧ (gfl (gc W q.1) q.2).1 = nm ∧ (gfl (gc W q.1) q.2).2.1 = κ := by
    intro n
    induction n with
    | zero => intro u v _ z; cases z
    | succ n ih =>
      intro u v hu z
      cases u with
      | none => cases z
      | some d =>
        have hlt := fbN_lt (W := W) (nm := nm) (κ := κ) 60 d v
        unfold fdU at z
        split at z
        · rename_i q' _ e'
          cases z
          rw [e'] at hlt
          exact hlt q (hu d rfl) rfl
        · exact ih _ _ (fun e' he' => up_lt (hu d rfl) he') z
  exact this 52 (some c) [] (fun d z => by cases z; exact hc) h
theorem fFld_ok {a : LkS} {kn nm : Nm} {κ : Kd} {fx pt : Bool} {mc : Nat} {mn : Nm} (hB : LB a) (h51 : W.length ≤ 51) : thOk (fFld br W a kn nm κ fx pt mc mn).1 ∧ (fFld br W a kn nm κ fx pt mc mn).2 = (lkd br W a kn).2 := by
  have h0 := (lkd_ok (br := br) (k := kn) hB h51).1
  unfold fFld
  cases e : lkd br W a kn with
  | mk y a' =>
    rw [e] at h0
    cases y with
    | inl e => exact ⟨h0, rfl⟩
    | inr c =>
      dsimp only
      cases ef : fldW W nm κ c with
      | none => exact ⟨⟨⟨5112, by omega, Or.inr (by decide), rfl⟩, by decide, by decide⟩, rfl⟩
      | some q =>
        refine ⟨?_, rfl⟩
        show thOk (fFld2 br W fx pt mc mn q)
        unfold fFld2
        generalize (if fx = true then nStart else nMake) = yy
        split
        · exact ⟨⟨5314, by omega, Or.inr (by decide), rfl⟩, by decide, by decide⟩
        split
        · exact ⟨⟨5515, by omega, Or.inr (by decide), rfl⟩, by decide, by decide⟩
        split
        · exact ⟨⟨5414, by omega, Or.inr (by decide), rfl⟩, by decide, by decide⟩
        · trivial
theorem fFld_in {a a' : LkS} {kn nm : Nm} {κ : Kd} {fx pt : Bool} {mc : Nat} {mn : Nm} {q : Nat × Nat} (h : fFld br W a kn nm κ fx pt mc mn = (.inr q, a')) : ∃ c, lkd br W a kn = (.inr c, a') ∧ fldW W nm κ c = some q ∧ ¬ (decide (¬ (gfl (gc W q.1) q.2).2.2.1 &&& 1 = 0) ≠ fx ∨ (fx = false ∧ isFc W q.1 = true)) := by
  unfold fFld at h
  cases e : lkd br W a kn with
  | mk y b =>
    rw [e] at h
    cases y with
    | inl e => cases h
    | inr c =>
      dsimp only at h
      cases ef : fldW W nm κ c with
      | none => rw [ef] at h; cases h
      | some q' =>
        rw [ef] at h
        have h1 := congrArg Prod.fst h
        have h2 : b = a' := congrArg Prod.snd h
        have h1 : fFld2 br W fx pt mc mn q' = .inr q := h1
        unfold fFld2 at h1
        generalize (if fx = true then nStart else nMake) = yy at h1
        split at h1
        · cases h1
        split at h1
        · cases h1
        rename_i hq
        split at h1
        · cases h1
        · cases h1
          exact ⟨c, by rw [h2], ef, hq⟩
theorem fMth_ok {a : LkS} {kn : Nm} {x : Mth} {o : Nat} {acc : Nat → Bool} (hB : LB a) (h51 : W.length ≤ 51) : thOk (fMth br W a kn x o acc).1 ∧ (fMth br W a kn x o acc).2 = (lkd br W a kn).2 := by
  have h0 := (lkd_ok (br := br) (k := kn) hB h51).1
  unfold fMth
  cases e : lkd br W a kn with
  | mk y a' =>
    rw [e] at h0
    cases y with
    | inl e => exact ⟨h0, rfl⟩
    | inr c =>
      dsimp only
      split
      · exact ⟨⟨⟨5615, by omega, Or.inr (by decide), rfl⟩, by decide, by decide⟩, rfl⟩
      cases ef : fMth1 W x c with
      | none => exact ⟨⟨⟨5213, by omega, Or.inr (by decide), rfl⟩, by decide, by decide⟩, rfl⟩
      | some q =>
        refine ⟨?_, rfl⟩
        show thOk (fMth2 br W o acc q)
        unfold fMth2
        split
        · exact ⟨⟨5314, by omega, Or.inr (by decide), rfl⟩, by decide, by decide⟩
        split
        · exact ⟨⟨5515, by omega, Or.inr (by decide), rfl⟩, by decide, by decide⟩
        split
        · exact ⟨⟨5818, by omega, Or.inr (by decide), rfl⟩, by decide, by decide⟩
        · trivial
theorem fMth_in {a a' : LkS} {kn : Nm} {x : Mth} {o : Nat} {acc : Nat → Bool} {q : Nat × Nat} (h : fMth br W a kn x o acc = (.inr q, a')) : ∃ c, lkd br W a kn = (.inr c, a') ∧ ¬ ((o = 50 ∧ isFc W c = true) ∨ (o = 53 ∧ isFc W c = false)) ∧ fMth1 W x c = some q ∧ decide (¬ (gmt (gc W q.1) q.2).2.2.2.1 &&& 1 = 0) = decide (o = 52) ∧ ¬ ((o = 52 ∨ o = 51 ∨ ¬ (gmt (gc W q.1) q.2).2.2.2.1 &&& 4 = 0) ∧ ¬ (gmt (gc W q.1) q.2).2.2.2.1 &&& 8 = 0) := by
  unfold fMth at h
  cases e : lkd br W a kn with
  | mk y b =>
    rw [e] at h
    cases y with
    | inl e => cases h
    | inr c =>
      dsimp only at h
      split at h
      · cases h
      rename_i h0
      cases ef : fMth1 W x c with
      | none => rw [ef] at h; cases h
      | some q' =>
        rw [ef] at h
        have h1 := congrArg Prod.fst h
        have h2 : b = a' := congrArg Prod.snd h
        have h1 : fMth2 br W o acc q' = .inr q := h1
        unfold fMth2 at h1
        split at h1
        · cases h1
        split at h1
        · cases h1
        rename_i hq
        split at h1
        · cases h1
        rename_i hq2
        cases h1
        exact ⟨c, by rw [h2], h0, ef, Classical.not_not.mp hq, hq2⟩
theorem fIns_ok {a : LkS} {c : Nat} {x : Mth} {i : Ins} (h51 : W.length ≤ 51) (h : LInv W a.1 ∧ LB a ∧ KJ W a.1) : thOk (fIns br W a c x i).1 ∧ LkM W a (fIns br W a c x i).2 := by
  unfold fIns
  split
  · refine ⟨?_, LkM.rf h⟩
    cases fnd W (iK i) with
    | none => exact ⟨⟨5011, by omega, Or.inr (by decide), rfl⟩, by decide, by decide⟩
    | some d => trivial
  split
  · have h0 := (lkd_ok (br := br) (k := iK i) h.2.1 h51).1
    have hm := lkd_M (br := br) (nm := iK i) h51 h
    cases e : lkd br W a (iK i) with
    | mk y a' =>
      rw [e] at h0 hm
      cases y with
      | inl e => exact ⟨h0, hm⟩
      | inr d =>
        dsimp only
        split
        · exact ⟨⟨⟨5719, by omega, Or.inr (by decide), rfl⟩, by decide, by decide⟩, hm⟩
        · exact ⟨trivial, hm⟩
  split
  · have := fFld_ok (br := br) (W := W) (a := a) (kn := iK i) (nm := iM i) (κ := iR i) (fx := decide (48 ≤ i.1)) (pt := decide (i.1 = 47 ∨ i.1 = 49)) (mc := c) (mn := x.1) h.2.1 h51
    exact ⟨this.1, by rw [this.2]; exact lkd_M h51 h⟩
  split
  · have := fMth_ok (br := br) (W := W) (a := a) (kn := iK i) (x := (iM i, iA i, iR i, 0, 0, 0, [], [])) (o := i.1) (acc := fun d => decide (d = c)) h.2.1 h51
    exact ⟨this.1, by rw [this.2]; exact lkd_M h51 h⟩
  · exact ⟨trivial, LkM.rf h⟩
theorem GL.lL {L : LkS} (h : GL W s) (hm : LkM W (zL s) L) : GL W (yL s L) := by
  obtain ⟨a, ⟨h1, h2, h3⟩, d, e, c1, c2, c3, c4⟩ := h
  refine ⟨hm.1, ⟨h1, fun r hr => ⟨(h2 r hr).1, ?_⟩, h3⟩, d, e, c1, fun j => ⟨(c2 j).1, fun z => ⟨((c2 j).2 z).1, hm.2 j ((c2 j).2 z).2⟩⟩, c3, c4⟩
  have := (h2 r hr).2
  unfold obO at *
  show match (gOb s r).1 with | none => _ | some d => _
  cases eo : (gOb s r).1 with
  | none => rw [eo] at this; exact this
  | some d => rw [eo] at this; exact ⟨⟨this.1.1, hm.2 d this.1.2⟩, this.2⟩
theorem MO.lL {L : LkS} (h : MO W s t o U) (hm : LkM W (zL s) L) : MO W (yL s L) t o U := by
  have hs : sle s ((L, s.2) : Ms) := sle_of rfl rfl
  exact h.mv (h.1.1.lL hm) h.1.2.1 h.1.2.2 hs hm.2 (fun _ _ _ => rfl) ((h.2.1.2 t h.2.1.1).mv rfl hs (Nat.le_refl _)) (Nat.le_refl _) (fun _ _ _ _ _ => ⟨rfl, rfl⟩) (h.2.2.2.1.mv hs hm.2 (fun _ _ => ⟨rfl, rfl⟩)) h.2.2.2.2
theorem failS_ok (hW : WO W) {f : Nat} {ru : Int32} (h : MO W s t o (gU s t)) (hon : lSt (zN s t) = 1) (h1 : 1 ≤ f) (h2 : f < 21) (hn : (zF s).length + (gU s t).length + 1 < 1000000) : MK W (failS W t s f ru) t := by
  unfold failS
  refine unw_ok hW _ o _ _ (h.addF h1 h2) hon (thO.new hW.1 h.1.1.1.1 h1 h2 (by omega)) ?_
  show (zF s ++ [(f, ru, 0, 0)]).length + _ < _
  rw [List.length_append]
  show (zF s).length + 1 + _ < _
  omega
theorem failC_ok (hW : WO W) {e : Int32} (h : MO W s t o (gU s t)) (hon : lSt (zN s t) = 1) (he : cdOk e ∧ e ≠ 0 ∧ e ≠ 1) (hn : (zF s).length + (gU s t).length + 1 < 1000000) : MK W (failC W t s e) t := by
  unfold failC
  obtain ⟨⟨n, hn1, hn2, e1⟩, e2, e3⟩ := he
  have : 11 ≤ n % 100 ∧ n % 100 ≤ 20 := by
    rcases hn2 with z | z
    · have : n = 0 ∨ n = 1 := by omega
      rcases this with q | q
      · rw [q] at e1; exact absurd e1 e2
      · rw [q] at e1; exact absurd e1 e3
    · exact z
  rw [e1, oN_tnc (by omega)]
  exact failS_ok hW h hon (by omega) (by omega) hn
/-- a value 0 is of every type -/
theorem cv_zero {c : Nat} {C : List Ins} {κ : Kd} (h : tyOk κ) : cv W s c C κ (0, decide (κ.1 ≠ 0)) := by
  rcases h with z | z | z
  · rw [z]; exact cv.num
  · rw [z]; exact ⟨cf.row rfl (Or.inl rfl), fun _ => vRf.z⟩
  · obtain ⟨k1, k2⟩ := κ
    have z : k1 = 2 := z
    rw [z]
    exact ⟨cf.cls rfl (Or.inl rfl), fun _ => vRf.z⟩
theorem yS_ev {t' w k : Nat} {m : Option Nat} {X : Nat → Nat → Int32} : yS (evS s t' w k m) X = evS (yS s X) t' w k m := by
  unfold evS
  by_cases c : (zE s).length < 400
  · rw [if_pos c, if_pos (show (zE (yS s X)).length < 400 from c)]
  · rw [if_neg c, if_neg (show ¬ (zE (yS s X)).length < 400 from c)]
/-- a start begins -/
theorem begS_ok (hW : WO W) (h : MO W s t none (gU s t)) (hon : lSt (zN s t) = 1) (hk : 21 ≤ k ∧ k < W.length) (hl : (zL s).1 k = 1) (h0 : zC s k = 0) : MK W (begS W t s k) t := by
  have hG := h.1.1
  obtain ⟨c1, c2, c3, c4⟩ := hG.2.2.2.2
  have hnb : k ∉ zB s := fun z => (c4 k z).2 h0
  have hnu : ∀ {t' o' V}, UO W s t' o' V → k ∉ sts V := fun hU z => absurd (hU.own k z).2.2.1 (by rw [h0]; decide)
  have hM1 : MO W (yS (yB (yO (yC s (up1 (zC s) k 1)) (up1 (zO s) k (Int32.ofNat t))) (zB s ++ [k])) (up1 (zS s) k (fun f => (gfl (gc W k) f).2.2.2.1))) t none (.inr (k, false) :: gU s t) := by
    have hs : sle s (yS (yB (yO (yC s (up1 (zC s) k 1)) (up1 (zO s) k (Int32.ofNat t))) (zB s ++ [k])) (up1 (zS s) k (fun f => (gfl (gc W k) f).2.2.2.1))) := sle_of rfl rfl
    have hg1 := hG.cC hk hl (Or.inl rfl)
    refine h.mv ⟨hg1.1, hg1.2.1, ⟨fun c f hc hf hst => ?_, fun c f hz => ?_⟩, hg1.2.2.2.1, hg1.2.2.2.2.1, hg1.2.2.2.2.2.1, ?_, fun j hj => ?_⟩ h.1.2.1 h.1.2.2 hs (fun _ z => z) (fun _ _ _ => rfl) ((h.2.1.2 t h.2.1.1).mv rfl hs (Nat.le_refl _)) (Nat.le_refl _) (fun t' ht hne k' hk' => ?_) ⟨⟨rfl, ⟨hk, hl, up1_s, up1_s⟩, ?_⟩, ?_, h.2.2.2.1.2.2⟩ (fun k' hk' => ?_)
    · show cv W _ 0 [] _ (up1 (zS s) k _ c f, _)
      by_cases ec : c = k
      · rw [ec, up1_s]
        have hw := (hW.2.2.1.at hk.2).1.1 _ (getD_mem (d := ([], (0, []), 0, 0, false)) (show f < (gc W k).2.2.2.2.1.length by rw [← ec]; exact hf))
        rw [ec] at hst
        cases eh : (gfl (gc W k) f).2.2.2.2 with
        | true =>
          have := (hw.2.1 eh).2
          have e : (gfl (gc W k) f).2.1 = (0, []) := this
          rw [e]; exact cv.num
        | false =>
          have := hw.2.2 eh
          have e : (gfl (gc W k) f).2.2.2.1 = 0 := this
          rw [e]; exact cv_zero hw.1
      · rw [up1_o ec]; exact (hG.2.2.1.1 c f hc hf hst).sle hs
    · show up1 (zS s) k _ c f = 0
      have hz : up1 (zC s) k 1 c = 0 := hz
      by_cases ec : c = k
      · rw [ec, up1_s] at hz; exact absurd hz (by decide)
      · rw [up1_o ec] at hz ⊢; exact hG.2.2.1.2 c f hz
    · show (zB s ++ [k]).Nodup
      rw [List.nodup_append]
      exact ⟨c3, by simp, fun a ha b hb e => hnb (by rw [List.mem_singleton.mp hb] at e; exact e ▸ ha)⟩
    · rcases List.mem_append.mp hj with z | z
      · exact ⟨(c4 j z).1, (hg1.2.2.2.2.2.2.2 j z).2⟩
      · rw [List.mem_singleton.mp z]
        exact ⟨hk, by show up1 (zC s) k 1 k ≠ 0; rw [up1_s]; decide⟩
    · have : k' ≠ k := fun e => hnu (h.2.2.1 t' ht hne).1.1 (e ▸ hk')
      exact ⟨up1_o this, up1_o this⟩
    · exact h.2.2.2.1.1.mono hs (fun _ z => z) (fun k' hk' => by
        have : k' ≠ k := fun e => hnu h.2.2.2.1.1 (e ▸ hk')
        exact ⟨up1_o this, up1_o this⟩)
    · exact List.nodup_cons.mpr ⟨hnu h.2.2.2.1.1, h.2.2.2.1.2.1⟩
    · have hk' : up1 (zC s) k 1 k' = 1 := hk'
      by_cases e : k' = k
      · exact Or.inl (by rw [e]; exact List.mem_cons_self)
      · rw [up1_o e] at hk'
        exact (h.2.2.2.2 k' hk').imp (fun z => List.mem_cons_of_mem _ z) id
  have e : begS W t s k = sU (evS (yS (yB (yO (yC s (up1 (zC s) k 1)) (up1 (zO s) k (Int32.ofNat t))) (zB s ++ [k])) (up1 (zS s) k (fun f => (gfl (gc W k) f).2.2.2.1))) t 4 k none) t (.inr (k, false) :: gU s t) := by
    unfold begS; rw [yS_ev]
  rw [e]
  refine ⟨by rw [gU_sU]; exact hM1.ev.put, fun z => absurd ?_ z⟩
  show lSt (up1 (zN (evS _ _ _ _ _)) t _ t) = 1
  rw [up1_s]
  show lSt (zN (evS _ _ _ _ _) t) = 1
  rw [evS_r.2.2.2.2.2.2.2.1]; exact hon
theorem sWt_ok {y : Int32 ⊕ Nat} (h : MO W s t none (gU s t)) (hon : lSt (zN s t) = 1) (hy : match y with | .inl r => vRf s r ∧ r ≠ 0 | .inr k => k < W.length) : MK W (sWt s t (some y)) t := by
  have hs : sle s (sWt s t (some y)) := sle_of rfl rfl
  have e : zN (sWt s t (some y)) t = qW (zN s t) (some y) := up1_s
  have eg : gU (sWt s t (some y)) t = gU s t := by show lU (zN (sWt s t (some y)) t) = _; rw [e]
  refine ⟨?_, fun z => absurd (by rw [e]; exact hon) z⟩
  rw [eg]
  refine h.mv (h.1.1.same rfl rfl rfl rfl rfl rfl) h.1.2.1 h.1.2.2 hs (fun _ z => z) (fun t' _ hne => up1_o hne) ?_ (Nat.le_refl _) (fun _ _ _ _ _ => ⟨rfl, rfl⟩) (h.2.2.2.1.mv hs (fun _ z => z) (fun _ _ => ⟨rfl, rfl⟩)) h.2.2.2.2
  obtain ⟨x1, x2, x3⟩ := h.2.1.2 t h.2.1.1
  unfold LX
  rw [e]
  refine ⟨x1, x2, fun z hz => ?_⟩
  have : y = z := Option.some.inj hz
  rw [← this]; exact hy
/-- what a class's start asks for -/
theorem mustS_ok (hW : WO W) (h : MO W s t none (gU s t)) (hon : lSt (zN s t) = 1) (hk : k < W.length) : ((mustS br W t s k).1 = 0 → (mustS br W t s k).2.2 = s ∧ (zL s).1 k = 1 ∧ zC s k ≠ 0) ∧ ((mustS br W t s k).1 = 2 → (cdOk (mustS br W t s k).2.1 ∧ (mustS br W t s k).2.1 ≠ 0 ∧ (mustS br W t s k).2.1 ≠ 1) ∧ MO W (mustS br W t s k).2.2 t none (gU s t) ∧ zN (mustS br W t s k).2.2 = zN s ∧ zF (mustS br W t s k).2.2 = zF s) ∧ ((mustS br W t s k).1 = 1 ∨ (mustS br W t s k).1 = 3 → MK W (mustS br W t s k).2.2 t) ∧ (mustS br W t s k).1 ≤ 3 := by
  obtain ⟨c1, c2, -, -⟩ := h.1.1.2.2.2.2
  unfold mustS
  by_cases e2 : zC s k = 2
  · rw [if_pos e2]
    exact ⟨fun _ => ⟨rfl, ((c2 k).2 (by rw [e2]; decide)).2, by rw [e2]; decide⟩, fun z => absurd z (show ¬ (0 : Nat) = 2 by decide), fun z => z.elim (fun z => absurd z (show ¬ (0 : Nat) = 1 by decide)) (fun z => absurd z (show ¬ (0 : Nat) = 3 by decide)), Nat.zero_le _⟩
  rw [if_neg e2]
  by_cases e1 : zC s k = 1
  · rw [if_pos e1]
    by_cases eo : zO s k = Int32.ofNat t
    · rw [if_pos eo]
      exact ⟨fun _ => ⟨rfl, ((c2 k).2 (by rw [e1]; decide)).2, by rw [e1]; decide⟩, fun z => absurd z (show ¬ (0 : Nat) = 2 by decide), fun z => z.elim (fun z => absurd z (show ¬ (0 : Nat) = 1 by decide)) (fun z => absurd z (show ¬ (0 : Nat) = 3 by decide)), Nat.zero_le _⟩
    · rw [if_neg eo]
      exact ⟨fun z => absurd z (show ¬ (3 : Nat) = 0 by decide), fun z => absurd z (show ¬ (3 : Nat) = 2 by decide), fun _ => sWt_ok h hon hk, by show 3 ≤ 3; omega⟩
  rw [if_neg e1]
  by_cases e3 : zC s k = 3
  · rw [if_pos e3]
    exact ⟨fun z => absurd z (show ¬ (2 : Nat) = 0 by decide), fun _ => ⟨⟨⟨11, by omega, Or.inr (by decide), rfl⟩, show ¬ (11 : Int32) = 0 by decide, show ¬ (11 : Int32) = 1 by decide⟩, h, rfl, rfl⟩, fun z => z.elim (fun z => absurd z (show ¬ (2 : Nat) = 1 by decide)) (fun z => absurd z (show ¬ (2 : Nat) = 3 by decide)), by show 2 ≤ 3; omega⟩
  rw [if_neg e3]
  have e0 : zC s k = 0 := by rcases (c2 k).1 with z | z | z | z; exact z; exact absurd z e1; exact absurd z e2; exact absurd z e3
  have hm := lkN_M (br := br) hW.2.2.2 h.1.1.1 hk
  by_cases el : (lkN br W 60 (zL s) k).1 = 1
  · rw [if_pos el]
    refine ⟨fun z => absurd z (show ¬ (1 : Nat) = 0 by decide), fun z => absurd z (show ¬ (1 : Nat) = 2 by decide), fun _ => ?_, by show 1 ≤ 3; omega⟩
    have h21 : 21 ≤ k := Classical.byContradiction (fun z => e2 (c1 k (by omega)))
    exact begS_ok hW (h.lL hm) hon ⟨h21, hk⟩ ((lkN_own (n := 59)).trans el) e0
  · rw [if_neg el]
    exact ⟨fun z => absurd z (show ¬ (2 : Nat) = 0 by decide), fun _ => ⟨⟨(lkN_lb 60 _ k h.1.1.1.2.1).1, lkN_ne0 60 _ k hk (by have := rk_le (W := W) (c := k); have := hW.2.2.2; omega), el⟩, h.lL hm, rfl, rfl⟩, fun z => z.elim (fun z => absurd z (show ¬ (2 : Nat) = 1 by decide)) (fun z => absurd z (show ¬ (2 : Nat) = 3 by decide)), by show 2 ≤ 3; omega⟩
end
