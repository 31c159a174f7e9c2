/-! THE MACHINE: an act keeps kinds -/
section
variable {br : Int32} {W : List Cls} {s s' : Ms} {t c j a : Nat} {lo st : List Vl} {U : List Un} {q : Nat × Nat} {i : Ins} {o : Option Kd}
theorem tick_N {op : Nat} : zN (tickS s t op) t = qS (zN s t) := up1_s
theorem tick_U {op : Nat} : gU (tickS s t op) t = gU s t := by show lU (zN (tickS s t op) t) = _; rw [tick_N]
theorem MO.tick {op : Nat} (h : MO W s t o U) : MO W (tickS s t op) t o U := by
  have hs : sle s (tickS s t op) := sle_of rfl rfl
  refine h.mv (h.1.1.same rfl rfl rfl rfl rfl rfl) h.1.2.1 h.1.2.2 hs (fun _ z => z) (fun t' _ hne => up1_o hne) ?_ (Nat.le_succ _) (fun _ _ _ _ _ => ⟨rfl, rfl⟩) (h.2.2.2.1.mv hs (fun _ z => z) (fun _ _ => ⟨rfl, rfl⟩)) h.2.2.2.2
  obtain ⟨x1, ⟨x2, x4⟩, x3⟩ := h.2.1.2 t h.2.1.1
  unfold LX
  rw [tick_N]
  refine ⟨x1, ⟨x2, Nat.succ_le_succ x4⟩, fun y hy => ?_⟩
  have := x3 y hy
  cases y with
  | inl r => exact ⟨(hs r this.1).1, this.2⟩
  | inr k => exact this
theorem Fq_of {L : LkS} {x : Mth} (ef : fIns br W (zL s) c x i = (.inr q, L)) (hL : zL s' = L) (hz : strt i.1 → zC s' q.1 ≠ 0) : Fq W s' i q := by
  unfold fIns at ef
  refine ⟨fun ho => ?_, fun ho => ?_, fun ho => ?_⟩
  · rw [if_neg (by omega), if_pos ho] at ef
    cases e : lkd br W (zL s) (iK i) with
    | mk y a' =>
      rw [e] at ef
      cases y with
      | inl e => cases ef
      | inr d =>
        dsimp only at ef
        split at ef
        · cases ef
        · cases ef
          obtain ⟨h1, -, h3⟩ := lkd_in e
          exact ⟨h1, by rw [hL]; exact h3⟩
  · rw [if_neg (by omega), if_neg (by omega), if_pos ho] at ef
    obtain ⟨d, h1, h2, h3⟩ := fFld_in ef
    obtain ⟨k1, -, k3⟩ := lkd_in h1
    rw [not_or] at h3
    have h4 := Classical.not_not.mp h3.1
    refine ⟨d, k1, by rw [hL]; exact k3, h2, fun h48 => ?_, fun h48 => ?_⟩
    · rw [decide_eq_false (show ¬ 48 ≤ i.1 by omega)] at h4 h3
      have h5 : ¬ ¬ (gfl (gc W q.1) q.2).2.2.1 &&& 1 = 0 := of_decide_eq_false h4
      refine ⟨Classical.not_not.mp h5, ?_⟩
      cases e : isFc W q.1 with
      | false => rfl
      | true => exact absurd ⟨rfl, e⟩ h3.2
    · rw [decide_eq_true h48] at h4
      exact ⟨of_decide_eq_true h4, hz (by unfold strt; omega)⟩
  · rw [if_neg (by omega), if_neg (by omega), if_neg (by omega), if_pos ho] at ef
    obtain ⟨d, h1, h2, h3, h4, h5⟩ := fMth_in ef
    obtain ⟨k1, -, k3⟩ := lkd_in h1
    exact ⟨d, k1, by rw [hL]; exact k3, h2, h3, h4, h5⟩
theorem insS_ok (hW : WO W) (hM : MO W s t none (.inl (c, j, a, lo, st) :: U)) (hg : gU s t = .inl (c, j, a, lo, st) :: U) (hon : lSt (zN s t) = 1) (hF : (zF s).length + U.length + 3 < 1000000) : MK W (insS br W t s c j a lo st U) t := by
  unfold insS
  dsimp only
  generalize hi : gin (co (gmt (gc W c) j)) a = i
  have hA : At W s t c j a lo st U i := ⟨⟨hW, hM, hon⟩, hg, hi.symm, hF⟩
  have atk : ∀ {s1 : Ms}, MO W s1 t none (.inl (c, j, a, lo, st) :: U) → zN s1 = zN s → zF s1 = zF s → At W (tickS s1 t i.1) t c j a lo st U i := fun {s1} hm hn hf => by
    refine ⟨⟨hW, hm.tick, ?_⟩, ?_, hi.symm, ?_⟩
    · rw [tick_N, hn]; exact hon
    · rw [tick_U]; show lU (zN s1 t) = _; rw [hn]; exact hg
    · show (zF s1).length + _ + 3 < _; rw [hf]; exact hF
  have flk : ∀ {s1 : Ms} {e : Int32}, MO W s1 t none (.inl (c, j, a, lo, st) :: U) → zN s1 = zN s → zF s1 = zF s → (cdOk e ∧ e ≠ 0 ∧ e ≠ 1) → MK W (failC W t (tickS s1 t i.1) e) t := fun {s1 e} hm hn hf he => by
    have eg : gU (tickS s1 t i.1) t = .inl (c, j, a, lo, st) :: U := (atk hm hn hf).2.1
    refine failC_ok hW (o := none) (by rw [eg]; exact hm.tick) (by rw [tick_N, hn]; exact hon) he ?_
    rw [eg]
    show (zF s1).length + (U.length + 1) + 1 < _
    rw [hf]; omega
  by_cases cw : i.1 = 60 ∧ (tv st 0).1 ≠ 0 ∧ lckd s t (tv st 0).1
  · rw [if_pos cw]
    obtain ⟨tl, tk⟩ := hA.tk (ws := [wRef]) (by obtain ⟨o, r⟩ := i; have ho : o = 60 := cw.1; subst ho; rfl)
    have hfl := (tk 0 (by simp)).2.fl (Or.inl (wOne_ref (tk 0 (by simp)).1))
    exact sWt_ok (by rw [hg]; exact hM) hon ⟨(tk 0 (by simp)).2.2 hfl, cw.2.1⟩
  rw [if_neg cw]
  by_cases cc : i.1 = 54 ∨ i.1 = 55
  · rw [if_pos cc]
    dsimp only
    rw [if_neg (by unfold strt; omega)]
    exact doS_ok (atk (s1 := yL s (zL s)) hM rfl rfl) ⟨fun z => by omega, fun z => by omega, fun z => by omega⟩
  rw [if_neg cc]
  have hok := fIns_ok (br := br) (c := c) (x := gmt (gc W c) j) (i := i) hW.2.2.2 hM.1.1.1
  cases ef : fIns br W (zL s) c (gmt (gc W c) j) i with
  | mk y L =>
    rw [ef] at hok
    have hML := hM.lL hok.2
    cases y with
    | inl e => exact flk hML rfl rfl hok.1
    | inr q =>
      dsimp only
      by_cases cs : strt i.1
      · rw [if_pos cs]
        have hq0 := Fq_of (s' := yL s L) (q := q) ef rfl
        have hql : q.1 < W.length := by
          unfold fIns at ef
          rcases cs with z | z | z | z
          · rw [if_neg (by omega), if_pos z] at ef
            cases e : lkd br W (zL s) (iK i) with
            | mk y a' =>
              rw [e] at ef
              cases y with
              | inl e => cases ef
              | inr d =>
                dsimp only at ef
                split at ef
                · cases ef
                · cases ef; exact fnd_lt (lkd_in e).1
          · rw [if_neg (by omega), if_neg (by omega), if_pos (by omega)] at ef
            obtain ⟨d, h1, h2, -⟩ := fFld_in ef
            exact (fldW_ok (fnd_lt (lkd_in h1).1) h2).1
          · rw [if_neg (by omega), if_neg (by omega), if_pos (by omega)] at ef
            obtain ⟨d, h1, h2, -⟩ := fFld_in ef
            exact (fldW_ok (fnd_lt (lkd_in h1).1) h2).1
          · rw [if_neg (by omega), if_neg (by omega), if_neg (by omega), if_pos (by omega)] at ef
            obtain ⟨d, h1, -, h2, -⟩ := fMth_in ef
            exact (fMth1_ok (fnd_lt (lkd_in h1).1) h2).1
        have hMg : MO W (yL s L) t none (gU (yL s L) t) := by show MO W (yL s L) t none (gU s t); rw [hg]; exact hML
        obtain ⟨m0, m2, m1, m3⟩ := mustS_ok (br := br) (k := q.1) hW hMg hon hql
        generalize em : mustS br W t (yL s L) q.1 = mr at m0 m1 m2 m3
        obtain ⟨r0, e, s1⟩ := mr
        dsimp only at m0 m1 m2 m3
        match r0, m0, m1, m2, m3 with
        | 0, m0, _, _, _ =>
          obtain ⟨es, -, hz⟩ := m0 rfl
          rw [es]
          exact doS_ok (atk hML rfl rfl) (hq0 (fun _ => hz))
        | 1, _, m1, _, _ => exact m1 (Or.inl rfl)
        | 2, _, _, m2, _ =>
          obtain ⟨he, hM2, hN, hF2⟩ := m2 rfl
          have hM2 : MO W s1 t none (gU s t) := hM2
          rw [hg] at hM2
          exact flk hM2 hN hF2 he
        | 3, _, m1, _, _ => exact m1 (Or.inr rfl)
        | n + 4, _, _, _, m3 => exact absurd m3 (by omega)
      · rw [if_neg cs]
        exact doS_ok (atk hML rfl rfl) (Fq_of (s' := tickS (yL s L) t i.1) ef rfl (fun z => absurd z cs))
theorem U_len : ∀ {U : List Un}, U.length = frs U + (sts U).length
  | [] => rfl
  | .inl _ :: U => by
    show U.length + 1 = frs U + 1 + (sts U).length
    rw [U_len (U := U)]; omega
  | .inr _ :: U => by
    show U.length + 1 = frs U + ((sts U).length + 1)
    rw [U_len (U := U)]; omega
theorem LO.len (hW : WO W) (h : LO W s t o U) : U.length ≤ 91 := by
  have h1 := nodup_len (n := W.length) h.2.1 (fun k hk => (h.1.own k hk).1.2)
  have := hW.2.2.2
  have := h.2.2
  rw [U_len]; omega
theorem advS_ok (hW : WO W) (h : MO W s t none (gU s t)) (hon : lSt (zN s t) = 1) (hF : (zF s).length + 100 < 1000000) : MK W (advS br W t s) t := by
  have hl := h.2.2.2.1.len hW
  unfold advS
  cases eg : gU s t with
  | nil => exact firstS_ok hW h hon eg (by omega)
  | cons u U =>
    rw [eg] at hl
    have hl : U.length + 1 ≤ 91 := hl
    cases u with
    | inr k =>
      obtain ⟨k, own⟩ := k
      exact startS_ok hW h eg hon (by omega)
    | inl f =>
      obtain ⟨c, j, a, lo, st⟩ := f
      exact insS_ok hW (by rw [eg] at h; exact h) eg hon (by omega)
/-- the machine between acts -/
def MA (W : List Cls) (s : Ms) : Prop := (GL W s ∧ (zE s).length ≤ 400 ∧ (zT s).1 < 3) ∧ (∀ t, t < 3 → LX W s t) ∧ (∀ t, t < 3 → LO W s t none (gU s t) ∧ (lSt (zN s t) ≠ 1 → gU s t = [])) ∧ ∀ k, zC s k = 1 → ∃ t, t < 3 ∧ k ∈ sts (gU s t)
theorem MK.all (h : MK W s t) : MA W s := by
  obtain ⟨⟨h1, ⟨h2, h3⟩, h4, h5, h6⟩, h7⟩ := h
  refine ⟨h1, h3, fun t' ht => ?_, fun k hk => ?_⟩
  · by_cases e : t' = t
    · rw [e]; exact ⟨h5, h7⟩
    · exact h4 t' ht e
  · rcases h6 k hk with z | ⟨t', a, b, c⟩
    · exact ⟨t, h2, z⟩
    · exact ⟨t', a, c⟩
theorem MA.at (h : MA W s) (ht : t < 3) : MK W s t := by
  obtain ⟨h1, h2, h3, h4⟩ := h
  refine ⟨⟨h1, ⟨ht, h2⟩, fun t' ht' _ => h3 t' ht', (h3 t ht).1, fun k hk => ?_⟩, (h3 t ht).2⟩
  obtain ⟨t', a, b⟩ := h4 k hk
  by_cases e : t' = t
  · exact Or.inl (e ▸ b)
  · exact Or.inr ⟨t', a, e, b⟩
end
