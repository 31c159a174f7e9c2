/-! a trial's outcome tells a rule (SPEC) -/
section
variable {W W' : List Cls} {br : Int32} {n : Nat} {L : Trl} {e : Nat × Nat}
def lenS (st : PSt) : Prop := st.2.1.length ≤ 51 ∧ ∀ c ∈ st.2.1, c.1 ≠ []
theorem set_nm {W : List Cls} {i : Nat} {x : Cls} (h : ∀ c ∈ W, c.1 ≠ []) (hi : i < W.length → x.1 = (gc W i).1) : ∀ c ∈ W.set i x, c.1 ≠ [] := fun c hc => by
  by_cases hl : i < W.length
  · rcases List.mem_or_eq_of_mem_set hc with z | z
    · exact h c z
    · rw [z, hi hl]; exact h _ (gc_mem hl)
  · rw [List.set_eq_of_length_le (by omega)] at hc; exact h c hc
theorem bLine_len {l : List Tok} {st : PSt} (h : lenS (0, W, noM)) (hb : bLine br W l = .inr st) : lenS st := by
  obtain ⟨h1, h2⟩ := h
  unfold bLine at hb
  split at hb
  · split at hb
    · cases hb
    · split at hb
      · cases hb
        exact ⟨by show (addF W _ _).length ≤ 51; rw [addF_len]; exact h1, set_nm h2 (fun _ => rfl)⟩
      · cases hb
  split at hb
  · split at hb
    · cases hb
    · split at hb
      · split at hb
        · cases hb
          exact ⟨h1, h2⟩
        · cases hb
          exact ⟨by show (addM W _).length ≤ 51; rw [addM_len]; exact h1, set_nm h2 (fun _ => rfl)⟩
      · cases hb
  split at hb
  · split at hb
    · cases hb
      exact ⟨h1, h2⟩
    · cases hb
  · cases hb
theorem pFlags_suf {f : Nm → Int32} : ∀ (n : Nat) (b : Int32) (ts : List Tok), (pFlags f n b ts).2 <:+ ts
  | 0, b, ts => List.suffix_rfl
  | n + 1, b, ts => by
    unfold pFlags
    split
    · exact (pFlags_suf n _ _).trans (List.tail_suffix _)
    · exact List.suffix_rfl
theorem hd_mem {ts : List Tok} (h : (hd ts).1 = 2) : hd ts ∈ ts := by
  cases ts with
  | nil => cases h
  | cons a l => exact List.mem_cons_self ..
theorem pClass_nm {ts t5 : List Tok} {bits : Int32} {own par : Nm} {fs : List Nm} (hs : okS ts) (h : pClass ts = .inr ((bits, own, par, fs), t5)) : own ≠ [] := by
  unfold pClass at h
  have hsf := pFlags_suf (f := flg nFinal nAbstract nFace none) (ts.length + 1) 0 ts
  generalize pFlags (flg nFinal nAbstract nFace none) (ts.length + 1) 0 ts = pf at h hsf
  obtain ⟨b, t1⟩ := pf
  dsimp only at h hsf
  split at h
  · cases h
  · rename_i q
    cases h
    unfold pClassT at q
    split at q
    · split at q
      · cases q
      · rename_i q2
        split at q
        · cases q
        split at q
        · cases q
        split at q
        · cases q
        cases q
        unfold pCls at q2
        split at q2
        · rename_i c
          cases q2
          exact (hs _ (hsf.subset (List.mem_of_mem_tail (hd_mem c.1)))).2 c.1
        · cases q2
    · cases q
theorem stp_len {st st' : PSt} {l : List Tok} (hl : okS l) (h : lenS st) (hs : stp br st l = .inr st') : lenS st' := by
  obtain ⟨h1, h2⟩ := h
  unfold stp at hs
  by_cases c0 : st.1 = 0
  · rw [if_pos c0] at hs
    unfold cLine at hs
    split at hs
    · cases hs
    · rename_i bits own par fs t5 hq
      split at hs
      · rename_i h99
        cases hs
        refine ⟨?_, fun c hc => ?_⟩
        · show (st.2.1 ++ _).length ≤ 51
          rw [List.length_append, List.length_singleton]
          have : st.2.1.length ≠ 51 := fun z => by
            unfold rulC at h99
            rw [if_pos (Or.inr z : 4 < fs.length ∨ st.2.1.length = 51)] at h99
            repeat' split at h99
            all_goals exact absurd h99 (by decide)
          omega
        · rcases List.mem_append.mp hc with z | z
          · exact h2 c z
          · rw [List.mem_singleton.mp z]; exact pClass_nm hl hq
      · cases hs
  rw [if_neg c0] at hs
  by_cases c1 : st.1 = 1
  · rw [if_pos c1] at hs
    exact bLine_len ⟨h1, h2⟩ hs
  rw [if_neg c1] at hs
  by_cases c2 : st.1 = 2
  · rw [if_pos c2] at hs
    unfold rLine at hs
    split at hs
    · cases hs
    · rename_i a b _ hq
      by_cases hlt : b < Int32.ofNat (st.2.2.1.2.1.length + (if st.2.2.1.2.2.2.1 &&& 1 = 0 then 1 else 0))
      · rw [if_pos hlt] at hs; cases hs
      · rw [if_neg hlt] at hs
        cases hs
        exact ⟨h1, h2⟩
  rw [if_neg c2] at hs
  unfold kLine at hs
  split at hs
  · split at hs
    · cases hs
    · rename_i m he
      exact bLine_len (W := addM st.2.1 m) ⟨by show (addM st.2.1 m).length ≤ 51; rw [addM_len]; exact h1, set_nm h2 (fun _ => rfl)⟩ hs
  split at hs
  · split at hs
    · cases hs
    · split at hs
      · cases hs
      · cases hs
        exact ⟨h1, h2⟩
  split at hs
  · split at hs
    · cases hs
    · split at hs
      · cases hs
      · cases hs
        exact ⟨h1, h2⟩
  unfold iLine at hs
  split at hs
  split at hs
  · cases hs
    exact ⟨h1, h2⟩
  · split at hs
    · cases hs
    · split at hs
      · cases hs
      · cases hs
        exact ⟨h1, h2⟩
theorem runL_len : ∀ {ls : List (List Tok)} {st : PSt} {W' : List Cls}, (∀ l ∈ ls, okS l) → lenS st → runL br n st ls = .inr W' → W'.length ≤ 51 ∧ ∀ c ∈ W', c.1 ≠ []
  | [], st, W', _, h, e => by
    unfold runL at e
    split at e
    · cases e; exact h
    · cases e
  | l :: ls, st, W', hl, h, e => by
    unfold runL at e
    split at e
    · cases e
    · rename_i q
      exact runL_len (fun x hx => hl x (List.mem_cons_of_mem _ hx)) (stp_len (hl l (List.mem_cons_self ..)) h q) e
theorem W21_nm : ∀ c ∈ W21, c.1 ≠ [] := by decide
/-- the worlds of trials -/
theorem run_WO {p : Nat → Int32} (hp : tend p n) (e : runL br n (0, W21, noM) (lns p n 0) = .inr W') : WO W' ∧ (∀ c, c < W'.length → (gc W' c).1 ≠ []) ∧ ∀ c, c < W'.length → ∀ f, f < (gc W' c).2.2.2.2.1.length → tyOk (gfl (gc W' c) f).2.1 := by
  have w21 := W21_n
  obtain ⟨a, b⟩ := runL_len (st := (0, W21, noM)) (lns_s hp).1 ⟨by show W21.length ≤ 51; rw [w21.1]; omega, W21_nm⟩ e
  have hBI : BI W' := WO21.1.pre (run_pre e)
  have hWC := WO21.2.2.1.run (by rw [w21.1]; omega) e
  exact ⟨⟨hBI, (WO21.2.1.run (by rw [w21.1]; omega) e).1, hWC, a⟩, fun c hc => b _ (gc_mem hc), fun c hc f hf => ((hWC.1 _ (gc_mem hc)).1.1 _ (getD_mem hf)).1⟩
/-- the rule that a trial meets (sealed: it is not reckoned with) -/
noncomputable def metN (L : Trl) : Int32 := Classical.choose (⟨_, rfl⟩ : ∃ v : Int32, v = if (outS L 0).1 = 1 then (outS L 0).2 else if (outS L 0).1 = 4 then (outS L 0).2 / 100 else 0)
theorem metN_eq (L : Trl) : metN L = if (outS L 0).1 = 1 then (outS L 0).2 else if (outS L 0).1 = 4 then (outS L 0).2 / 100 else 0 := Classical.choose_spec (⟨_, rfl⟩ : ∃ v : Int32, v = if (outS L 0).1 = 1 then (outS L 0).2 else if (outS L 0).1 = 4 then (outS L 0).2 / 100 else 0)
theorem ruB_in {v : Int32} (h : ruB v = true) : ∃ m, m < 60 ∧ v = Int32.ofNat m := by
  have h0 : ¬ v < 0 ∧ v ≤ 59 := by
    unfold ruB at h
    simp only [Bool.or_eq_true, Bool.and_eq_true, decide_eq_true_eq, beq_iff_eq] at h
    simp only [Int32.le_iff_toInt_le, Int32.lt_iff_toInt_lt] at h ⊢
    have e1 : (1 : Int32).toInt = 1 := rfl
    have e14 : (14 : Int32).toInt = 14 := rfl
    have e20 : (20 : Int32).toInt = 20 := rfl
    have e25 : (25 : Int32).toInt = 25 := rfl
    have e30 : (30 : Int32).toInt = 30 := rfl
    have e43 : (43 : Int32).toInt = 43 := rfl
    have e50 : (50 : Int32).toInt = 50 := rfl
    have e59 : (59 : Int32).toInt = 59 := rfl
    have e0 : (0 : Int32).toInt = 0 := rfl
    rcases h with (((z | z) | z) | z) | z
    · rw [z, e0, e59]; omega
    · omega
    · omega
    · omega
    · omega
  refine ⟨v.toNatClampNeg, ?_, (ofNat_tnc h0.1).symm⟩
  have := h0.2
  rw [← ofNat_tnc h0.1, lit32 59] at this
  have := (oN_le (tnc_lt _) (by omega)).mp this
  omega
theorem RuN_tr (L : Trl) : RuN (trS L) := by
  refine ⟨LG21, fun f hf => absurd hf (List.not_mem_nil), fun r d h => ?_, fun t ht => ?_⟩
  · have : (none : Option Nat) = some d := h
    cases this
  · have ht : lSt (up1 (zN (ms0 0)) 0 (newL (calL L) (cvl (calL L))) t) = 2 := ht
    by_cases e : t = 0
    · rw [e, up1_s] at ht
      exact absurd (show (1 : Nat) = 2 from ht) (by decide)
    · rw [up1_o e] at ht
      exact absurd (show (0 : Nat) = 2 from ht) (by decide)
theorem met_o {o : Int32 × Int32} (h1 : o.1 = 1 → ruB o.2 = true) (h4 : o.1 = 4 → ruB (o.2 / 100) = true) : ruB (if o.1 = 1 then o.2 else if o.1 = 4 then o.2 / 100 else 0) = true := by
  by_cases c1 : o.1 = 1
  · rw [if_pos c1]; exact h1 c1
  rw [if_neg c1]
  by_cases c4 : o.1 = 4
  · rw [if_pos c4]; exact h4 c4
  · rw [if_neg c4]; rfl
/-- the rule that a trial meets is one -/
theorem met_ru (hL : TrO L) : ruB (metN L) = true := by
  have key : ((outS L 0).1 = 1 → ruB (outS L 0).2 = true) ∧ ((outS L 0).1 = 4 → ruB ((outS L 0).2 / 100) = true) := by
    cases er : runL 0 (txt L.dropLast).length (0, W21, noM) (lns (pT (txt L.dropLast)) (txt L.dropLast).length 0) with
    | inl e =>
      have eo : outS L 0 = (1, Int32.ofNat e.1) := by unfold outS; rw [er]
      rw [eo]
      have h := runL_e er
      exact ⟨fun _ => ru_is e.1 (by have := h.2; omega) (Or.inl h), fun z => absurd (show (1 : Int32) = 4 from z) (by decide)⟩
    | inr W' =>
      have eo : outS L 0 = endL (zN (gowS 0 W' 300000 300 (trS L)).2 0) := by unfold outS; rw [er]
      rw [eo]
      obtain ⟨hWO, hne, hty⟩ := run_WO (pT_end _) er
      obtain ⟨⟨hWI, -, -⟩, -⟩ := trS_ok hL hWO.1 hne hty
      have hr := gow_ru (br := 0) (f := 300000) (n := 300) hWO hWI.1 (by show 0 + 300 + 1 + 300 < 1000000; omega) (RuN_tr L)
      clear eo er
      generalize (gowS 0 W' 300000 300 (trS L)).2 = y at hr ⊢
      have h := hr.2.2.2 0
      unfold endL
      by_cases c1 : lSt (zN y 0) = 1
      · rw [if_pos c1]
        exact ⟨fun z => absurd (show (5 : Int32) = 1 from z) (by decide), fun z => absurd (show (5 : Int32) = 4 from z) (by decide)⟩
      rw [if_neg c1]
      by_cases c2 : lSt (zN y 0) = 2
      · obtain ⟨c, hc, ec, hru⟩ := h c2
        rw [if_pos c2]
        refine ⟨fun z => absurd (show (4 : Int32) = 1 from z) (by decide), fun _ => ?_⟩
        show ruB ((100 * (lRs (zN y 0)).2.2.2 + (if (21 : Int32) ≤ (lRs (zN y 0)).2.2.1 then (99 : Int32) else (lRs (zN y 0)).2.2.1)) / 100) = true
        obtain ⟨m, hm, em⟩ := ruB_in hru
        have : ∃ k, k < 100 ∧ (if (21 : Int32) ≤ (lRs (zN y 0)).2.2.1 then (99 : Int32) else (lRs (zN y 0)).2.2.1) = Int32.ofNat k := by
          rw [ec]
          by_cases c21 : (21 : Int32) ≤ Int32.ofNat c
          · exact ⟨99, by omega, by rw [if_pos c21]; rfl⟩
          · refine ⟨c, ?_, by rw [if_neg c21]⟩
            have : ¬ 21 ≤ c := fun z => c21 ((oN_le (a := 21) (by omega) (by omega)).mpr z)
            omega
        obtain ⟨k, hk, ek⟩ := this
        rw [ek, em, lit32 100, oN_mul, oN_add, oN_div (by omega) (by omega), show (100 * m + k) / 100 = m by omega, ← em]
        exact hru
      rw [if_neg c2]
      by_cases c3 : (lRs (zN y 0)).1 = 1
      · rw [if_pos c3]
        exact ⟨fun z => absurd (show (2 : Int32) = 1 from z) (by decide), fun z => absurd (show (2 : Int32) = 4 from z) (by decide)⟩
      · rw [if_neg c3]
        exact ⟨fun z => absurd (show (3 : Int32) = 1 from z) (by decide), fun z => absurd (show (3 : Int32) = 4 from z) (by decide)⟩
  rw [metN_eq]
  exact met_o key.1 key.2
end
