/-! trials: lines of a text, the last one a call (SPEC) -/
abbrev Trl : Type := List (List Int32)
def txt (L : Trl) : List Int32 := L.flatMap (fun l => l ++ [10])
/-- the words of a line by itself -/
def ltk (l : List Int32) : List Tok := full l.length (tks (pT l) l.length 0)
/-- a line that runs a call -/
def runP (ts : List Tok) : (Nat × Nat) ⊕ (Nm × Nm × Kd × List Int32) := if isWd nRun ts = true then pCall ts.tail else .inl (er ts)
/-- a trial -/
def TrO (L : Trl) : Prop := (L ≠ [] ∧ L.length ≤ 60) ∧ (txt L).length ≤ 1201 ∧ (∀ l ∈ L, (10 : Int32) ∉ l) ∧ ∃ x, runP (ltk (L.getLastD [])) = .inr x
def calL (L : Trl) : Nm × Nm × Kd × List Int32 := match runP (ltk (L.getLastD [])) with
  | .inr x => x
  | .inl _ => ([], [], (0, []), [])
/-- what came of a thread: kind and number -/
def endL (l : Ln) : Int32 × Int32 := if lSt l = 1 then (5, 0) else if lSt l = 2 then (4, 100 * (lRs l).2.2.2 + (if 21 ≤ (lRs l).2.2.1 then 99 else (lRs l).2.2.1)) else if (lRs l).1 = 1 then (2, (lRs l).2.1) else (3, if (lRs l).1 = 3 then 1 else if (lRs l).1 = 4 then 2 else 0)
/-- the machine before and after a trial's run -/
noncomputable def trS (L : Trl) : Ms := yN (ms0 0) (up1 (zN (ms0 0)) 0 (newL (calL L) (cvl (calL L))))
noncomputable def outS (L : Trl) (br : Int32) : Int32 × Int32 := match runL br (txt L.dropLast).length (0, W21, noM) (lns (pT (txt L.dropLast)) (txt L.dropLast).length 0) with
  | .inl e => (1, Int32.ofNat e.1)
  | .inr W => endL (zN (gowS br W 300000 300 (trS L)).2 0)
theorem txt_app (L L' : Trl) : txt (L ++ L') = txt L ++ txt L' := by unfold txt; rw [List.flatMap_append]
theorem txt_last {L : Trl} (h : L ≠ []) : txt L = txt L.dropLast ++ (L.getLastD [] ++ [10]) := by
  rcases List.eq_nil_or_concat L with e | ⟨l, a, e⟩
  · exact absurd e h
  · rw [List.concat_eq_append] at e
    subst e
    rw [txt_app, List.dropLast_concat, List.getLastD_concat]
    have : txt [a] = a ++ [10] := by simp [txt]
    rw [this]
theorem gi_r (A B : List Int32) (i : Nat) : gi (A ++ B) (A.length + i) = gi B i := by
  show (A ++ B).getD _ 0 = B.getD i 0
  rw [List.getD_eq_getElem?_getD, List.getD_eq_getElem?_getD, List.getElem?_append_right (by omega), Nat.add_sub_cancel_left]
theorem gi_l {A B : List Int32} {i : Nat} (h : i < A.length) : gi (A ++ B) i = gi A i := by
  show (A ++ B).getD _ 0 = A.getD i 0
  rw [List.getD_eq_getElem?_getD, List.getD_eq_getElem?_getD, List.getElem?_append_left h]
/-- the last line lies at the end of the text -/
theorem smL_last {L : Trl} (h : L ≠ []) : smL (L.getLastD []).length (pT (txt L)) (pT (L.getLastD [])) (txt L.dropLast).length 0 := by
  have e := txt_last h
  have hl : (txt L).length = (txt L.dropLast).length + ((L.getLastD []).length + 1) := by rw [e]; simp only [List.length_append, List.length_singleton]
  have at0 : ∀ i, i ≤ (L.getLastD []).length → pT (txt L) ((txt L.dropLast).length + i) = gi (L.getLastD [] ++ [10]) i := fun i hi => by
    rw [pT_in (by omega), e, gi_r]
  have end0 : gi (L.getLastD [] ++ [10]) (L.getLastD []).length = 10 := by
    have := gi_r (L.getLastD []) [10] 0
    rw [Nat.add_zero] at this
    rw [this]; rfl
  refine ⟨fun i hi => ?_, ?_⟩
  · rw [at0 i hi, Nat.zero_add]
    by_cases c : i < (L.getLastD []).length
    · rw [pT_in c, gi_l c]
    · have : i = (L.getLastD []).length := by omega
      rw [this, end0, pT_end (L.getLastD []) _ (Nat.le_refl _)]
  · rw [at0 _ (Nat.le_refl _)]; exact end0
theorem txt_len {L : Trl} (h : L ≠ []) : (txt L).length = (txt L.dropLast).length + ((L.getLastD []).length + 1) := by
  rw [txt_last h]; simp only [List.length_append, List.length_singleton]
/-- the words of the last line, where it lies -/
theorem last_w {L : Trl} (h : L ≠ []) {to : Nat} : wds (full to (tks (pT (txt L)) (txt L).length (txt L.dropLast).length)) = wds (ltk (L.getLastD [])) := by
  have hl := txt_len h
  have k := tks_sh (pT_end (txt L)) (pT_end (L.getLastD [])) (smL_last h) (by omega) (by omega) ((L.getLastD []).length + 1) 0 (by omega) (Nat.zero_le _)
  rw [Nat.add_zero, Nat.add_zero] at k
  exact full_sh k
theorem TrO.cal {L : Trl} (h : TrO L) : runP (ltk (L.getLastD [])) = .inr (calL L) := by
  obtain ⟨x, e⟩ := h.2.2.2
  unfold calL
  rw [e]
theorem runP_in {ts : List Tok} {x : Nm × Nm × Kd × List Int32} (h : runP ts = .inr x) : isWd nRun ts = true ∧ pCall ts.tail = .inr x := by
  unfold runP at h
  by_cases c : isWd nRun ts = true
  · rw [if_pos c] at h; exact ⟨c, h⟩
  · rw [if_neg c] at h; cases h
theorem TrO.at {L : Trl} (h : TrO L) {to : Nat} : isWd nRun (full to (tks (pT (txt L)) (txt L).length (txt L.dropLast).length)) = true ∧ pCall (full to (tks (pT (txt L)) (txt L).length (txt L.dropLast).length)).tail = .inr (calL L) := by
  have k := last_w h.1.1 (to := to)
  obtain ⟨a, b⟩ := runP_in h.cal
  refine ⟨by rw [isWd_sh k]; exact a, ?_⟩
  have g := pCall_sh (wds_tl k)
  rw [b] at g
  generalize pCall (full to (tks (pT (txt L)) (txt L).length (txt L.dropLast).length)).tail = y at g ⊢
  cases y with
  | inl e => exact g.elim
  | inr z =>
    have g : z = calL L := g
    rw [g]
