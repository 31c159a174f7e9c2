/-! THE OPERATION trial: SPEC -/
/-- the bytes of a line -/
def rwL (p : Nat → Int32) (n s : Nat) : List Int32 := (List.range (nl p n s - s)).map (fun i => p (s + i))
/-- the lines of a tape that have words -/
def trLs (tp : List Int32) : Trl := (stL (pT tp) tp.length 0).map (rwL (pT tp) tp.length)
/-- what its last line says -/
def triR (tp : List Int32) : (Nat × Nat) ⊕ (Nm × Nm × Kd × List Int32) := if stL (pT tp) tp.length 0 = [] then .inl (1, tp.length) else runP ((lns (pT tp) tp.length 0).getLastD [])
def triO (T : List Trl) (tp : List Int32) : Int32 × Option Int32 × List Int32 × List Trl := if T.length = 40 ∨ 1200 < tp.length ∨ 60 < (trLs tp).length then (-3, none, tp, T) else match triR tp with
  | .inl e => (-11, some (Int32.ofNat e.2), [], T)
  | .inr _ => (Int32.ofNat T.length, some (-2), [], T ++ [trLs tp])
section
variable {p : Nat → Int32} {n s a to : Nat} {tp : List Int32} {BB : List Nm} {U1 : List (List Kd × Kd)}
theorem rw_len : (rwL p n s).length = nl p n s - s := by unfold rwL; rw [List.length_map, List.length_range]
theorem rw_gi {i : Nat} (h : i < nl p n s - s) : gi (rwL p n s) i = p (s + i) := by
  show ((List.range (nl p n s - s)).map (fun i => p (s + i))).getD i 0 = _
  rw [List.getD_eq_getElem?_getD, List.getElem?_map, List.getElem?_range h]; rfl
theorem rw_10 (hp : tend p n) (hs : s ≤ n) : (10 : Int32) ∉ rwL p n s := fun h => by
  obtain ⟨x1, x2, x3, x4⟩ := nl_ok hp hs
  obtain ⟨i, hi, e⟩ := List.mem_map.mp h
  exact x4 (s + i) (by omega) (by have := List.mem_range.mp hi; omega) e
theorem rw_sm (hp : tend p n) (hs : s ≤ n) : smL (rwL p n s).length p (pT (rwL p n s)) s 0 := by
  obtain ⟨x1, x2, x3, x4⟩ := nl_ok hp hs
  rw [rw_len]
  refine ⟨fun i hi => ?_, by rw [show s + (nl p n s - s) = nl p n s by omega]; exact x3⟩
  rw [Nat.zero_add]
  by_cases c : i < nl p n s - s
  · rw [pT_in (by rw [rw_len]; exact c), rw_gi c]
  · have : i = nl p n s - s := by omega
    rw [pT_end (rwL p n s) _ (by rw [rw_len]; omega), this, show s + (nl p n s - s) = nl p n s by omega]; exact x3
theorem rw_wds (hp : tend p n) (hs : s ≤ n) : wds (full to (tks p n s)) = wds (ltk (rwL p n s)) := by
  obtain ⟨x1, x2, x3, x4⟩ := nl_ok hp hs
  have k := tks_sh hp (pT_end (rwL p n s)) (rw_sm hp hs) (by rw [rw_len]; omega) (by omega) ((rwL p n s).length + 1) 0 (by omega) (Nat.zero_le _)
  rw [Nat.add_zero, Nat.add_zero] at k
  exact full_sh k
theorem st_le (hp : tend p n) : ∀ f a, a ≤ n → ∀ s ∈ lsBg p n f a, s ≤ n
  | 0, a, _, s, h => by cases h
  | f + 1, a, ha, s, h => by
    obtain ⟨x1, x2, x3, x4⟩ := nl_ok hp ha
    have rest : ∀ s ∈ (if nl p n a + 1 < n then lsBg p n f (nl p n a + 1) else []), s ≤ n := by
      split
      · exact st_le hp f _ (by omega)
      · intro s hs; cases hs
    unfold lsBg at h
    split at h
    · exact rest s h
    · rcases List.mem_cons.mp h with z | z
      · rw [z]; exact ha
      · exact rest s z
theorem st_txt (hp : tend p n) : ∀ f a, a ≤ n → (txt ((lsBg p n f a).map (rwL p n))).length ≤ n + 1 - a
  | 0, a, _ => Nat.zero_le _
  | f + 1, a, ha => by
    obtain ⟨x1, x2, x3, x4⟩ := nl_ok hp ha
    have rest : (txt ((if nl p n a + 1 < n then lsBg p n f (nl p n a + 1) else []).map (rwL p n))).length ≤ n - nl p n a := by
      split
      · have := st_txt hp f (nl p n a + 1) (by omega)
        omega
      · exact Nat.zero_le _
    unfold lsBg
    split
    · omega
    · rw [List.map_cons, txt_cons, List.length_append, List.length_append, List.length_singleton, rw_len]
      omega
theorem tr_len : (txt (trLs tp)).length ≤ tp.length + 1 := st_txt (pT_end tp) _ 0 (Nat.zero_le _)
theorem tr_in {l : List Int32} (h : l ∈ trLs tp) : ∃ s, s ≤ tp.length ∧ s ∈ stL (pT tp) tp.length 0 ∧ l = rwL (pT tp) tp.length s := by
  obtain ⟨s, hs, e⟩ := List.mem_map.mp h
  exact ⟨s, st_le (pT_end tp) _ 0 (Nat.zero_le _) s hs, hs, e.symm⟩
theorem lns_mem {s : Nat} (h : s ∈ stL p n a) : full (nl p n s) (tks p n s) ∈ lns p n a := by
  rw [lns_st]; exact List.mem_map_of_mem h
theorem getLastD_map {α β : Type} {f : α → β} {l : List α} {d : β} {e : α} (h : l ≠ []) : (l.map f).getLastD d = f (l.getLastD e) := by
  rcases List.eq_nil_or_concat l with q | ⟨m, x, q⟩
  · exact absurd q h
  · rw [q, List.concat_eq_append, List.map_append, List.map_singleton, List.getLastD_concat, List.getLastD_concat]
theorem getLastD_in {α : Type} {l : List α} {e : α} (h : l ≠ []) : l.getLastD e ∈ l := by
  rcases List.eq_nil_or_concat l with q | ⟨m, x, q⟩
  · exact absurd q h
  · rw [q, List.concat_eq_append, List.getLastD_concat]; simp
/-- a tape that tells a trial -/
theorem tri_ok {x : Nm × Nm × Kd × List Int32} (h6 : (trLs tp).length ≤ 60) (hn : tp.length ≤ 1200) (hr : triR tp = .inr x) : TrO (trLs tp) := by
  unfold triR at hr
  by_cases c : stL (pT tp) tp.length 0 = []
  · rw [if_pos c] at hr; cases hr
  rw [if_neg c] at hr
  have hp := pT_end tp
  have hls : (stL (pT tp) tp.length 0).getLastD 0 ≤ tp.length := st_le hp _ 0 (Nat.zero_le _) _ (getLastD_in c)
  have e1 : (lns (pT tp) tp.length 0).getLastD [] = full (nl (pT tp) tp.length ((stL (pT tp) tp.length 0).getLastD 0)) (tks (pT tp) tp.length ((stL (pT tp) tp.length 0).getLastD 0)) := by
    rw [lns_st, getLastD_map (e := 0) c]
  have e2 : (trLs tp).getLastD [] = rwL (pT tp) tp.length ((stL (pT tp) tp.length 0).getLastD 0) := getLastD_map (e := 0) c
  rw [e1] at hr
  have w := rw_wds (to := nl (pT tp) tp.length ((stL (pT tp) tp.length 0).getLastD 0)) hp hls
  obtain ⟨a1, a2⟩ := runP_in hr
  have hl := tr_len (tp := tp)
  refine ⟨⟨fun z => c ?_, h6⟩, by omega, fun l hl => ?_, x, ?_⟩
  · have := congrArg List.length z
    unfold trLs at this
    rw [List.length_map] at this
    exact List.length_eq_zero_iff.mp this
  · obtain ⟨s, hs, -, e⟩ := tr_in hl
    rw [e]; exact rw_10 hp hs
  · rw [e2]
    unfold runP
    rw [if_pos (by rw [← isWd_sh w]; exact a1)]
    have g := pCall_sh (wds_tl w)
    rw [a2] at g
    generalize pCall (ltk (rwL (pT tp) tp.length ((stL (pT tp) tp.length 0).getLastD 0))).tail = y at g ⊢
    cases y with
    | inl e => exact g.elim
    | inr z =>
      have g : x = z := g
      rw [g]
theorem tri_nm (h : ∀ l ∈ lns (pT tp) tp.length 0, NB BB l) : nmL BB (trLs tp) := fun l hl => by
  obtain ⟨s, hs, hm, e⟩ := tr_in hl
  rw [e]
  exact NB_sh (rw_wds (to := nl (pT tp) tp.length s) (pT_end tp) hs).symm (h _ (lns_mem hm))
theorem tri_ul (h : ∀ l ∈ lns (pT tp) tp.length 0, UL (U1, []) l) : ulL U1 (trLs tp) := fun l hl => by
  obtain ⟨s, hs, hm, e⟩ := tr_in hl
  rw [e]
  exact UL_sh rfl (rw_wds (to := nl (pT tp) tp.length s) (pT_end tp) hs).symm (h _ (lns_mem hm))
end
