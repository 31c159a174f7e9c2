/-! SPEC: the machine before a trial's run -/
theorem pVals_len : ∀ {f : Nat} {vs : List Int32} {ts : List Tok} {ws : List Int32} {t2 : List Tok}, pValsF f vs ts = .inr (ws, t2) → ws.length = vs.length + f
  | 0, vs, ts, ws, t2, h => by
    unfold pValsF at h
    cases h; rfl
  | f + 1, vs, ts, ws, t2, h => by
    unfold pValsF at h
    cases e1 : pSign (if vs.length = 0 then 58 else 44) ts with
    | inl e => rw [e1] at h; cases h
    | inr u =>
      obtain ⟨u0, t1⟩ := u
      rw [e1] at h
      dsimp only at h
      cases e2 : pNum i32min i32max t1 with
      | inl e => rw [e2] at h; cases h
      | inr u =>
        obtain ⟨v, t3⟩ := u
        rw [e2] at h
        dsimp only at h
        have := pVals_len h
        rw [List.length_append, List.length_singleton] at this
        omega
theorem pCall_len {ts : List Tok} {x : Nm × Nm × Kd × List Int32} (h : pCall ts = .inr x) : x.2.2.2.length ≤ 6 := by
  unfold pCall at h
  cases e1 : pCls ts with
  | inl e => rw [e1] at h; cases h
  | inr u =>
    obtain ⟨k, t1⟩ := u
    rw [e1] at h
    have h : pC1 k t1 = .inr x := h
    unfold pC1 at h
    cases e2 : pSign 46 t1 with
    | inl e => rw [e2] at h; cases h
    | inr u =>
      obtain ⟨u0, t2⟩ := u
      rw [e2] at h
      have h : pC2 k t2 = .inr x := h
      unfold pC2 at h
      cases e3 : pName t2 with
      | inl e => rw [e3] at h; cases h
      | inr u =>
        obtain ⟨m, t3⟩ := u
        rw [e3] at h
        have h : pC3 k m t3 = .inr x := h
        unfold pC3 at h
        cases e4 : pSign 40 t3 with
        | inl e => rw [e4] at h; cases h
        | inr u =>
          obtain ⟨u0, t4⟩ := u
          rw [e4] at h
          dsimp only at h
          cases e5 : pNumsF (t4.length + 1) 0 t4 with
          | inl e => rw [e5] at h; cases h
          | inr u =>
            obtain ⟨n, t5⟩ := u
            rw [e5] at h
            have h6 := (pNumsF_le _ _ _ _ _ (Nat.zero_le 6) e5).2
            have h : pCall2 k m n t5 = .inr x := h
            unfold pCall2 at h
            cases e6 : pRes t5 with
            | inl e => rw [e6] at h; cases h
            | inr u =>
              obtain ⟨κ, t6⟩ := u
              rw [e6] at h
              dsimp only at h
              cases e7 : pValsF n [] t6 with
              | inl e => rw [e7] at h; cases h
              | inr u =>
                obtain ⟨vs, t7⟩ := u
                rw [e7] at h
                dsimp only at h
                have hl := pVals_len e7
                cases e8 : pEnd t7 with
                | some e => rw [e8] at h; cases h
                | none =>
                  rw [e8] at h
                  cases h
                  show vs.length ≤ 6
                  rw [hl, List.length_nil]; omega
theorem ltk_nm {l : List Int32} : ∀ t ∈ ltk l, t.1 = 2 → t.2.1 ≠ nMake ∧ t.2.1 ≠ nStart := fun t ht h2 => by
  have key : ∀ t ∈ tks (pT l) l.length 0, okT l.length t := tks_ok (pT_end l) (l.length + 2) 0 (by omega) (by omega)
  unfold ltk full at ht
  split at ht
  · rcases List.mem_append.1 ht with z | z
    · exact ((key t z).2.2.1 h2).2.2
    · rw [List.mem_singleton.1 z] at h2; exact absurd (show (0 : Nat) = 2 from h2) (by decide)
  · exact ((key t ht).2.2.1 h2).2.2
theorem TrO.ca {L : Trl} (h : TrO L) : caO (lCa (newL (calL L) (cvl (calL L)))) := by
  obtain ⟨a, b⟩ := runP_in h.cal
  obtain ⟨n1, n2⟩ := pCall_nm (fun t ht => ltk_nm t (List.mem_of_mem_tail ht)) b
  exact caO.of (pCall_len b) (pCall_kd b) n1 n2
theorem trS_ok {W : List Cls} {L : Trl} (hL : TrO L) (hB : BI W) (hne : ∀ c, c < W.length → (gc W c).1 ≠ []) (hty : ∀ c, c < W.length → ∀ f, f < (gc W c).2.2.2.2.1.length → tyOk (gfl (gc W c) f).2.1) : (WI W 1 (trS L) ∧ NWt (trS L) ∧ TI2 50 (trS L)) ∧ RkN (trS L) := by
  obtain ⟨h1, h2, h3⟩ := WIB (k := 0) (K := 0) hB hne hty
  have off : lSt (zN (ms0 0) 0) ≠ 1 := by show (0 : Nat) ≠ 1; decide
  exact ⟨⟨h1.cl (by omega) off hL.ca, h2.cl, h3.cl h2 (by omega) off⟩, RkN.cl (fun t => Or.inl rfl)⟩
