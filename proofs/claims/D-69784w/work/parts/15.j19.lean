/-! SPEC: a trial's run -/
theorem pCall_nm {ts : List Tok} {x : Nm × Nm × Kd × List Int32} (hok : ∀ t ∈ ts, t.1 = 2 → t.2.1 ≠ nMake ∧ t.2.1 ≠ nStart) (h : pCall ts = .inr x) : x.2.1 ≠ nMake ∧ x.2.1 ≠ nStart := by
  unfold pCall at h
  cases e1 : pCls ts with
  | inl e => rw [e1] at h; cases h
  | inr u =>
    obtain ⟨k, t1⟩ := u
    rw [e1] at h
    have h : pC1 k t1 = .inr x := h
    have s1 : t1 = ts.tail := by
      unfold pCls at e1
      split at e1
      · cases e1; rfl
      · cases e1
    unfold pC1 at h
    cases e2 : pSign 46 t1 with
    | inl e => rw [e2] at h; cases h
    | inr u =>
      obtain ⟨u0, t2⟩ := u
      rw [e2] at h
      have h : pC2 k t2 = .inr x := h
      have s2 : t2 = t1.tail := by
        unfold pSign at e2
        split at e2
        · cases e2; rfl
        · cases e2
      unfold pC2 at h
      cases e3 : pName t2 with
      | inl e => rw [e3] at h; cases h
      | inr u =>
        obtain ⟨m, t3⟩ := u
        rw [e3] at h
        have h : pC3 k m t3 = .inr x := h
        have hm : m ≠ nMake ∧ m ≠ nStart := by
          unfold pName at e3
          split at e3
          · rename_i c
            cases e3
            cases t2 with
            | nil => exact absurd c (by decide)
            | cons a l =>
              refine hok a ?_ c
              have : a ∈ t1 := List.mem_of_mem_tail (s2 ▸ List.mem_cons_self ..)
              exact List.mem_of_mem_tail (s1 ▸ this)
          · cases e3
        have hx : x.2.1 = m := by
          unfold pC3 at h
          cases e4 : pSign 40 t3 with
          | inl e => rw [e4] at h; cases h
          | inr u =>
            obtain ⟨u0, t4⟩ := u
            rw [e4] at h
            dsimp only at h
            cases e5 : pNumsF (t4.length + 1) 0 t4 with
            | inl e => rw [e5] at h; cases h
            | inr u =>
              obtain ⟨n, t5⟩ := u
              rw [e5] at h
              have h : pCall2 k m n t5 = .inr x := h
              unfold pCall2 at h
              cases e6 : pRes t5 with
              | inl e => rw [e6] at h; cases h
              | inr u =>
                obtain ⟨κ, t6⟩ := u
                rw [e6] at h
                dsimp only at h
                cases e7 : pValsF n [] t6 with
                | inl e => rw [e7] at h; cases h
                | inr u =>
                  obtain ⟨vs, t7⟩ := u
                  rw [e7] at h
                  dsimp only at h
                  cases e8 : pEnd t7 with
                  | some e => rw [e8] at h; cases h
                  | none => rw [e8] at h; cases h; rfl
        rw [hx]; exact hm
