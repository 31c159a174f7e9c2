/-! B: a definition in one world leaves the others -/
theorem XW_i {i : Nat} : ∀ s ∈ XW i, s.1 = 12 ∧ s.2.1 = i := fun s hs => by
  simp only [List.mem_cons, List.not_mem_nil, or_false] at hs
  rcases hs with e | e | e | e | e | e | e | e | e | e <;> rw [e] <;> exact ⟨rfl, rfl⟩
theorem XT_w {w : Nat} : ∀ s ∈ XT w, s.1 = 11 ∨ s.2.1 = w := fun s hs => by
  simp only [List.mem_cons, List.not_mem_nil, or_false] at hs
  rcases hs with e | e | e | e | e | e | e | e | e | e | e | e | e | e | e | e | e | e | e | e | e | e | e | e | e <;> rw [e] <;> first | exact Or.inl rfl | exact Or.inr rfl
theorem TWx.other {G : List Sl} {A A' : List Nm} {S S' : List Sg} {W : List Cls} {i w : Nat} {br : Int32} {nq nl nf nk c0 a0 a1 a2 a3 : Nat} {M M' : Mem} (h : TWx A S W i br nq nl nf nk M) (hk : KR G w c0 a0 a1 a2 a3 M M') (hx : Gx G i) (hi : i ≠ w) (hA : A <+: A') (hl : A'.length ≤ 200000) (hS : S <+: S') : TWx A' S' W i br nq nl nf nk M' := by
  have hw := hx.2.2.2.1
  unfold TWx at h ⊢
  refine TW.pre (h.of (fun f hf => ⟨fun k => ?_, ?_⟩) (fun k hk' => ?_) (by rw [mR_sR, if_pos ⟨rfl, rfl, rfl⟩, mR_sR, if_pos ⟨rfl, rfl, rfl⟩]) (fun s hs => ?_)) hA hl hS
  · exact (hk.2.1.1 f hf).1 i k (Or.inl hi)
  · exact (hk.2.1.1 f hf).2 i
  · have : k < 72 := by
      simp only [List.mem_cons, List.not_mem_nil, or_false] at hk'
      omega
    exact hk.2.1.2 i k hi this
  · have hn : s ∉ XT w := fun q => by
      obtain ⟨e1, e2⟩ := XW_i s hs
      rcases XT_w s q with e | e
      · rw [e1] at e; exact absurd e (by decide)
      · exact hi (e2.symm.trans e)
    have r1 := rd_fr (sR_fr (M := M') (w := i)) hx.1 rfl (hw s hs)
    have r2 := rd_fr (sR_fr (M := M) (w := i)) hx.1 rfl (hw s hs)
    have r3 := hk.1.2.1 s (hw s hs) hn
    exact ⟨fun k => (r1.1 k).trans ((r3.1 k).trans (r2.1 k).symm), r1.2.trans (r3.2.1.trans r2.2.symm)⟩
