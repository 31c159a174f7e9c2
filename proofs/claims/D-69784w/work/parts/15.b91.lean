/-! B: what a line may change in the twin -/
/-- since M0: slots of reading alone, other worlds and classes below c0, code below bounds -/
def KR (G : List Sl) (w c0 a0 a1 a2 a3 : Nat) (M0 M : Mem) : Prop := GF G (XT w) M0 M ∧ LoT w c0 M0 M ∧ Rk w a0 a1 a2 a3 M0 M
theorem KR.trans {G : List Sl} {w c0 a0 a1 a2 a3 : Nat} {M0 M M' : Mem} (h : KR G w c0 a0 a1 a2 a3 M0 M) (h1 : KR G w c0 a0 a1 a2 a3 M M') : KR G w c0 a0 a1 a2 a3 M0 M' := ⟨h.1.trans h1.1, h.2.1.trans h1.2.1, h.2.2.trans h1.2.2⟩
theorem KR.fr {G : List Sl} {w c0 a0 a1 a2 a3 : Nat} {M0 M M' : Mem} {F : Nat} (h : KR G w c0 a0 a1 a2 a3 M0 M) (hf : Fr F M M') (hG : Ga G) (hw : Gw G w) (hS : sOk F = true := by rfl) (hL : lOk F = true := by rfl) : KR G w c0 a0 a1 a2 a3 M0 M' := ⟨h.1.fr hf hG hS, h.2.1.fr hf hL, h.2.2.trans (Rk.fr hf hG hw hS)⟩
theorem KR.gf {G X : List Sl} {w c0 a0 a1 a2 a3 : Nat} {M0 M M' : Mem} {F : Nat} (h : KR G w c0 a0 a1 a2 a3 M0 M) (hf : Fr F M M') (hg : GF G X M M') (hw : Gw G w) (hX : ∀ s ∈ XW w, s ∉ X) (hT : ∀ s ∈ X, s ∈ XT w) (hL : lOk F = true := by rfl) : KR G w c0 a0 a1 a2 a3 M0 M' := ⟨h.1.trans (hg.sub hT), h.2.1.fr hf hL, h.2.2.trans (Rk.gf hg hw hX)⟩
def tOk (S : Nat) : Bool := !S.testBit (cd 11 45) && lOk S
theorem tw_fr {F : Nat} {w : Nat} {M M' : Mem} (hf : Fr F M M') (h : tOk F = true) : (∀ f, tFm f = true → (∀ k, mI M' f w k = mI M f w k) ∧ mL M' f w = mL M f w) ∧ (∀ k ∈ [1, 2, 35, 37, 41, 43], mI M' 12 w k = mI M 12 w k) ∧ mR M' 11 0 45 = mR M 11 0 45 := by
  unfold tOk at h
  rw [Bool.and_eq_true] at h
  obtain ⟨h1, h2⟩ := h
  have lo := (LoT.rf (w + 1) 0 M).fr hf h2
  refine ⟨fun f hf' => ⟨fun k => (lo.1 f hf').1 w k (Or.inl (by omega)), (lo.1 f hf').2 w⟩, fun k hk => lo.2 w k (by omega) ?_, hf.R (by simpa using h1) 0⟩
  simp only [List.mem_cons, List.not_mem_nil, or_false] at hk; omega
theorem TW.fr {G : List Sl} {A : List Nm} {S : List Sg} {W : List Cls} {w : Nat} {br : Int32} {e q0 nl0 nq nl nf nk : Nat} {M M' : Mem} {F : Nat} (h : TW A S W w br e q0 nl0 nq nl nf nk M) (hf : Fr F M M') (hG : Ga G) (hw : Gw G w) (hS : sOk F = true := by rfl) (hT : tOk F = true := by rfl) : TW A S W w br e q0 nl0 nq nl nf nk M' :=
  h.of (tw_fr (w := w) hf hT).1 (tw_fr (w := w) hf hT).2.1 (tw_fr (w := w) hf hT).2.2 (fun s hs => rd_fr hf hG hS (hw s hs))
theorem TW.gf {G X : List Sl} {A : List Nm} {S : List Sg} {W : List Cls} {w : Nat} {br : Int32} {e q0 nl0 nq nl nf nk : Nat} {M M' : Mem} {F : Nat} (h : TW A S W w br e q0 nl0 nq nl nf nk M) (hf : Fr F M M') (hg : GF G X M M') (hw : Gw G w) (hX : ∀ s ∈ XW w, s ∉ X) (hT : tOk F = true := by rfl) : TW A S W w br e q0 nl0 nq nl nf nk M' :=
  h.of (tw_fr (w := w) hf hT).1 (tw_fr (w := w) hf hT).2.1 (tw_fr (w := w) hf hT).2.2 (fun s hs => ⟨(hg.2.1 s (hw s hs) (hX s hs)).1, (hg.2.1 s (hw s hs) (hX s hs)).2.1⟩)
def pOk (S : Nat) : Bool := tOk S && ([53, 54, 65].all (fun k => !S.testBit (cd 11 k)) && (!S.testBit 109 && !S.testBit 5109))
theorem tp_fr {F : Nat} {w : Nat} {M M' : Mem} (hf : Fr F M M') (h : pOk F = true) : (∀ f, 144 ≤ f → f ≤ 155 → ∀ k, mI M' f w k = mI M f w k) ∧ (∀ k ∈ [53, 54, 65], mI M' 11 0 k = mI M 11 0 k) ∧ ((∀ k, mI M' 109 0 k = mI M 109 0 k) ∧ mL M' 109 0 = mL M 109 0) := by
  unfold pOk at h
  simp only [Bool.and_eq_true, List.all_eq_true, Bool.not_eq_true'] at h
  obtain ⟨h1, h2, h3, h4⟩ := h
  refine ⟨fun f a b k => ((tw_fr (w := w) hf h1).1 f ?_).1 k, fun k hk => hf.I (h2 k hk) 0, fun k => hf.Ia rfl h3 0 k, hf.L h4 0⟩
  unfold tFm; rw [Bool.or_eq_true, Bool.and_eq_true]; exact Or.inl ⟨Nat.ble_eq.mpr (by omega), Nat.ble_eq.mpr (by omega)⟩
theorem TP0.fr {G : List Sl} {A : List Nm} {S : List Sg} {w c m q0 nl0 nl nf nk : Nat} {p : PM} {M M' : Mem} {F : Nat} (h : TP0 A S w c m q0 nl0 nl nf nk p M) (hf : Fr F M M') (hG : Ga G) (hw : Gw G w) (hS : sOk F = true := by rfl) (hP : pOk F = true := by rfl) : TP0 A S w c m q0 nl0 nl nf nk p M' := h.of (tp_fr (w := w) hf hP).1 (tp_fr (w := w) hf hP).2.1 (tp_fr (w := w) hf hP).2.2 (Rk.fr hf hG hw hS)
theorem TP0.gf {G X : List Sl} {A : List Nm} {S : List Sg} {w c m q0 nl0 nl nf nk : Nat} {p : PM} {M M' : Mem} {F : Nat} (h : TP0 A S w c m q0 nl0 nl nf nk p M) (hf : Fr F M M') (hg : GF G X M M') (hw : Gw G w) (hX : ∀ s ∈ XW w, s ∉ X) (hP : pOk F = true := by rfl) : TP0 A S w c m q0 nl0 nl nf nk p M' := h.of (tp_fr (w := w) hf hP).1 (tp_fr (w := w) hf hP).2.1 (tp_fr (w := w) hf hP).2.2 (Rk.gf hg hw hX)
/-- slots that are there -/
abbrev Gx (G : List Sl) (w : Nat) : Prop := Ga G ∧ Gs5 G ∧ sTr ∈ G ∧ Gw G w ∧ Gl G ∧ (11, 0, 57, 300) ∈ G
theorem TV.fr {G : List Sl} {US : UST} {A : List Nm} {S : List Sg} {w : Nat} {M M' : Mem} {F : Nat} (h : TV US A S M) (hf : Fr F M M') (hx : Gx G w) (hS : sOk F = true := by rfl) (h1 : F.testBit (cd 11 4) = false := by rfl) (h2 : F.testBit 105 = false := by rfl) (h3 : F.testBit (5000 + 105) = false := by rfl) (h4 : F.testBit (cd 11 36) = false := by rfl) (h5 : F.testBit (cd 11 37) = false := by rfl) (h6 : F.testBit 106 = false := by rfl) (h7 : F.testBit (5000 + 106) = false := by rfl) (h8 : F.testBit (cd 11 38) = false := by rfl) : TV US A S M' :=
  ⟨h.1.fr hf hx.1 hx.2.1 hS h1 h2 h3 h4 h5 h6 h7, h.2.1, by rw [(rd_fr hf hx.1 hS hx.2.2.1).2]; exact h.2.2.1, (hf.I h8 0).trans h.2.2.2.1, h.2.2.2.2⟩
theorem TV.gf {G X : List Sl} {US : UST} {A : List Nm} {S : List Sg} {w : Nat} {M M' : Mem} {F : Nat} (h : TV US A S M) (hf : Fr F M M') (hg : GF G X M M') (hx : Gx G w) (hX : ∀ s ∈ [sB, sZ, sX, sTr, sF, sC, sRe, sNx, sTy], s ∉ X) (h1 : F.testBit (cd 11 4) = false := by rfl) (h2 : F.testBit 105 = false := by rfl) (h3 : F.testBit (5000 + 105) = false := by rfl) (h4 : F.testBit (cd 11 36) = false := by rfl) (h5 : F.testBit (cd 11 37) = false := by rfl) (h6 : F.testBit 106 = false := by rfl) (h7 : F.testBit (5000 + 106) = false := by rfl) (h8 : F.testBit (cd 11 38) = false := by rfl) : TV US A S M' := by
  refine ⟨⟨h.1.1.gf hf hg hx.1.2.1 ⟨hX _ (by simp), hX _ (by simp), hX _ (by simp)⟩ h1 h2 h3, h.1.2.gf hf hg hx.2.1 (fun s hs => hX s ?_) h4 h5 h6 h7⟩, h.2.1, by rw [(hg.2.1 sTr hx.2.2.1 (hX _ (by simp))).2.1]; exact h.2.2.1, (hf.I h8 0).trans h.2.2.2.1, h.2.2.2.2⟩
  simp only [List.mem_cons, List.not_mem_nil, or_false] at hs ⊢
  rcases hs with e | e | e | e | e <;> simp [e]
/-- in a line of a method -/
def JM (G : List Sl) (US : UST) (A : List Nm) (S : List Sg) (W : List Cls) (w c : Nat) (br : Int32) (q0 nl0 nq nl nf nk : Nat) (p : PM) (NL : List Nine) (z : Nat × Nat × Nat × Nat × Nat × Nat) (L ts : List Tok) (M0 M : Mem) : Prop := TQ A L ts M ∧ TW A S W w br 1 q0 nl0 nq nl nf nk M ∧ TP A S w c (12 * c + (gc W c).2.2.2.2.2.length) q0 nl0 nl nf nk p NL M ∧ TV US A S M ∧ KR G w z.1 z.2.1 z.2.2.1 z.2.2.2.1 z.2.2.2.2.1 M0 M ∧ mI M 11 0 51 = Int32.ofNat z.2.2.2.2.2
/-- rows of labels, and where handlers are told -/
def XLb (M : Mem) : Prop := mL M 109 0 = 8 ∧ (∀ s ∈ XL, rl M s ≤ 8000) ∧ 1 ≤ rl M sNm
theorem XLb.gf {G X : List Sl} {M M' : Mem} {F : Nat} (h : XLb M) (hf : Fr F M M') (hg : GF G X M M') (hl : Gl G) (hX : ∀ s ∈ XL, s ∉ X) (h9 : F.testBit (5000 + 109) = false := by rfl) : XLb M' :=
  ⟨(hf.L h9 0).trans h.1, fun s hs => by rw [(hg.2.1 s (hl s hs) (hX s hs)).2.1]; exact h.2.1 s hs, by rw [(hg.2.1 sNm (hl _ (by simp)) (hX _ (by simp))).2.1]; exact h.2.2⟩
theorem XLb.fr {G : List Sl} {M M' : Mem} {F : Nat} (h : XLb M) (hf : Fr F M M') (hG : Ga G) (hl : Gl G) (hS : sOk F = true := by rfl) (h9 : F.testBit (5000 + 109) = false := by rfl) : XLb M' :=
  ⟨(hf.L h9 0).trans h.1, fun s hs => by rw [(rd_fr hf hG hS (hl s hs)).2]; exact h.2.1 s hs, by rw [(rd_fr hf hG hS (hl sNm (by simp))).2]; exact h.2.2⟩
theorem XLb_of {A : List Nm} {LS : List Lb} {NL : List Nine} {M : Mem} (h9 : mL M 109 0 = 8) (h1 : tLb A LS M) (h2 : tNi A NL M) : XLb M := by
  refine ⟨h9, fun s hs => ?_, h2.1.2⟩
  simp only [List.mem_cons, List.not_mem_nil, or_false] at hs
  rcases hs with e | e | e | e | e <;> subst e
  · exact h1.2.2.1.1
  · exact h1.2.2.1.2
  · exact h2.2.2.1.1
  · exact h2.2.2.1.2.1
  · exact h2.2.2.1.2.2
/-- what is left when a line is refused -/
def JE (G : List Sl) (US : UST) (A : List Nm) (w : Nat) (z : Nat × Nat × Nat × Nat × Nat × Nat) (M0 M : Mem) : Prop := ∃ S, TV US A S M ∧ KR G w z.1 z.2.1 z.2.2.1 z.2.2.2.1 z.2.2.2.2.1 M0 M ∧ mR M 11 0 45 = some (12, w) ∧ XLb M
theorem JM.je {G : List Sl} {US : UST} {A : List Nm} {S : List Sg} {W : List Cls} {w c : Nat} {br : Int32} {q0 nl0 nq nl nf nk : Nat} {p : PM} {NL : List Nine} {z : Nat × Nat × Nat × Nat × Nat × Nat} {L ts : List Tok} {M0 M : Mem} (h : JM G US A S W w c br q0 nl0 nq nl nf nk p NL z L ts M0 M) : JE G US A w z M0 M := ⟨S, h.2.2.2.1, h.2.2.2.2.1, h.2.1.1.1.2.1, XLb_of h.2.2.1.1.2.2.1.1 h.2.2.1.2.1 h.2.2.1.2.2⟩
def vOk (S : Nat) : Bool := [4, 36, 37, 38, 51, 60, 64].all (fun k => !S.testBit (cd 11 k)) && [105, 106, 5105, 5106].all (fun k => !S.testBit k)
theorem vOk.at {S : Nat} (h : vOk S = true) : (S.testBit (cd 11 4) = false ∧ S.testBit (cd 11 36) = false ∧ S.testBit (cd 11 37) = false ∧ S.testBit (cd 11 38) = false ∧ S.testBit (cd 11 51) = false ∧ S.testBit (cd 11 60) = false ∧ S.testBit (cd 11 64) = false) ∧ S.testBit 105 = false ∧ S.testBit 106 = false ∧ S.testBit 5105 = false ∧ S.testBit 5106 = false := by
  unfold vOk at h
  rw [Bool.and_eq_true, List.all_eq_true, List.all_eq_true] at h
  obtain ⟨h1, h2⟩ := h
  refine ⟨⟨?_, ?_, ?_, ?_, ?_, ?_, ?_⟩, ?_, ?_, ?_, ?_⟩
  · simpa using h1 4 (by simp)
  · simpa using h1 36 (by simp)
  · simpa using h1 37 (by simp)
  · simpa using h1 38 (by simp)
  · simpa using h1 51 (by simp)
  · simpa using h1 60 (by simp)
  · simpa using h1 64 (by simp)
  · simpa using h2 105 (by simp)
  · simpa using h2 106 (by simp)
  · simpa using h2 5105 (by simp)
  · simpa using h2 5106 (by simp)
theorem tOk.l {S : Nat} (h : tOk S = true) : lOk S = true := by
  unfold tOk at h; rw [Bool.and_eq_true] at h; exact h.2
theorem pOk.t {S : Nat} (h : pOk S = true) : tOk S = true := by
  unfold pOk at h; rw [Bool.and_eq_true] at h; exact h.1
theorem XL_fr {G : List Sl} {F : Nat} {M M' : Mem} (hf : Fr F M M') (hG : Ga G) (hl : Gl G) (hS : sOk F = true) : ∀ s ∈ XL, (∀ k, rd M' s k = rd M s k) ∧ rl M' s = rl M s := fun s hs => rd_fr hf hG hS (hl s hs)
theorem JM.fr {G : List Sl} {US : UST} {A : List Nm} {S : List Sg} {W : List Cls} {w c : Nat} {br : Int32} {q0 nl0 nq nl nf nk : Nat} {p : PM} {NL : List Nine} {z : Nat × Nat × Nat × Nat × Nat × Nat} {L ts ts' : List Tok} {M0 M M' : Mem} {F : Nat} (h : JM G US A S W w c br q0 nl0 nq nl nf nk p NL z L ts M0 M) (hx : Gx G w) (hf : Fr F M M') (hq : TQ A L ts' M') (hS : sOk F = true := by rfl) (hP : pOk F = true := by rfl) (hV : vOk F = true := by rfl) : JM G US A S W w c br q0 nl0 nq nl nf nk p NL z L ts' M0 M' := by
  obtain ⟨h1, h2, h3, h4, h5, h6⟩ := h
  obtain ⟨⟨v1, v2, v3, v4, v5, v6, v7⟩, v8, v9, v10, v11⟩ := vOk.at hV
  have xl := XL_fr hf hx.1 hx.2.2.2.2.1 hS
  exact ⟨hq, h2.fr hf hx.1 hx.2.2.2.1 hS (pOk.t hP), ⟨h3.1.fr hf hx.1 hx.2.2.2.1 hS hP, h3.2.1.of (hf.I v6 0) xl, h3.2.2.of (hf.I v7 0) xl⟩, h4.fr hf hx hS v1 v8 v10 v2 v3 v9 v11 v4, h5.fr hf hx.1 hx.2.2.2.1 hS (tOk.l (pOk.t hP)), (hf.I v5 0).trans h6⟩
theorem JE.fr {G : List Sl} {US : UST} {A : List Nm} {w : Nat} {z : Nat × Nat × Nat × Nat × Nat × Nat} {M0 M M' : Mem} {F : Nat} (h : JE G US A w z M0 M) (hx : Gx G w) (hf : Fr F M M') (hS : sOk F = true := by rfl) (hP : tOk F = true := by rfl) (hV : vOk F = true := by rfl) (h9 : F.testBit (5000 + 109) = false := by rfl) : JE G US A w z M0 M' := by
  obtain ⟨S, h1, h2, h3, h4⟩ := h
  obtain ⟨⟨v1, v2, v3, v4, v5, v6, v7⟩, v8, v9, v10, v11⟩ := vOk.at hV
  exact ⟨S, h1.fr hf hx hS v1 v8 v10 v2 v3 v9 v11 v4, h2.fr hf hx.1 hx.2.2.2.1 hS (tOk.l hP), (tw_fr (w := w) hf hP).2.2.trans h3, h4.fr hf hx.1 hx.2.2.2.2.1 hS h9⟩
