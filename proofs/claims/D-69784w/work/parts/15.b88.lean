/-! B: code in the twin -/
abbrev sOp (w : Nat) : Sl := (12, w, 30, 401)
abbrev sAs (w : Nat) : Sl := (12, w, 31, 300)
abbrev sBs (w : Nat) : Sl := (12, w, 32, 300)
abbrev sCs (w : Nat) : Sl := (12, w, 33, 300)
abbrev sCf (w : Nat) : Sl := (12, w, 34, 300)
abbrev sLi (w : Nat) : Sl := (12, w, 36, 300)
abbrev sFl (w : Nat) : Sl := (12, w, 38, 300)
abbrev sFs (w : Nat) : Sl := (12, w, 39, 300)
abbrev sFf (w : Nat) : Sl := (12, w, 40, 300)
abbrev sFk (w : Nat) : Sl := (12, w, 42, 300)
abbrev sLn : Sl := (11, 0, 58, 300)
abbrev sLa : Sl := (11, 0, 59, 300)
abbrev sNn : Sl := (11, 0, 61, 300)
abbrev sNp : Sl := (11, 0, 62, 300)
abbrev sNm : Sl := (11, 0, 63, 501)
abbrev XC (w : Nat) : List Sl := [sOp w, sAs w, sBs w, sCs w, sCf w]
abbrev XW (w : Nat) : List Sl := [sOp w, sAs w, sBs w, sCs w, sCf w, sLi w, sFl w, sFs w, sFf w, sFk w]
abbrev XL : List Sl := [sLn, sLa, sNn, sNp, sNm]
/-- all slots that reading a text may change -/
abbrev XT (w : Nat) : List Sl := [sB, sZ, sX, sTr, sF, sC, sRe, sNx, sTy, (11, 0, 57, 300), sLn, sLa, sNn, sNp, sNm, sOp w, sAs w, sBs w, sCs w, sCf w, sLi w, sFl w, sFs w, sFf w, sFk w]
/-- numbers of an instruction: labels are told by their values -/
def tOp (A : List Nm) (S : List Sg) (w nl q o : Nat) (v u : Int32) (vs : List Int32) (cls mem : Nm) (ks : List Kd) (κ : Kd) (M : Mem) : Prop :=
  rd M (sAs w) q = (if isJ o then vs.headD 0 else if isN o ∨ isFo o ∨ isMo o then nc A cls else v) ∧
  (o ≠ 40 → rd M (sBs w) q = (if isFo o ∨ isMo o then nc A mem else u) ∧ rd M (sCs w) q = (if isFo o then kt A κ else if isMo o then Int32.ofNat (S.idxOf (sg A ks κ)) else 0)) ∧
  (o = 40 → ∃ lf, rd M (sBs w) q = Int32.ofNat lf ∧ rd M (sCs w) q = Int32.ofNat vs.length ∧ lf + vs.length ≤ nl ∧ ∀ j, j < vs.length → rd M (sLi w) (lf + j) = gi vs j) ∧
  (isN o ∨ isFo o ∨ isMo o → cls ∈ A) ∧ (isFo o ∨ isMo o → mem ∈ A) ∧ (isFo o → kok A κ ∧ kdOk κ) ∧ (isMo o → sg A ks κ ∈ S ∧ (∀ κ ∈ ks, kok A κ ∧ kdOk κ) ∧ kok A κ ∧ kdOk κ ∧ ks.length ≤ 6)
/-- kinds of a frame -/
def fkOk (κ : Kd) : Prop := κ = (0, []) ∨ κ = (1, []) ∨ κ = (-1, []) ∨ κ = (-2, []) ∨ κ = (-3, []) ∨ κ.1 = 2
def tFr (A : List Nm) (w nk f : Nat) (ls ss : List Kd) (M : Mem) : Prop := ∃ kf, rd M (sFf w) f = Int32.ofNat kf ∧ rd M (sFl w) f = Int32.ofNat ls.length ∧ rd M (sFs w) f = Int32.ofNat ss.length ∧ kf + (ls.length + ss.length) ≤ nk ∧ (∀ κ ∈ ls ++ ss, kok A κ ∧ fkOk κ) ∧ ∀ j, j < ls.length + ss.length → rd M (sFk w) (kf + j) = kt A (gk (ls ++ ss) j)
def tFrm (A : List Nm) (w nf nk q : Nat) (fr : Option (List Kd × List Kd)) (M : Mem) : Prop := match fr with
  | none => rd M (sCf w) q = 0
  | some p => ∃ f, f < nf ∧ rd M (sCf w) q = Int32.ofNat (f + 1) ∧ tFr A w nk f p.1 p.2 M
/-- an instruction whose labels are names -/
def tIn (A : List Nm) (S : List Sg) (w lf nl nf nk q : Nat) (x : PI) (M : Mem) : Prop := (rd M (sOp w) q = Int32.ofNat x.1 ∧ x.1 < 62) ∧ tOp A S w nl q x.1 x.2.1.1 x.2.1.2.1 (x.2.1.2.2.1.map (nc A)) x.2.1.2.2.2.1 x.2.1.2.2.2.2.1 x.2.1.2.2.2.2.2.1 x.2.1.2.2.2.2.2.2 M ∧ tFrm A w nf nk q x.2.2.1 M ∧ (∀ nm ∈ x.2.1.2.2.1, nm ∈ A) ∧ lbOk x.1 x.2.1.2.2.1 ∧ (x.1 = 40 → rd M (sBs w) q = Int32.ofNat lf)
/-- and one whose labels are numbers -/
def tFi (A : List Nm) (S : List Sg) (w nl nf nk q : Nat) (x : Ins) (M : Mem) : Prop := (rd M (sOp w) q = Int32.ofNat x.1 ∧ x.1 < 62) ∧ tOp A S w nl q x.1 x.2.1 x.2.2.1 (x.2.2.2.1.map Int32.ofNat) x.2.2.2.2.1 x.2.2.2.2.2.1 x.2.2.2.2.2.2.1 x.2.2.2.2.2.2.2.1 M ∧ tFrm A w nf nk q x.2.2.2.2.2.2.2.2 M ∧ (isJ x.1 → x.2.2.2.1.length = 1) ∧ (¬ isJ x.1 → x.1 ≠ 40 → x.2.2.2.1 = [])
def anyC (A : List Nm) (nm : Nm) : Int32 := if nm = nAny then -1 else nc A nm
def tHn (A : List Nm) (w h : Nat) (a b g : Int32) (k : Nm) (M : Mem) : Prop := mI M 152 w h = a ∧ mI M 153 w h = b ∧ mI M 154 w h = g ∧ mI M 155 w h = anyC A k ∧ k ∈ A
/-- a method's code and handlers -/
def tMc (A : List Nm) (S : List Sg) (w nq nl nf nk m : Nat) (x : Mth) (M : Mem) : Prop := ∃ q0, mI M 149 w m = Int32.ofNat q0 ∧ mI M 150 w m = Int32.ofNat x.2.2.2.2.2.2.1.length ∧ (q0 + x.2.2.2.2.2.2.1.length ≤ nq ∧ x.2.2.2.2.2.2.1.length ≤ 80) ∧ (∀ i, i < x.2.2.2.2.2.2.1.length → tFi A S w nl nf nk (q0 + i) (gin x.2.2.2.2.2.2.1 i) M) ∧ (mI M 151 w m = Int32.ofNat x.2.2.2.2.2.2.2.length ∧ x.2.2.2.2.2.2.2.length ≤ 8) ∧ ∀ i, i < x.2.2.2.2.2.2.2.length → tHn A w (8 * m + i) (Int32.ofNat (ghn x.2.2.2.2.2.2.2 i).1) (Int32.ofNat (ghn x.2.2.2.2.2.2.2 i).2.1) (Int32.ofNat (ghn x.2.2.2.2.2.2.2 i).2.2.1) (ghn x.2.2.2.2.2.2.2 i).2.2.2 M
/-- all methods that are finished -/
def tMs (A : List Nm) (S : List Sg) (W : List Cls) (w e nq nl nf nk : Nat) (M : Mem) : Prop := tMh A S W w e M ∧ (∀ f, 152 ≤ f → f ≤ 155 → mL M f w = 4896) ∧ ∀ c, c < W.length → ∀ k, k < (gc W c).2.2.2.2.2.length → tMc A S w nq nl nf nk (12 * c + k) (gmt (gc W c) k) M
/-- rows of code are as they were, below bounds -/
def Rk (w nq nl nf nk : Nat) (M M' : Mem) : Prop := (∀ s ∈ XC w, ∀ k, k < nq → rd M' s k = rd M s k) ∧ (∀ k, k < nl → rd M' (sLi w) k = rd M (sLi w) k) ∧ (∀ s ∈ [sFl w, sFs w, sFf w], ∀ k, k < nf → rd M' s k = rd M s k) ∧ (∀ k, k < nk → rd M' (sFk w) k = rd M (sFk w) k) ∧ ∀ s ∈ XW w, rl M s ≤ rl M' s ∧ (rl M s ≤ 8000 → rl M' s ≤ 8000)
theorem Rk.rf (w nq nl nf nk : Nat) (M : Mem) : Rk w nq nl nf nk M M := ⟨fun _ _ _ _ => rfl, fun _ _ => rfl, fun _ _ _ _ => rfl, fun _ _ => rfl, fun _ _ => ⟨Nat.le_refl _, id⟩⟩
theorem Rk.trans {w nq nl nf nk : Nat} {M M1 M2 : Mem} (h : Rk w nq nl nf nk M M1) (h1 : Rk w nq nl nf nk M1 M2) : Rk w nq nl nf nk M M2 := ⟨fun s hs k hk => (h1.1 s hs k hk).trans (h.1 s hs k hk), fun k hk => (h1.2.1 k hk).trans (h.2.1 k hk), fun s hs k hk => (h1.2.2.1 s hs k hk).trans (h.2.2.1 s hs k hk), fun k hk => (h1.2.2.2.1 k hk).trans (h.2.2.2.1 k hk), fun s hs => ⟨Nat.le_trans (h.2.2.2.2 s hs).1 (h1.2.2.2.2 s hs).1, fun q => (h1.2.2.2.2 s hs).2 ((h.2.2.2.2 s hs).2 q)⟩⟩
theorem Rk.mono {w nq nl nf nk nq' nl' nf' nk' : Nat} {M M' : Mem} (h : Rk w nq' nl' nf' nk' M M') (a : nq ≤ nq') (b : nl ≤ nl') (c : nf ≤ nf') (d : nk ≤ nk') : Rk w nq nl nf nk M M' := ⟨fun s hs k hk => h.1 s hs k (by omega), fun k hk => h.2.1 k (by omega), fun s hs k hk => h.2.2.1 s hs k (by omega), fun k hk => h.2.2.2.1 k (by omega), h.2.2.2.2⟩
abbrev Gw (G : List Sl) (w : Nat) : Prop := ∀ s ∈ XW w, s ∈ G
abbrev Gl (G : List Sl) : Prop := ∀ s ∈ XL, s ∈ G
theorem Rk.of {w nq nl nf nk : Nat} {M M' : Mem} (h : ∀ s ∈ XW w, (∀ k, rd M' s k = rd M s k) ∧ rl M' s = rl M s) : Rk w nq nl nf nk M M' := by
  refine ⟨fun s hs k _ => (h s ?_).1 k, fun k _ => (h _ (by simp)).1 k, fun s hs k _ => (h s ?_).1 k, fun k _ => (h _ (by simp)).1 k, fun s hs => ⟨by rw [(h s hs).2]; exact Nat.le_refl _, fun q => by rw [(h s hs).2]; exact q⟩⟩
  · simp only [List.mem_cons, List.not_mem_nil, or_false] at hs ⊢
    rcases hs with e | e | e | e | e <;> simp [e]
  · simp only [List.mem_cons, List.not_mem_nil, or_false] at hs ⊢
    rcases hs with e | e | e <;> simp [e]
theorem Rk.gf {G X : List Sl} {w nq nl nf nk : Nat} {M M' : Mem} (h : GF G X M M') (hw : Gw G w) (hX : ∀ s ∈ XW w, s ∉ X) : Rk w nq nl nf nk M M' := Rk.of (fun s hs => ⟨(h.2.1 s (hw s hs) (hX s hs)).1, (h.2.1 s (hw s hs) (hX s hs)).2.1⟩)
theorem Rk.fr {G : List Sl} {w nq nl nf nk : Nat} {M M' : Mem} {F : Nat} (hf : Fr F M M') (hG : Ga G) (hw : Gw G w) (hS : sOk F = true := by rfl) : Rk w nq nl nf nk M M' := Rk.of (fun s hs => rd_fr hf hG hS (hw s hs))
theorem tOp.keep {A : List Nm} {S : List Sg} {w nq nl nf nk q o : Nat} {v u : Int32} {vs : List Int32} {cls mem : Nm} {ks : List Kd} {κ : Kd} {M M' : Mem} (h : tOp A S w nl q o v u vs cls mem ks κ M) (hR : Rk w nq nl nf nk M M') (hq : q < nq) : tOp A S w nl q o v u vs cls mem ks κ M' := by
  obtain ⟨h1, h2, h3, h4⟩ := h
  refine ⟨(hR.1 _ (by simp) q hq).trans h1, fun e => ⟨(hR.1 _ (by simp) q hq).trans (h2 e).1, (hR.1 _ (by simp) q hq).trans (h2 e).2⟩, fun e => ?_, h4⟩
  obtain ⟨lf, a, b, c, d⟩ := h3 e
  exact ⟨lf, (hR.1 _ (by simp) q hq).trans a, (hR.1 _ (by simp) q hq).trans b, c, fun j hj => (hR.2.1 _ (by omega)).trans (d j hj)⟩
theorem tOp.mono {A : List Nm} {S : List Sg} {w nl nl' q o : Nat} {v u : Int32} {vs : List Int32} {cls mem : Nm} {ks : List Kd} {κ : Kd} {M : Mem} (h : tOp A S w nl q o v u vs cls mem ks κ M) (hn : nl ≤ nl') : tOp A S w nl' q o v u vs cls mem ks κ M := by
  obtain ⟨h1, h2, h3, h4⟩ := h
  refine ⟨h1, h2, fun e => ?_, h4⟩
  obtain ⟨lf, a, b, c, d⟩ := h3 e
  exact ⟨lf, a, b, by omega, d⟩
theorem sg_pre {A A' : List Nm} (hp : A <+: A') {ks : List Kd} {κ : Kd} (h1 : ∀ κ ∈ ks, kok A κ) (h2 : kok A κ) : sg A' ks κ = sg A ks κ := by unfold sg; rw [kt_map hp h1, kt_pre hp h2]
theorem tOp.pre {A A' : List Nm} {S S' : List Sg} {w nl q o : Nat} {v u : Int32} {vs : List Int32} {cls mem : Nm} {ks : List Kd} {κ : Kd} {M : Mem} (h : tOp A S w nl q o v u vs cls mem ks κ M) (hA : A <+: A') (hS : S <+: S') : tOp A' S' w nl q o v u vs cls mem ks κ M := by
  obtain ⟨h1, h2, h3, h4, h5, h6, h7⟩ := h
  refine ⟨?_, fun e => ⟨?_, ?_⟩, h3, fun e => hA.subset (h4 e), fun e => hA.subset (h5 e), fun e => ⟨kok_pre hA (h6 e).1, (h6 e).2⟩, fun e => ?_⟩
  · rw [h1]
    by_cases c1 : isJ o
    · rw [if_pos c1, if_pos c1]
    rw [if_neg c1, if_neg c1]
    by_cases c2 : isN o ∨ isFo o ∨ isMo o
    · rw [if_pos c2, if_pos c2, nc_pre hA (h4 c2)]
    · rw [if_neg c2, if_neg c2]
  · rw [(h2 e).1]
    by_cases c2 : isFo o ∨ isMo o
    · rw [if_pos c2, if_pos c2, nc_pre hA (h5 c2)]
    · rw [if_neg c2, if_neg c2]
  · rw [(h2 e).2]
    by_cases c2 : isFo o
    · rw [if_pos c2, if_pos c2, kt_pre hA (h6 c2).1]
    rw [if_neg c2, if_neg c2]
    by_cases c3 : isMo o
    · obtain ⟨z1, z2, z3, -⟩ := h7 c3
      rw [if_pos c3, if_pos c3, sg_pre hA (fun κ hκ => (z2 κ hκ).1) z3, idxS_pre hS z1]
    · rw [if_neg c3, if_neg c3]
  · obtain ⟨z1, z2, z3, z4⟩ := h7 e
    exact ⟨by rw [sg_pre hA (fun κ hκ => (z2 κ hκ).1) z3]; exact hS.subset z1, fun κ hκ => ⟨kok_pre hA (z2 κ hκ).1, (z2 κ hκ).2⟩, kok_pre hA z3, z4⟩
theorem tFr.keep {A : List Nm} {w nq nl nf nk f : Nat} {ls ss : List Kd} {M M' : Mem} (h : tFr A w nk f ls ss M) (hR : Rk w nq nl nf nk M M') (hq : f < nf) : tFr A w nk f ls ss M' := by
  obtain ⟨kf, a, b, c, d, e, g⟩ := h
  exact ⟨kf, (hR.2.2.1 _ (by simp) f hq).trans a, (hR.2.2.1 _ (by simp) f hq).trans b, (hR.2.2.1 _ (by simp) f hq).trans c, d, e, fun j hj => (hR.2.2.2.1 _ (by omega)).trans (g j hj)⟩
theorem tFr.pre {A A' : List Nm} {w nk nk' f : Nat} {ls ss : List Kd} {M : Mem} (h : tFr A w nk f ls ss M) (hA : A <+: A') (hn : nk ≤ nk') : tFr A' w nk' f ls ss M := by
  obtain ⟨kf, a, b, c, d, e, g⟩ := h
  refine ⟨kf, a, b, c, by omega, fun κ hκ => ⟨kok_pre hA (e κ hκ).1, (e κ hκ).2⟩, fun j hj => ?_⟩
  rw [g j hj, kt_pre hA (e _ (gk_mem (by rw [List.length_append]; exact hj))).1]
theorem tFrm.keep {A : List Nm} {w nq nl nf nk q : Nat} {fr : Option (List Kd × List Kd)} {M M' : Mem} (h : tFrm A w nf nk q fr M) (hR : Rk w nq nl nf nk M M') (hq : q < nq) : tFrm A w nf nk q fr M' := by
  cases fr with
  | none => exact (hR.1 _ (by simp) q hq).trans h
  | some p =>
    obtain ⟨f, a, b, c⟩ := h
    exact ⟨f, a, (hR.1 _ (by simp) q hq).trans b, c.keep hR a⟩
theorem tFrm.pre {A A' : List Nm} {w nf nk nf' nk' q : Nat} {fr : Option (List Kd × List Kd)} {M : Mem} (h : tFrm A w nf nk q fr M) (hA : A <+: A') (h1 : nf ≤ nf') (h2 : nk ≤ nk') : tFrm A' w nf' nk' q fr M := by
  cases fr with
  | none => exact h
  | some p =>
    obtain ⟨f, a, b, c⟩ := h
    exact ⟨f, by omega, b, c.pre hA h2⟩
theorem tFi.keep {A : List Nm} {S : List Sg} {w nq nl nf nk q : Nat} {x : Ins} {M M' : Mem} (h : tFi A S w nl nf nk q x M) (hR : Rk w nq nl nf nk M M') (hq : q < nq) : tFi A S w nl nf nk q x M' := ⟨⟨(hR.1 _ (by simp) q hq).trans h.1.1, h.1.2⟩, h.2.1.keep hR hq, h.2.2.1.keep hR hq, h.2.2.2⟩
theorem tFi.pre {A A' : List Nm} {S S' : List Sg} {w nl nf nk nl' nf' nk' q : Nat} {x : Ins} {M : Mem} (h : tFi A S w nl nf nk q x M) (hA : A <+: A') (hS : S <+: S') (h1 : nl ≤ nl') (h2 : nf ≤ nf') (h3 : nk ≤ nk') : tFi A' S' w nl' nf' nk' q x M := ⟨h.1, (h.2.1.pre hA hS).mono h1, h.2.2.1.pre hA h2 h3, h.2.2.2⟩
theorem tIn.keep {A : List Nm} {S : List Sg} {w nq lf nl nf nk q : Nat} {x : PI} {M M' : Mem} (h : tIn A S w lf nl nf nk q x M) (hR : Rk w nq nl nf nk M M') (hq : q < nq) : tIn A S w lf nl nf nk q x M' := ⟨⟨(hR.1 _ (by simp) q hq).trans h.1.1, h.1.2⟩, h.2.1.keep hR hq, h.2.2.1.keep hR hq, h.2.2.2.1, h.2.2.2.2.1, fun e => (hR.1 _ (by simp) q hq).trans (h.2.2.2.2.2 e)⟩
theorem tIn.pre {A A' : List Nm} {S S' : List Sg} {w lf nl nf nk nl' nf' nk' q : Nat} {x : PI} {M : Mem} (h : tIn A S w lf nl nf nk q x M) (hA : A <+: A') (hS : S <+: S') (h1 : nl ≤ nl') (h2 : nf ≤ nf') (h3 : nk ≤ nk') : tIn A' S' w lf nl' nf' nk' q x M := by
  refine ⟨h.1, ?_, h.2.2.1.pre hA h2 h3, fun nm hm => hA.subset (h.2.2.2.1 nm hm), h.2.2.2.2⟩
  have e : x.2.1.2.2.1.map (nc A') = x.2.1.2.2.1.map (nc A) := List.map_congr_left (fun nm hm => nc_pre hA (h.2.2.2.1 nm hm))
  rw [e]; exact (h.2.1.pre hA hS).mono h1
theorem tHn.of {A : List Nm} {w h : Nat} {a b g : Int32} {k : Nm} {M M' : Mem} (hh : tHn A w h a b g k M) (e : ∀ f, 152 ≤ f → f ≤ 155 → mI M' f w h = mI M f w h) : tHn A w h a b g k M' := ⟨(e 152 (by omega) (by omega)).trans hh.1, (e 153 (by omega) (by omega)).trans hh.2.1, (e 154 (by omega) (by omega)).trans hh.2.2.1, (e 155 (by omega) (by omega)).trans hh.2.2.2.1, hh.2.2.2.2⟩
theorem tHn.pre {A A' : List Nm} {w h : Nat} {a b g : Int32} {k : Nm} {M : Mem} (hh : tHn A w h a b g k M) (hA : A <+: A') : tHn A' w h a b g k M := by
  refine ⟨hh.1, hh.2.1, hh.2.2.1, ?_, hA.subset hh.2.2.2.2⟩
  rw [hh.2.2.2.1]; unfold anyC; rw [nc_pre hA hh.2.2.2.2]
theorem tMc.keep {A : List Nm} {S : List Sg} {w nq nl nf nk m : Nat} {x : Mth} {M M' : Mem} (h : tMc A S w nq nl nf nk m x M) (hR : Rk w nq nl nf nk M M') (e1 : ∀ f, 149 ≤ f → f ≤ 151 → mI M' f w m = mI M f w m) (e2 : ∀ f, 152 ≤ f → f ≤ 155 → ∀ i, i < 8 → mI M' f w (8 * m + i) = mI M f w (8 * m + i)) : tMc A S w nq nl nf nk m x M' := by
  obtain ⟨q0, a, b, c, d, e, g⟩ := h
  exact ⟨q0, (e1 149 (by omega) (by omega)).trans a, (e1 150 (by omega) (by omega)).trans b, c, fun i hi => (d i hi).keep hR (by omega), ⟨(e1 151 (by omega) (by omega)).trans e.1, e.2⟩, fun i hi => (g i hi).of (fun f x y => e2 f x y i (by omega))⟩
theorem tMc.pre {A A' : List Nm} {S S' : List Sg} {w nq nl nf nk nq' nl' nf' nk' m : Nat} {x : Mth} {M : Mem} (h : tMc A S w nq nl nf nk m x M) (hA : A <+: A') (hS : S <+: S') (h0 : nq ≤ nq') (h1 : nl ≤ nl') (h2 : nf ≤ nf') (h3 : nk ≤ nk') : tMc A' S' w nq' nl' nf' nk' m x M := by
  obtain ⟨q0, a, b, c, d, e, g⟩ := h
  exact ⟨q0, a, b, ⟨by omega, c.2⟩, fun i hi => (d i hi).pre hA hS h1 h2 h3, e, fun i hi => (g i hi).pre hA⟩
theorem tMs.keep {A : List Nm} {S : List Sg} {W : List Cls} {w e nq nl nf nk : Nat} {M M' : Mem} (h : tMs A S W w e nq nl nf nk M) (hM : tMh A S W w e M') (hR : Rk w nq nl nf nk M M') (e1 : ∀ f, 149 ≤ f → f ≤ 151 → ∀ c, c < W.length → ∀ k, k < (gc W c).2.2.2.2.2.length → mI M' f w (12 * c + k) = mI M f w (12 * c + k)) (e2 : ∀ f, 152 ≤ f → f ≤ 155 → ∀ c, c < W.length → ∀ k, k < (gc W c).2.2.2.2.2.length → ∀ i, i < 8 → mI M' f w (8 * (12 * c + k) + i) = mI M f w (8 * (12 * c + k) + i)) (l : ∀ f, 152 ≤ f → f ≤ 155 → mL M' f w = mL M f w) : tMs A S W w e nq nl nf nk M' :=
  ⟨hM, fun f a b => (l f a b).trans (h.2.1 f a b), fun c hc k hk => (h.2.2 c hc k hk).keep hR (fun f a b => e1 f a b c hc k hk) (fun f a b => e2 f a b c hc k hk)⟩
theorem tMs.pre {A A' : List Nm} {S S' : List Sg} {W : List Cls} {w e nq nl nf nk nq' nl' nf' nk' : Nat} {M : Mem} (h : tMs A S W w e nq nl nf nk M) (hA : A <+: A') (hS : S <+: S') (h0 : nq ≤ nq') (h1 : nl ≤ nl') (h2 : nf ≤ nf') (h3 : nk ≤ nk') : tMs A' S' W w e nq' nl' nf' nk' M := ⟨(h.1.preA hA).pre hS, h.2.1, fun c hc k hk => (h.2.2 c hc k hk).pre hA hS h0 h1 h2 h3⟩
