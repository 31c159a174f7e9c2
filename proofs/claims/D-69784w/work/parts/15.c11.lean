/-! B: the end of a method in the twin: rules 10 and 8 -/
/-- a method whose first handlers and first instructions tell numbers -/
def EP (A : List Nm) (S : List Sg) (w c m q0 nl0 nl nf nk : Nat) (p : PM) (hh ii : Nat) (M : Mem) : Prop := tHm A S w c m q0 p M ∧ ((∀ j, j < ii → tFi A S w nl nf nk (q0 + j) (insOf p.2.2.2.1 (gpi p.2.1 j)) M) ∧ ∀ j, ii ≤ j → j < p.2.1.length → tIn A S w (nl0 + pkS (p.2.1.take j)) nl nf nk (q0 + j) (gpi p.2.1 j) M) ∧ (∀ j, j < p.2.1.length → (gpi p.2.1 j).1 = 40 → rd M (sBs w) (q0 + j) = Int32.ofNat (nl0 + pkS (p.2.1.take j))) ∧ (mL M 109 0 = 8 ∧ (∀ j, j < hh → tHn A w (8 * m + j) (Int32.ofNat (lbN p.2.2.2.1 (gh p.2.2.1 j).1)) (Int32.ofNat (lbN p.2.2.2.1 (gh p.2.2.1 j).2.1)) (Int32.ofNat (lbN p.2.2.2.1 (gh p.2.2.1 j).2.2.1)) (gh p.2.2.1 j).2.2.2.1 M) ∧ ∀ j, hh ≤ j → j < p.2.2.1.length → tHn A w (8 * m + j) (nc A (gh p.2.2.1 j).1) (nc A (gh p.2.2.1 j).2.1) (nc A (gh p.2.2.1 j).2.2.1) (gh p.2.2.1 j).2.2.2.1 M ∧ ((gh p.2.2.1 j).1 ∈ A ∧ (gh p.2.2.1 j).2.1 ∈ A ∧ (gh p.2.2.1 j).2.2.1 ∈ A) ∧ mI M 109 0 j = Int32.ofNat (gh p.2.2.1 j).2.2.2.2) ∧ tLb A p.2.2.2.1 M
def JH (G : List Sl) (US : UST) (A : List Nm) (S : List Sg) (W : List Cls) (w c : Nat) (br : Int32) (q0 nl0 nq nl nf nk : Nat) (p : PM) (z : Nat × Nat × Nat × Nat × Nat × Nat) (L ts : List Tok) (M0 : Mem) (hh ii : Nat) (M : Mem) : Prop := TQ A L ts M ∧ TW A S W w br 1 q0 nl0 nq nl nf nk M ∧ EP A S w c (12 * c + (gc W c).2.2.2.2.2.length) q0 nl0 nl nf nk p hh ii M ∧ TV US A S M ∧ KR G w z.1 z.2.1 z.2.2.1 z.2.2.2.1 z.2.2.2.2.1 M0 M ∧ mI M 11 0 51 = Int32.ofNat z.2.2.2.2.2 ∧ XLb M
theorem JM.jh {G : List Sl} {US : UST} {A : List Nm} {S : List Sg} {W : List Cls} {w c : Nat} {br : Int32} {q0 nl0 nq nl nf nk : Nat} {p : PM} {z : Nat × Nat × Nat × Nat × Nat × Nat} {L ts : List Tok} {M0 M : Mem} {NL : List Nine} (h : JM G US A S W w c br q0 nl0 nq nl nf nk p NL z L ts M0 M) : JH G US A S W w c br q0 nl0 nq nl nf nk p z L ts M0 0 0 M :=
  ⟨h.1, h.2.1, ⟨h.2.2.1.1.1, ⟨fun j hj => absurd hj (Nat.not_lt_zero j), fun j _ hj => h.2.2.1.1.2.1 j hj⟩, (fun j hj => (h.2.2.1.1.2.1 j hj).2.2.2.2.2), ⟨h.2.2.1.1.2.2.1.1, fun j hj => absurd hj (Nat.not_lt_zero j), fun j _ hj => h.2.2.1.1.2.2.1.2 j hj⟩, h.2.2.1.2.1⟩, h.2.2.2.1, h.2.2.2.2.1, h.2.2.2.2.2, XLb_of h.2.2.1.1.2.2.1.1 h.2.2.1.2.1 h.2.2.1.2.2⟩
theorem JH.je {G : List Sl} {US : UST} {A : List Nm} {S : List Sg} {W : List Cls} {w c : Nat} {br : Int32} {q0 nl0 nq nl nf nk : Nat} {p : PM} {z : Nat × Nat × Nat × Nat × Nat × Nat} {L ts : List Tok} {M0 M : Mem} {hh ii : Nat} (h : JH G US A S W w c br q0 nl0 nq nl nf nk p z L ts M0 hh ii M) : JE G US A w z M0 M := ⟨S, h.2.2.2.1, h.2.2.2.2.1, h.2.1.1.1.2.1, h.2.2.2.2.2.2⟩
/-- all labels that are used are there -/
def allL (p : PM) : Prop := (∀ i ∈ p.2.1, ∀ nm ∈ i.2.1.2.2.1, (lbl p.2.2.2.1 nm).isSome = true) ∧ ∀ h ∈ p.2.2.1, (lbl p.2.2.2.1 h.1).isSome = true ∧ (lbl p.2.2.2.1 h.2.1).isSome = true ∧ (lbl p.2.2.2.1 h.2.2.1).isSome = true
theorem allL_of {p : PM} (h : minL (lines9 p) = none) : allL p := by
  have h := minL_none.mp h
  have no : ∀ l, l ∉ lines9 p := fun l hl => by rw [h] at hl; cases hl
  have sb : ∀ {nm may}, bad9 p.2.2.2.1 p.2.1.length nm may = false → (lbl p.2.2.2.1 nm).isSome = true := fun {nm may} q => by
    unfold bad9 at q
    cases e : lbl p.2.2.2.1 nm with
    | none => rw [e] at q; cases q
    | some k => rfl
  refine ⟨fun i hi nm hn => ?_, fun x hx => ?_⟩
  · refine sb (may := false) ?_
    cases e : bad9 p.2.2.2.1 p.2.1.length nm false with
    | false => rfl
    | true => exact absurd (mem_lines9.mpr (Or.inr (Or.inl ⟨i, hi, ⟨nm, hn, e⟩, rfl⟩))) (no _)
  · have f : ∀ {q : Prop}, q → (q → bad9 p.2.2.2.1 p.2.1.length x.1 false = true ∨ bad9 p.2.2.2.1 p.2.1.length x.2.1 true = true ∨ bad9 p.2.2.2.1 p.2.1.length x.2.2.1 false = true) → False := fun {q} a b => no _ (mem_lines9.mpr (Or.inr (Or.inr (Or.inl ⟨x, hx, b a, rfl⟩))))
    refine ⟨sb (may := false) ?_, sb (may := true) ?_, sb (may := false) ?_⟩
    · cases e : bad9 p.2.2.2.1 p.2.1.length x.1 false with
      | false => rfl
      | true => exact (f e Or.inl).elim
    · cases e : bad9 p.2.2.2.1 p.2.1.length x.2.1 true with
      | false => rfl
      | true => exact (f e (fun z => Or.inr (Or.inl z))).elim
    · cases e : bad9 p.2.2.2.1 p.2.1.length x.2.2.1 false with
      | false => rfl
      | true => exact (f e (fun z => Or.inr (Or.inr z))).elim
theorem lbN_v {LS : List Lb} {nm : Nm} (h : (lbl LS nm).isSome = true) : (match lbl LS nm with | some k => Int32.ofNat k | none => -2) = Int32.ofNat (lbN LS nm) := by
  unfold lbN
  cases e : lbl LS nm with
  | none => rw [e] at h; cases h
  | some k => rfl
theorem lbN_le {A : List Nm} {LS : List Lb} {M : Mem} {nm : Nm} (h : tLb A LS M) : lbN LS nm ≤ 80 := by
  unfold lbN
  cases e : lbl LS nm with
  | none => exact Nat.zero_le _
  | some k => exact lbl_le h e
theorem gh_mem {H : List PH} {i : Nat} (h : i < H.length) : gh H i ∈ H := by
  show H.getD i _ ∈ H
  rw [List.getD_eq_getElem?_getD, List.getElem?_eq_getElem h]; exact List.getElem_mem h
/-- the first handler that breaks rule 10 -/
theorem lines10_first {p : PM} (hs : p.2.2.1.Pairwise (fun a b => a.2.2.2.2 ≤ b.2.2.2.2)) {i : Nat} (hi : i < p.2.2.1.length) (hb : ∀ j, j < i → ¬ lbN p.2.2.2.1 (gh p.2.2.1 j).2.1 ≤ lbN p.2.2.2.1 (gh p.2.2.1 j).1) (hc : lbN p.2.2.2.1 (gh p.2.2.1 i).2.1 ≤ lbN p.2.2.2.1 (gh p.2.2.1 i).1) : minL (lines10 p) = some (gh p.2.2.1 i).2.2.2.2 := by
  have mem : ∀ {l}, l ∈ lines10 p ↔ ∃ h ∈ p.2.2.1, lbN p.2.2.2.1 h.2.1 ≤ lbN p.2.2.2.1 h.1 ∧ l = h.2.2.2.2 := fun {l} => by
    unfold lines10
    rw [List.mem_flatMap]
    constructor
    · rintro ⟨h, hh, q⟩
      split at q
      · rename_i c; rw [List.mem_singleton] at q; exact ⟨h, hh, c, q⟩
      · cases q
    · rintro ⟨h, hh, c, q⟩
      exact ⟨h, hh, by rw [if_pos c, q]; simp⟩
  refine minL_some (mem.mpr ⟨_, gh_mem hi, hc, rfl⟩) (fun l hl => ?_)
  obtain ⟨x, hx, c, e⟩ := mem.mp hl
  obtain ⟨j, hj, ej⟩ := List.mem_iff_getElem.mp hx
  have ej : gh p.2.2.1 j = x := by
    show p.2.2.1.getD j _ = x
    rw [List.getD_eq_getElem?_getD, List.getElem?_eq_getElem hj]; exact ej
  rw [e, ← ej]
  rcases Nat.lt_trichotomy i j with q | q | q
  · exact pw_le hs q hj
  · rw [q]; exact Nat.le_refl _
  · rw [← ej] at c; exact absurd c (hb j q)
theorem lines10_none {p : PM} (hb : ∀ j, j < p.2.2.1.length → ¬ lbN p.2.2.2.1 (gh p.2.2.1 j).2.1 ≤ lbN p.2.2.2.1 (gh p.2.2.1 j).1) : minL (lines10 p) = none := by
  rw [minL_none]
  apply List.eq_nil_iff_forall_not_mem.mpr
  intro l hl
  unfold lines10 at hl
  obtain ⟨x, hx, q⟩ := List.mem_flatMap.mp hl
  obtain ⟨j, hj, ej⟩ := List.mem_iff_getElem.mp hx
  have ej : gh p.2.2.1 j = x := by
    show p.2.2.1.getD j _ = x
    rw [List.getD_eq_getElem?_getD, List.getElem?_eq_getElem hj]; exact ej
  have := hb j hj
  rw [ej] at this
  rw [if_neg this] at q; cases q
/-- a handler's labels become numbers -/
theorem JH.hStep {G : List Sl} {US : UST} {A : List Nm} {S : List Sg} {W : List Cls} {w c : Nat} {br : Int32} {q0 nl0 nq nl nf nk : Nat} {p : PM} {z : Nat × Nat × Nat × Nat × Nat × Nat} {L ts : List Tok} {M0 M : Mem} {hh : Nat} {va vb vg : Int32} (h : JH G US A S W w c br q0 nl0 nq nl nf nk p z L ts M0 hh 0 M) (hx : Gx G w) (hc : c < W.length) (hm12 : (gc W c).2.2.2.2.2.length < 12) (hzc : z.1 ≤ c) (hH : hh < p.2.2.1.length) (ea : va = Int32.ofNat (lbN p.2.2.2.1 (gh p.2.2.1 hh).1)) (eb : vb = Int32.ofNat (lbN p.2.2.2.1 (gh p.2.2.1 hh).2.1)) (eg : vg = Int32.ofNat (lbN p.2.2.2.1 (gh p.2.2.1 hh).2.2.1)) : JH G US A S W w c br q0 nl0 nq nl nf nk p z L ts M0 (hh + 1) 0 (sI (sI (sI M 152 w (8 * (12 * c + (gc W c).2.2.2.2.2.length) + hh) va) 153 w (8 * (12 * c + (gc W c).2.2.2.2.2.length) + hh) vb) 154 w (8 * (12 * c + (gc W c).2.2.2.2.2.length) + hh) vg) := by
  obtain ⟨g1, ⟨⟨hC, hFl, hMs⟩, cnt, hRL, hbn⟩, ⟨hHm, ⟨hI1, hI2⟩, hI3, ⟨h9, hH1, hH2⟩, hLb⟩, g4, g5, g6, g7⟩ := h
  have hw := hx.2.2.2.1
  have hH8 := hHm.2.2.2.2
  generalize hm : 12 * c + (gc W c).2.2.2.2.2.length = m at hHm hH1 hH2 ⊢
  obtain ⟨Mz, hMz⟩ : ∃ Mz, Mz = sI (sI (sI M 152 w (8 * m + hh) va) 153 w (8 * m + hh) vb) 154 w (8 * m + hh) vg := ⟨_, rfl⟩
  rw [← hMz]
  have hf : Fr (39962935395766876669632007144585863818716905472) M Mz := by
    rw [hMz]; repeat (first | exact Fr.rf _ _ | refine Fr.wIa rfl rfl ?_)
  have loz : LoT w z.1 M Mz := by
    rw [hMz]
    refine (((LoT.rf w z.1 M).w ?_).w ?_).w ?_
    · show 96 * z.1 ≤ _; omega
    · show 96 * z.1 ≤ _; omega
    · show 96 * z.1 ≤ _; omega
  have z152 : ∀ k, mI Mz 152 w k = if k = 8 * m + hh then va else mI M 152 w k := fun k => by rw [hMz]; simp only [mI_sI, mI_sR, mI_sJ, mR_sI, mL_sI, mL_sR, mR_sR, Nat.reduceEqDiff, and_false, false_and, if_false, and_self, true_and, and_true, if_true]
  have z153 : ∀ k, mI Mz 153 w k = if k = 8 * m + hh then vb else mI M 153 w k := fun k => by rw [hMz]; simp only [mI_sI, mI_sR, mI_sJ, mR_sI, mL_sI, mL_sR, mR_sR, Nat.reduceEqDiff, and_false, false_and, if_false, and_self, true_and, and_true, if_true]
  have z154 : ∀ k, mI Mz 154 w k = if k = 8 * m + hh then vg else mI M 154 w k := fun k => by rw [hMz]; simp only [mI_sI, mI_sR, mI_sJ, mR_sI, mL_sI, mL_sR, mR_sR, Nat.reduceEqDiff, and_false, false_and, if_false, and_self, true_and, and_true, if_true]
  clear hMz
  have rk : ∀ a b c d, Rk w a b c d M Mz := fun a b c d => Rk.fr hf hx.1 hw
  have xl := XL_fr hf hx.1 hx.2.2.2.2.1 rfl
  have nem : ∀ d, d < W.length → ∀ j, j < (gc W d).2.2.2.2.2.length → 12 * d + j ≠ m := fun d hd' j hj => by
    have hk12 := (hMs.1.2 d hd').1.2
    rw [← hm]
    by_cases q : d = c
    · subst q; omega
    · omega
  have oth : ∀ k, k ≠ 8 * m + hh → ∀ f, 152 ≤ f → f ≤ 155 → mI Mz f w k = mI M f w k := fun k hk f a b => by
    have h3 : f = 152 ∨ f = 153 ∨ f = 154 ∨ f = 155 := by omega
    rcases h3 with e | e | e | e <;> subst e
    · rw [z152, if_neg hk]
    · rw [z153, if_neg hk]
    · rw [z154, if_neg hk]
    · exact hf.Ia (f := 155) rfl rfl w k
  refine ⟨g1.fr hf, ⟨⟨hC.fr hf, hFl.fr hf, hMs.keep (hMs.1.fr hf) (rk _ _ _ _) (fun f x y d hd' j hj => ?_) (fun f x y d hd' j hj i hi => oth _ (by have := nem d hd' j hj; omega) f x y) (fun f x y => ?_)⟩, ⟨(hf.I (f := 12) (k := 35) rfl w).trans cnt.1, (hf.I (f := 12) (k := 37) rfl w).trans cnt.2.1, (hf.I (f := 12) (k := 41) rfl w).trans cnt.2.2.1, (hf.I (f := 12) (k := 43) rfl w).trans cnt.2.2.2⟩, hRL.of (fun s hs => (rd_fr hf hx.1 rfl (hw s hs)).2), hbn⟩, ⟨?_, ⟨fun j hj => absurd hj (Nat.not_lt_zero j), fun j _ hj => (hI2 j (Nat.zero_le _) hj).keep (rk (q0 + p.2.1.length) _ _ _) (by omega)⟩, (fun j hj e => ((rd_fr hf hx.1 rfl (hw (sBs w) (by simp))).1 _).trans (hI3 j hj e)), ⟨(hf.L (f := 109) rfl 0).trans h9, fun j hj => ?_, fun j hj hj' => ?_⟩, hLb.of (hf.I (f := 11) (k := 60) rfl 0) xl⟩, g4.fr hf hx, ⟨g5.1.fr hf hx.1, g5.2.1.trans loz, g5.2.2.trans (rk _ _ _ _)⟩, (hf.I (f := 11) (k := 51) rfl 0).trans g6, g7.fr hf hx.1 hx.2.2.2.2.1⟩
  · have h3 : f = 149 ∨ f = 150 ∨ f = 151 := by omega
    rcases h3 with e | e | e <;> subst e
    · exact hf.Ia (f := 149) rfl rfl w _
    · exact hf.Ia (f := 150) rfl rfl w _
    · exact hf.Ia (f := 151) rfl rfl w _
  · have h3 : f = 152 ∨ f = 153 ∨ f = 154 ∨ f = 155 := by omega
    rcases h3 with e | e | e | e <;> subst e
    · exact hf.L (f := 152) rfl w
    · exact hf.L (f := 153) rfl w
    · exact hf.L (f := 154) rfl w
    · exact hf.L (f := 155) rfl w
  · rw [hm]
    obtain ⟨⟨a1, a2, a3, a4, a5, a6⟩, ⟨b1, b2', b3⟩, ⟨c1, c2⟩, d1, d2⟩ := hHm
    exact ⟨⟨⟨(hf.Ia (f := 144) rfl rfl w m).trans a1.1, a1.2⟩, ⟨(hf.Ia (f := 145) rfl rfl w m).trans a2.1, a2.2⟩, a3, (hf.Ia (f := 146) rfl rfl w m).trans a4, (hf.Ia (f := 147) rfl rfl w m).trans a5, (hf.Ia (f := 148) rfl rfl w m).trans a6⟩, ⟨(hf.Ia (f := 149) rfl rfl w m).trans b1, (hf.Ia (f := 150) rfl rfl w m).trans b2', (hf.Ia (f := 151) rfl rfl w m).trans b3⟩, ⟨(hf.I (f := 11) (k := 53) rfl 0).trans c1, (hf.I (f := 11) (k := 54) rfl 0).trans c2⟩, d1, d2⟩
  · rw [hm]
    by_cases ej : j = hh
    · subst ej
      obtain ⟨x, -, -⟩ := hH2 j (Nat.le_refl _) hH
      exact ⟨by rw [z152, if_pos rfl, ea], by rw [z153, if_pos rfl, eb], by rw [z154, if_pos rfl, eg], (hf.Ia (f := 155) rfl rfl w _).trans x.2.2.2.1, x.2.2.2.2⟩
    · exact (hH1 j (by omega)).of (oth _ (by omega))
  · rw [hm]
    obtain ⟨x, y, u⟩ := hH2 j (by omega) hj'
    exact ⟨x.of (oth _ (by omega)), y, (hf.Ia (f := 109) rfl rfl 0 j).trans u⟩
