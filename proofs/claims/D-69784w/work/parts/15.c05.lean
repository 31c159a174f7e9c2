theorem JM.kindWords {G : List Sl} {US : UST} {A : List Nm} {S : List Sg} {W : List Cls} {w c : Nat} {br : Int32} {q0 nl0 nq nl nf nk : Nat} {p : PM} {NL : List Nine} {z : Nat × Nat × Nat × Nat × Nat × Nat} {L ts : List Tok} {M0 M : Mem} {b : Nat} {Q : Int32 → Mem → Prop} {X : Mem → Prop} (h : JM G US A S W w c br q0 nl0 nq nl nf nk p NL z L ts M0 M) (hx : Gx G w) (hz : lz L) (hne : ts ≠ []) (hb : b < 100) (hb4 : b ≠ 44) (hnk : nk + L.length ≤ 3900) (hqq : nq = q0 + p.2.1.length) (hzb : z.2.1 ≤ nq ∧ z.2.2.1 ≤ nl ∧ z.2.2.2.1 ≤ nf ∧ z.2.2.2.2.1 ≤ nk)
    (E : ∀ e M', pKinds b (ts.length + 1) [] ts = .inl e → ThT e M' → JE G US A w z M0 M' → X M')
    (F : ∀ acc t1 M', pKinds b (ts.length + 1) [] ts = .inr (acc, t1) → t1 ≠ [] → (b ≠ 0 → t1.tail ≠ []) → acc.length ≤ L.length → KI G A w nk acc M M' → JM G US A S W w c br q0 nl0 nq nl nf (nk + acc.length) p NL z L t1.tail M0 M' → Q (Int32.ofNat acc.length) M') : w_Model_kindWords 0 (Int32.ofNat b) Q X M := by
  have hl0 : 0 < ts.length := List.length_pos_iff.mpr hne
  obtain ⟨k, k1, k2, ⟨k3', k4, k5, k6⟩, k7, k8⟩ := h.1.at hl0
  rw [gt0 hne] at k7 k8
  rw [Nat.add_zero] at k7
  have hsl := h.1.suf.length_le
  have tk : (Int32.ofNat k).toNatClampNeg = k := oN_tnc (by omega)
  have ek : mI M 411 0 (mI M 11 0 43).toNatClampNeg = Int32.ofNat (hd ts).1 := by rw [k1, tk]; exact k7.1
  have K0 : KI G A w nk [] M M := ⟨(fun κ hκ => by cases hκ), fun j hj => absurd hj (Nat.not_lt_zero j), fun _ _ => rfl, fun _ _ => ⟨fun _ => rfl, rfl, rfl⟩⟩
  have hp : pKinds b (ts.length + 1) [] ts = if (hd ts).1 = b then .inr ([], ts) else match pKind ts with
      | .inl e => .inl e
      | .inr (κ, t2) => pKinds b ts.length ([] ++ [κ]) t2 := by
    rw [pKinds]
    by_cases q : (hd ts).1 = b
    · rw [if_pos q, if_pos q]
    · rw [if_neg q, if_neg q]
      simp only [List.length_nil, if_true]
      cases pKind ts <;> rfl
  unfold w_Model_kindWords
  refine ⟨by rw [k1, k4]; exact (vp_oN (by omega)).mpr (by omega), ?_⟩
  rw [ek]
  by_cases cb : (hd ts).1 = b
  · refine itp (by rw [cb]) ?_
    unfold w_Model_kindWords_j123
    rw [if_pos cb] at hp
    refine mf_w_Model_need (Q := fun M' => (hd ts).1 = b ∧ TQ A L ts.tail M') (X := fun M' => (hd ts).1 ≠ b ∧ ThT (er ts) M') (fun M' f5 h5 => ?_) (fun M' f5 h5 => absurd cb h5.1) (ct_need h.1 hne hb (fun M' a b => ⟨a, b⟩) (fun M' a b => ⟨a, b⟩))
    exact F [] ts M' hp hne (fun q => tl_ne h.1 hz hne (by rw [h5.1]; exact q)) (by simp) (K0.fr f5 hx.1 hx.2.2.2.1) (h.fr hx f5 h5.2)
  · refine itn (ne_oN cb (by omega) (by omega)) ⟨ts.length + 1, ?_⟩
    rw [if_neg cb] at hp
    refine JM.kindLoop (t0 := ts) (M := M) hx hz hb hb4 hnk hqq hzb E F ts.length [] ts M (Nat.le_refl _) hne (by simpa using hsl) K0 h ?_
    rw [hp]
    cases pKind ts <;> rfl
/-- a row of frames is made longer -/
theorem JM.frRow {G : List Sl} {US : UST} {A : List Nm} {S : List Sg} {W : List Cls} {w c : Nat} {br : Int32} {q0 nl0 nq nl nf nk : Nat} {p : PM} {NL : List Nine} {z : Nat × Nat × Nat × Nat × Nat × Nat} {L ts : List Tok} {M0 M : Mem} {s : Sl} {M2 : Mem} {i : Nat} (h : JM G US A S W w c br q0 nl0 nq nl nf nk p NL z L ts M0 M) (hx : Gx G w) (hs : s ∈ [sFl w, sFs w, sFf w]) (hn : nf < 3900) (r1 : Gr1 G [s] s (nf + 1) M (sR M2 s.1 s.2.1 s.2.2.1 (some (300, i)))) (f1 : Fr F_Model_room M M2) (hqq : nq = q0 + p.2.1.length) (hzb : z.2.1 ≤ nq ∧ z.2.2.1 ≤ nl ∧ z.2.2.2.1 ≤ nf ∧ z.2.2.2.2.1 ≤ nk) : JM G US A S W w c br q0 nl0 nq nl nf nk p NL z L ts M0 (sR M2 s.1 s.2.1 s.2.2.1 (some (300, i))) ∧ nf + 1 ≤ rl (sR M2 s.1 s.2.1 s.2.2.1 (some (300, i))) s ∧ GF G [s] M (sR M2 s.1 s.2.1 s.2.2.1 (some (300, i))) ∧ (∀ k, k < nf → rd (sR M2 s.1 s.2.1 s.2.2.1 (some (300, i))) s k = rd M s k) ∧ (mI (sR M2 s.1 s.2.1 s.2.2.1 (some (300, i))) 11 0 54 = mI M 11 0 54) := by
  have hw := hx.2.2.2.1
  have hsW : s ∈ XW w := by
    simp only [List.mem_cons, List.not_mem_nil, or_false] at hs ⊢
    rcases hs with e | e | e <;> simp [e]
  have fr1 : Fr (287724615985440965458794678136059329065601673898977937679550706873822600720910104184224330452334632505066398528821115743546239988265425214780729768327433904187638733707140592015203836016720409797262037678641561245446221574655641153333187651609098710329941003825584030113765405961157123932768976632761263557862273595233321799276323219915537860208918694360056093605407667110977055296220158058209988384202312567422191708397454623472372937755539799002254127214040020619096795591065008034208014061606765594202542785143942548576241794192533346758629812272041305149983629328870649456922026910195592295523091031490882549328976630652950406798059374207737849264736887522904256307523528721406168393712497143472415965020508675553161618909961978688161467804516902749616486505274866253009378466932840557497655391243688763160777783175190193624523072760344566751840798826596645819956374831296851998547631235033229362191712525137513912116306586274977930827291072397228457017864924598848152664697230355761995000604528511032261508429047867213488939919654663046004287158591981639207837606390935195675352613463530697120862978554996979474744800552872800410718856115216481941892922547083366588492164470241117969798581320132080370166807320461480591184642660494146589659117104393696254611499735967879306884688745114718709950158826240155858338532844284000740762784953246486917727858461175426846076497167127785959167325869590514221775928029375943838328310967554971782689330084588538632377395459411587178745155231980475389540904755349810774558433494641807223015509566577462579769950810557102240387236399976412928329329410048) M (sR M2 s.1 s.2.1 s.2.2.1 (some (300, i))) := by
    simp only [List.mem_cons, List.not_mem_nil, or_false] at hs
    rcases hs with e | e | e <;> subst e
    · show Fr _ M (sR M2 12 w 38 (some (300, i))); exact Fr.wR rfl (f1.sub rfl)
    · show Fr _ M (sR M2 12 w 39 (some (300, i))); exact Fr.wR rfl (f1.sub rfl)
    · show Fr _ M (sR M2 12 w 40 (some (300, i))); exact Fr.wR rfl (f1.sub rfl)
  have lo1 : LoT w z.1 M (sR M2 s.1 s.2.1 s.2.2.1 (some (300, i))) := ((LoT.rf w z.1 M).fr f1).sR
  generalize sR M2 s.1 s.2.1 s.2.2.1 (some (300, i)) = M3 at fr1 lo1 r1 ⊢
  have m10 : s ∈ G := hw s hsW
  obtain ⟨c35, c37, c41, c43⟩ := h.2.1.2.1
  have hRL := h.2.1.2.2.1
  have n1 := (Gn.nil (n := nf) h.2.2.2.2.1.1.1).step m10 (fun x hx => by cases hx) (by simp) (by omega) (hRL.2.2.1 s hs) (hRL.2.2.2.2 _ hsW) r1
  have hg := n1.1
  have rX : ∀ s' ∈ XW w, s' ≠ s → (∀ k, rd M3 s' k = rd M s' k) ∧ rl M3 s' = rl M s' := fun s' hs hn => ⟨(hg.2.1 s' (hw s' hs) (by simpa using hn)).1, (hg.2.1 s' (hw s' hs) (by simpa using hn)).2.1⟩
  obtain ⟨b1, b2', b3⟩ := n1.2 s (by simp)
  have nC : ∀ s' ∈ XC w, s' ∈ XW w ∧ s' ≠ s := fun s' h' => by
    simp only [List.mem_cons, List.not_mem_nil, or_false] at hs h'
    rcases h' with e | e | e | e | e <;> rcases hs with q | q | q <;> subst e q <;> exact ⟨by simp, sl_ne (by simp)⟩
  have nL : sLi w ≠ s ∧ sFk w ≠ s := by
    simp only [List.mem_cons, List.not_mem_nil, or_false] at hs
    rcases hs with q | q | q <;> subst q <;> exact ⟨sl_ne (by simp), sl_ne (by simp)⟩
  have nF : ∀ s' ∈ [sFl w, sFs w, sFf w], s' ∈ XW w := fun s' h' => by
    simp only [List.mem_cons, List.not_mem_nil, or_false] at h' ⊢
    rcases h' with e | e | e <;> simp [e]
  refine ⟨h.rows hx fr1 hg (fun x hx => by rw [List.mem_singleton] at hx; rw [hx]; exact hsW) (h.1.fr fr1) ⟨(fr1.I (f := 12) (k := 35) rfl w).trans c35, (fr1.I (f := 12) (k := 37) rfl w).trans c37, (fr1.I (f := 12) (k := 41) rfl w).trans c41, (fr1.I (f := 12) (k := 43) rfl w).trans c43⟩ ⟨fun s' hs' => ?_, ?_, fun s' hs' => ?_, ?_, fun s' hs' => ?_⟩ ⟨⟨Nat.le_refl _, Nat.le_refl _, Nat.le_refl _, Nat.le_refl _⟩, h.2.1.2.2.2.2.2⟩ hqq ⟨fun s' hs' k _ => (rX s' (nC s' hs').1 (nC s' hs').2).1 k, fun k _ => (rX _ (by simp) nL.1).1 k, fun s' hs' k hk => ?_, fun k _ => (rX _ (by simp) nL.2).1 k, fun s' hs' => ?_⟩ lo1 hzb, b1.1, hg, b3, fr1.I (f := 11) (k := 54) rfl 0⟩
  · rw [(rX s' (nC s' hs').1 (nC s' hs').2).2]; exact hRL.1 s' hs'
  · rw [(rX _ (by simp) nL.1).2]; exact hRL.2.1
  · by_cases q : s' = s
    · rw [q]; omega
    · rw [(rX s' (nF s' hs') q).2]; exact hRL.2.2.1 s' hs'
  · rw [(rX _ (by simp) nL.2).2]; exact hRL.2.2.2.1
  · by_cases q : s' = s
    · rw [q]; exact b2'
    · rw [(rX s' hs' q).2]; exact hRL.2.2.2.2 s' hs'
  · by_cases q : s' = s
    · rw [q]; exact b3 k hk
    · exact (rX s' (nF s' hs') q).1 k
  · by_cases q : s' = s
    · rw [q]; exact ⟨b1.2, fun _ => b2'⟩
    · rw [(rX s' hs' q).2]; exact ⟨Nat.le_refl _, id⟩
/-- and written behind what is counted -/
theorem JM.frWr {G : List Sl} {US : UST} {A : List Nm} {S : List Sg} {W : List Cls} {w c : Nat} {br : Int32} {q0 nl0 nq nl nf nk : Nat} {p : PM} {NL : List Nine} {z : Nat × Nat × Nat × Nat × Nat × Nat} {L ts : List Tok} {M0 M : Mem} {s : Sl} {v : Int32} (h : JM G US A S W w c br q0 nl0 nq nl nf nk p NL z L ts M0 M) (hx : Gx G w) (hs : s ∈ [sFl w, sFs w, sFf w]) (hqq : nq = q0 + p.2.1.length) (hzb : z.2.1 ≤ nq ∧ z.2.2.1 ≤ nl ∧ z.2.2.2.1 ≤ nf ∧ z.2.2.2.2.1 ≤ nk) : JM G US A S W w c br q0 nl0 nq nl nf nk p NL z L ts M0 (sI M 300 (rdI M s) nf v) ∧ GF G [s] M (sI M 300 (rdI M s) nf v) ∧ rd (sI M 300 (rdI M s) nf v) s nf = v := by
  have hw := hx.2.2.2.1
  have hsW : s ∈ XW w := by
    simp only [List.mem_cons, List.not_mem_nil, or_false] at hs ⊢
    rcases hs with e | e | e <;> simp [e]
  have e3 : s.2.2.2 = 300 := by
    simp only [List.mem_cons, List.not_mem_nil, or_false] at hs
    rcases hs with e | e | e <;> subst e <;> rfl
  have T := h.2.2.2.2.1.1.1
  have hg : GF G [s] M (sI M 300 (rdI M s) nf v) := by
    have := (GF.rf (X := [s]) T).wr (s := s) (k := nf) (v := v) (hw s hsW) (by simp) rfl
    rw [e3] at this; exact this
  have hr : ∀ k, rd (sI M 300 (rdI M s) nf v) s k = if k = nf then v else rd M s k := fun k => by
    rw [← e3]; exact rd_wr
  have fr1 : Fr (2037035976334486086268445688409378161051468393665936250636140449354381299763336706183397376) M (sI M 300 (rdI M s) nf v) := Fr.wIa rfl rfl (Fr.rf _ _)
  have lo1 : LoT w z.1 M (sI M 300 (rdI M s) nf v) := (LoT.rf w z.1 M).wo
  have hl : ∀ s', rl (sI M 300 (rdI M s) nf v) s' = rl M s' := fun _ => rfl
  generalize sI M 300 (rdI M s) nf v = M3 at fr1 lo1 hg hr hl ⊢
  obtain ⟨c35, c37, c41, c43⟩ := h.2.1.2.1
  have hRL := h.2.1.2.2.1
  have rX : ∀ s' ∈ XW w, s' ≠ s → (∀ k, rd M3 s' k = rd M s' k) := fun s' hs hn => (hg.2.1 s' (hw s' hs) (by simpa using hn)).1
  have nC : ∀ s' ∈ XC w, s' ∈ XW w ∧ s' ≠ s := fun s' h' => by
    simp only [List.mem_cons, List.not_mem_nil, or_false] at hs h'
    rcases h' with e | e | e | e | e <;> rcases hs with q | q | q <;> subst e q <;> exact ⟨by simp, sl_ne (by simp)⟩
  have nL : sLi w ≠ s ∧ sFk w ≠ s := by
    simp only [List.mem_cons, List.not_mem_nil, or_false] at hs
    rcases hs with q | q | q <;> subst q <;> exact ⟨sl_ne (by simp), sl_ne (by simp)⟩
  have nF : ∀ s' ∈ [sFl w, sFs w, sFf w], s' ∈ XW w := fun s' h' => by
    simp only [List.mem_cons, List.not_mem_nil, or_false] at h' ⊢
    rcases h' with e | e | e <;> simp [e]
  refine ⟨h.rows hx fr1 hg (fun x hx => by rw [List.mem_singleton] at hx; rw [hx]; exact hsW) (h.1.fr fr1) ⟨(fr1.I (f := 12) (k := 35) rfl w).trans c35, (fr1.I (f := 12) (k := 37) rfl w).trans c37, (fr1.I (f := 12) (k := 41) rfl w).trans c41, (fr1.I (f := 12) (k := 43) rfl w).trans c43⟩ (hRL.of (fun s' _ => hl s')) ⟨⟨Nat.le_refl _, Nat.le_refl _, Nat.le_refl _, Nat.le_refl _⟩, h.2.1.2.2.2.2.2⟩ hqq ⟨fun s' hs' k _ => rX s' (nC s' hs').1 (nC s' hs').2 k, fun k _ => rX _ (by simp) nL.1 k, fun s' hs' k hk => ?_, fun k _ => rX _ (by simp) nL.2 k, fun s' _ => by rw [hl]; exact ⟨Nat.le_refl _, id⟩⟩ lo1 hzb, hg, by rw [hr, if_pos rfl]⟩
  by_cases q : s' = s
  · rw [q, hr, if_neg (by omega)]
  · exact rX s' (nF s' hs') q k
