/-! B: kinds of a frame in the works -/
theorem RS.isE {B : List Nm} {r n : Nat} {p : Nat → Int32} {to : Nat} {A : List Nm} {ts : List Tok} {M : Mem} (hR : RS B r n p to A ts M) : mR M 2 0 3 = some (0, 100 + 3) ↔ (ts.headD (1, [], 0, 0)).1 = 0 := by
  refine ⟨fun q => ?_, fun q => by rw [hR.hd.1.kind, if_pos q]⟩
  have := kd_of hR.hd.1 q
  by_cases c : (ts.headD (1, [], 0, 0)).1 = 0
  · exact c
  · rw [if_neg c] at this
    exact absurd this (by repeat' split
                          all_goals decide)
theorem RS.isN {B : List Nm} {r n : Nat} {p : Nat → Int32} {to : Nat} {A : List Nm} {ts : List Tok} {M : Mem} (hR : RS B r n p to A ts M) : mR M 2 0 3 = some (0, 100 + 0) ↔ ((ts.headD (1, [], 0, 0)).1 = 2 ∨ (ts.headD (1, [], 0, 0)).1 = 3) :=
  ⟨fun q => kd_name.mp (kd_of hR.hd.1 q), fun q => (hR.hd.1.name q).1⟩
theorem k_kindWord {Inv : List Nm → Mem → Prop} (hI : PW Inv) {B : List Nm} {r n : Nat} {p : Nat → Int32} {to : Nat} {A : List Nm} {ts : List Tok} {Q : Int32 → Mem → Prop} {X : Mem → Prop} {M : Mem} (hR : RS B r n p to A ts M) (hi : Inv A M)
    (hQ : ∀ A' κ ts' M', pKind ts = .inr (κ, ts') → A <+: A' → kok A κ → RS B r n p to A' ts' M' → Inv A' M' → Q (kC A κ) M') (hX : ∀ A' e M', pKind ts = .inl e → A <+: A' → Thr B A' e M' → Inv A' M' → X M') : w_Reader_kindWord 0 Q X M := by
  have val : ∀ i nm, A0[i]? = some nm → isWd nm ts = true → mI M 2 0 5 = Int32.ofNat i ∧ 1 < (hd ts).1 := fun i nm h q => by
    have q := of_decide_eq_true q
    obtain ⟨-, k2, -⟩ := hR.hd.1.name (Or.inl q.1)
    rw [k2, q.2]; exact ⟨nc_at hR.1.1 (hR.1.2.1.at h), by omega⟩
  have fin : ∀ (κ : Kd) (v : Int32), v = kC A κ → pKind ts = .inr (κ, ts.tail) → kok A κ → 1 < (hd ts).1 → w_Reader_kindWord_j69 0 Q X v M := fun κ v e a b c => by
    unfold w_Reader_kindWord_j69
    rw [e]
    exact k_next hI hR hi c (fun A' M' x y z => hQ A' κ _ M' a x b y z)
  unfold w_Reader_kindWord
  refine c_isWd (v := 2) (nm := nNull) hR rfl ⟨by decide, by decide⟩ ?_
  cases c1 : isWd nNull ts with
  | true =>
    refine itn (by decide) ?_
    unfold w_Reader_kindWord_j35
    exact itp (val 2 nNull rfl c1).1 (fin (-1, []) _ rfl (by unfold pKind; rw [if_pos c1]) (fun e => absurd e (by decide)) (val 2 nNull rfl c1).2)
  | false =>
    have n1 : ¬ isWd nNull ts = true := by rw [c1]; decide
    refine itp (by decide) (c_isWd (v := 75) (nm := nUnset) hR rfl ⟨by decide, by decide⟩ ?_)
    cases c2 : isWd nUnset ts with
    | true =>
      refine itn (by decide) ?_
      unfold w_Reader_kindWord_j35
      have e := val 75 nUnset rfl c2
      rw [e.1]
      exact itn (by decide) (itp rfl (fin (-2, []) _ rfl (by unfold pKind; rw [if_neg n1, if_pos c2]) (fun e => absurd e (by decide)) e.2))
    | false =>
      have n2 : ¬ isWd nUnset ts = true := by rw [c2]; decide
      refine itp (by decide) (c_isWd (v := 76) (nm := nUnmade) hR rfl ⟨by decide, by decide⟩ ?_)
      cases c3 : isWd nUnmade ts with
      | true =>
        refine itn (by decide) ?_
        unfold w_Reader_kindWord_j35
        have e := val 76 nUnmade rfl c3
        rw [e.1]
        exact itn (by decide) (itn (by decide) (fin (-3, []) _ rfl (by unfold pKind; rw [if_neg n1, if_neg n2, if_pos c3]) (fun e => absurd e (by decide)) e.2))
      | false =>
        have n3 : ¬ isWd nUnmade ts = true := by rw [c3]; decide
        have hp : pKind ts = pType ts := by unfold pKind; rw [if_neg n1, if_neg n2, if_neg n3]
        exact itp (by decide) (k_type hI hR hi (fun A' κ ts' M' a b c d e => hQ A' κ ts' M' (hp.trans a) b c d e) (fun A' e M' a b c d => hX A' e M' (hp.trans a) b c d))
/-- kinds in a row, as the works hold them -/
def cKs (A : List Nm) (w kf : Nat) (ks : List Kd) (M : Mem) : Prop := ∀ i, i < ks.length → mI M 73 w (kf + i) = kC A (gk ks i) ∧ kok A (gk ks i)
theorem cKs.pre {A A' : List Nm} {w kf : Nat} {ks : List Kd} {M : Mem} (h : cKs A w kf ks M) (hp : A <+: A') : cKs A' w kf ks M := fun i hi => ⟨(h i hi).1.trans (kC_pre hp (h i hi).2).symm, kok_pre hp (h i hi).2⟩
theorem cKs.lo {A : List Nm} {w kf : Nat} {ks : List Kd} {b : Nat → Nat} {M M' : Mem} (h : cKs A w kf ks M) (hx : Lo w b M M') (hb : kf + ks.length ≤ b 73) : cKs A w kf ks M' := fun i hi => ⟨((hx.1 73 rfl).1 w (kf + i) (Or.inr (by omega))).trans (h i hi).1, (h i hi).2⟩
theorem gk_app1 {ks l : List Kd} {i : Nat} (h : i < ks.length) : gk (ks ++ l) i = gk ks i := by simp [gk, List.getD_eq_getElem?_getD, List.getElem?_append_left h]
theorem gk_app2 {ks l : List Kd} {i : Nat} (h : ks.length ≤ i) : gk (ks ++ l) i = gk l (i - ks.length) := by simp [gk, List.getD_eq_getElem?_getD, List.getElem?_append_right h]
theorem cKs.add {A : List Nm} {w kf : Nat} {ks : List Kd} {κ : Kd} {M M' : Mem} (h : cKs A w kf ks M) (hk : kok A κ) (e : ∀ j, mI M' 73 w j = if j = kf + ks.length then kC A κ else mI M 73 w j) : cKs A w kf (ks ++ [κ]) M' := fun i hi => by
  rw [List.length_append, List.length_singleton] at hi
  rw [e]
  by_cases c : i < ks.length
  · rw [if_neg (by omega), gk_app1 c]; exact h i c
  · have : i = ks.length := by omega
    rw [if_pos (by omega), gk_app2 (by omega), this, Nat.sub_self]; exact ⟨rfl, hk⟩
theorem cKs.app {A : List Nm} {w kf : Nat} {ls ss : List Kd} {M : Mem} (h : cKs A w kf ls M) (h2 : cKs A w (kf + ls.length) ss M) : cKs A w kf (ls ++ ss) M := fun i hi => by
  rw [List.length_append] at hi
  by_cases c : i < ls.length
  · rw [gk_app1 c]; exact h i c
  · rw [gk_app2 (by omega)]
    have := h2 (i - ls.length) (by omega)
    rw [show kf + ls.length + (i - ls.length) = kf + i by omega] at this; exact this
theorem pKind_tail {ts t2 : List Tok} {κ : Kd} (h : pKind ts = .inr (κ, t2)) : t2 = ts.tail := by
  unfold pKind at h
  split at h
  · cases h; rfl
  · split at h
    · cases h; rfl
    · split at h
      · cases h; rfl
      · exact pType_tail h
theorem c_kinds {B : List Nm} {r n : Nat} {p : Nat → Int32} {to : Nat} {A : List Nm} {ts : List Tok} {w nk : Nat} {b : Nat → Nat} {Q : Int32 → Mem → Prop} {X : Mem → Prop} {M : Mem} {e : Bool} {bb : Nat} (he : (e = false ∧ bb = 59) ∨ (e = true ∧ bb = 0)) (hR : RS B r n p to A ts M) (hw : mR M 3 0 1 = some (5, w)) (h47 : mI M 5 w 47 = Int32.ofNat nk) (hb : b 73 ≤ nk) (hrm : 2 * nk + ts.length ≤ 2 * mL M 73 w + 1) (hL : mL M 73 w < 100000)
    (hQ : ∀ A' ks ts' M', pKinds bb (ts.length + 1) [] ts = .inr (ks, ts') → A <+: A' → RS B r n p to A' ts' M' → Ex w b M M' → mI M' 5 w 47 = Int32.ofNat (nk + ks.length) → cKs A' w nk ks M' → 2 * ks.length + ts'.length ≤ ts.length + (if ks.length = 0 then 0 else 1) → (hd ts').1 = bb → Q (Int32.ofNat ks.length) M')
    (hX : ∀ A' e' M', pKinds bb (ts.length + 1) [] ts = .inl e' → A <+: A' → Thr B A' e' M' → Ex w b M M' → X M') : w_Reader_kinds 0 (b2 e) Q X M := by
  have main : ∀ d ks A1 t M1, t.length < d → A <+: A1 → RS B r n p to A1 t M1 → Ex w b M M1 ∧ mI M1 5 w 47 = Int32.ofNat (nk + ks.length) ∧ cKs A1 w nk ks M1 → 2 * ks.length + t.length ≤ ts.length + (if ks.length = 0 then 0 else 1) → pKinds bb (ts.length + 1) [] ts = pKinds bb d ks t → w_Reader_kinds_L2 0 Q X d (b2 e) (Int32.ofNat ks.length) M1 := by
    intro d
    induction d with
    | zero => intro ks A1 t M1 h; omega
    | succ d ih =>
      intro ks A1 t M1 hlt p1 R1 i1 hcnt hp
      have hI : PW (fun A' M' => Ex w b M M' ∧ mI M' 5 w 47 = Int32.ofNat (nk + ks.length) ∧ cKs A' w nk ks M') := fun A A' M1 M2 h hp _ hk =>
        ⟨h.1.wk hk, (hk.1.I (f := 5) (k := 47) rfl w).trans h.2.1, fun i hi => by rw [hk.1.Ia (f := 73) rfl rfl]; exact (h.2.2.pre hp) i hi⟩
      have hlen := R1.len
      have hks : ks.length ≤ 3000 := by
        have := hR.len
        have cle : (if ks.length = 0 then 0 else 1) ≤ 1 := by split <;> omega
        omega
      have stop : (hd t).1 = bb → Q (Int32.ofNat ks.length) M1 := fun q => hQ A1 ks t M1 (hp.trans (by unfold pKinds; rw [if_pos q])) p1 R1 i1.1 i1.2.1 i1.2.2 hcnt q
      have step : ∀ A2 t2 M2, A1 <+: A2 → RS B r n p to A2 t2 M2 → Ex w b M M2 ∧ mI M2 5 w 47 = Int32.ofNat (nk + ks.length) ∧ cKs A2 w nk ks M2 → t2.length + (if ks.length = 0 then 0 else 1) = t.length → pKinds bb (ts.length + 1) [] ts = (match pKind t2 with
          | .inl e => .inl e
          | .inr (κ, t3) => pKinds bb d (ks ++ [κ]) t3) → w_Reader_kinds_j44 0 Q X (w_Reader_kinds_L2 0 Q X d) (b2 e) (Int32.ofNat ks.length) M2 := by
        intro A2 t2 M2 p2 R2 i2 ht2 hpp
        unfold w_Reader_kinds_j44
        have hw2 : mR M2 3 0 1 = some (5, w) := i2.1.1.2.1.1.trans hw
        refine ⟨w, hw2, w, hw2, ?_⟩
        rw [i2.2.1]
        refine k_kindWord hI R2 i2 (fun A3 κ t3 M3 a1 a2 a3 R3 i3 => ?_) (fun A' e' M' a1 a2 th iv => hX A' e' M' (by rw [hpp, a1]) ((p1.trans p2).trans a2) th iv.1)
        have hw3 : mR M3 3 0 1 = some (5, w) := i3.1.1.2.1.1.trans hw
        have hl3 : mL M3 73 w = mL M 73 w := (i3.1.1.1.1 73 rfl).2 w
        have ht3 := pKind_tail a1
        have hne3 := List.length_pos_iff.mpr R3.hd.2.2
        have htl := tail_lt R2.hd.2.2
        rw [ht3] at hne3
        have htl2 : t2.tail.length + 1 = t2.length := by rw [List.length_tail]; omega
        have hidx : nk + ks.length < mL M 73 w := by
          by_cases c0 : ks.length = 0
          · rw [if_pos c0] at ht2 hcnt; omega
          · rw [if_neg c0] at ht2 hcnt; omega
        refine ⟨by rw [hl3]; exact (vp_oN (by omega)).mpr hidx, w, hw3, _, rfl, ?_⟩
        have e47 : mI (sI M3 73 w (Int32.ofNat (nk + ks.length)).toNatClampNeg (kC A2 κ)) 5 w 47 = Int32.ofNat (nk + ks.length) := i3.2.1
        rw [e47, oN_tnc (by omega), lit32 1, oN_add, oN_add, ← kC_pre a2 a3]
        have hl : (ks ++ [κ]).length = ks.length + 1 := by simp
        rw [← hl]
        refine ih (ks ++ [κ]) A3 t3 _ ?_ ((p1.trans p2).trans a2) R3.w.w ⟨(i3.1.w (by omega)).w5, ?_, ?_⟩ ?_ (by rw [hpp, a1])
        · rw [ht3]; split at ht2 <;> omega
        · rw [hl, mI_sI, if_pos ⟨rfl, rfl, rfl⟩]; rfl
        · exact i3.2.2.add (kok_pre a2 a3) (fun j => by simp [mI_sI])
        · rw [hl, if_neg (by omega), ht3]
          by_cases c0 : ks.length = 0
          · rw [if_pos c0] at ht2 hcnt; omega
          · rw [if_neg c0] at ht2 hcnt; omega
      have go : (hd t).1 ≠ bb → w_Reader_kinds_j34 0 Q X (w_Reader_kinds_L2 0 Q X d) (b2 e) (Int32.ofNat ks.length) M1 := fun hne => by
        unfold w_Reader_kinds_j34
        by_cases c0 : ks.length = 0
        · refine itp (le_oN (b := 0) (by omega) (by omega)) (step A1 t M1 (List.prefix_refl _) R1 i1 (by rw [if_pos c0]; rfl) (hp.trans ?_))
          conv => lhs; unfold pKinds
          rw [if_neg hne, if_pos c0]
          dsimp only
          cases pKind t <;> rfl
        · refine itn (nle_oN (b := 0) (by omega) (by omega)) ?_
          refine k_sign hI R1 i1 (b := 44) (by omega) (by omega) (fun A2 M2 q p2 R2 i2 => ?_) (fun A' M' q p' th iv => hX A' _ M' (hp.trans ?_) (p1.trans p') th iv.1)
          · refine step A2 t.tail M2 p2 R2 i2 (by rw [if_neg c0, List.length_tail]; have := List.length_pos_iff.mpr R1.hd.2.2; omega) (hp.trans ?_)
            conv => lhs; unfold pKinds
            rw [if_neg hne, if_neg c0]
            unfold pSign
            rw [if_pos q]
            dsimp only
            cases pKind t.tail <;> rfl
          · unfold pKinds
            rw [if_neg hne, if_neg c0]
            unfold pSign
            rw [if_neg q]
      unfold w_Reader_kinds_L2
      rcases he with ⟨e1, e2⟩ | ⟨e1, e2⟩
      · subst e1
        refine itp rfl ?_
        refine c_isSign R1.hd.1 (b := 59) (by omega) (by omega) (by have := R1.hd.2.1.2.1; omega) ?_
        by_cases c : (hd t).1 = 59
        · rw [decide_eq_true c]; exact itn (by decide) (stop (c.trans e2.symm))
        · rw [decide_eq_false c]; exact itp (by decide) (go (by rw [e2]; exact c))
      · subst e1
        refine itn (by decide) ⟨R1.hd.1.isK, ?_⟩
        by_cases c : (hd t).1 = 0
        · exact itp (R1.isE.mpr c) (stop (c.trans e2.symm))
        · exact itn (fun q => c (R1.isE.mp q)) (go (by rw [e2]; exact c))
  unfold w_Reader_kinds
  exact ⟨_, main (ts.length + 1) [] A ts M (by omega) (List.prefix_refl _) hR ⟨Ex.rf w b M, h47, fun i hi => absurd hi (Nat.not_lt_zero i)⟩ (by simp) rfl⟩
theorem c_kindsF {B : List Nm} {r n : Nat} {p : Nat → Int32} {to : Nat} {A : List Nm} {ts : List Tok} {w nk : Nat} {b : Nat → Nat} {Q : Int32 → Mem → Prop} {X : Mem → Prop} {M : Mem} {e : Bool} {bb : Nat} (he : (e = false ∧ bb = 59) ∨ (e = true ∧ bb = 0)) (hR : RS B r n p to A ts M) (hw : mR M 3 0 1 = some (5, w)) (h47 : mI M 5 w 47 = Int32.ofNat nk) (hb : b 73 ≤ nk) (hrm : 2 * nk + ts.length ≤ 2 * mL M 73 w + 1) (hL : mL M 73 w < 100000)
    (hQ : ∀ A' ks ts' M', Fr F_Reader_kinds M M' → pKinds bb (ts.length + 1) [] ts = .inr (ks, ts') → A <+: A' → RS B r n p to A' ts' M' → Ex w b M M' → mI M' 5 w 47 = Int32.ofNat (nk + ks.length) → cKs A' w nk ks M' → 2 * ks.length + ts'.length ≤ ts.length + (if ks.length = 0 then 0 else 1) → (hd ts').1 = bb → Q (Int32.ofNat ks.length) M')
    (hX : ∀ A' e' M', pKinds bb (ts.length + 1) [] ts = .inl e' → A <+: A' → Thr B A' e' M' → Ex w b M M' → X M') : w_Reader_kinds 0 (b2 e) Q X M :=
  mf_w_Reader_kinds (Q := fun v M' => Fr F_Reader_kinds M M' → Q v M') (X := X) (fun _ _ hf hp => hp hf) (fun _ _ hp => hp) (c_kinds he hR hw h47 hb hrm hL (fun A' ks ts' M' a b c d e f g h hf => hQ A' ks ts' M' hf a b c d e f g h) hX)
/-- a frame's line in the works, from the word frame on -/
theorem c_frame {B : List Nm} {r n : Nat} {p : Nat → Int32} {to : Nat} {A : List Nm} {ts : List Tok} {w nk : Nat} {b : Nat → Nat} {Q X : Mem → Prop} {M : Mem} {framed : Bool} (hR : RS B r n p to A ts M) (h1 : 1 < (hd ts).1) (hw : mR M 3 0 1 = some (5, w)) (hfr : mI M 3 0 14 = b2 framed) (h47 : mI M 5 w 47 = Int32.ofNat nk) (hb : b 73 ≤ nk) (hrm : 2 * nk + ts.length ≤ 2 * mL M 73 w) (hL : mL M 73 w < 100000)
    (hQ : ∀ A' ls ss t' M', framed = false → pFrame ts.tail = .inr ((ls, ss), t') → A <+: A' → RS B r n p to A' t' M' → Ex w b M M' → mI M' 5 w 47 = Int32.ofNat (nk + ls.length + ss.length) → cKs A' w nk (ls ++ ss) M' → (mI M' 3 0 14 = 1 ∧ mI M' 3 0 15 = mI M 3 0 2 ∧ mI M' 3 0 19 = Int32.ofNat nk ∧ mI M' 3 0 20 = Int32.ofNat ls.length ∧ mI M' 3 0 21 = Int32.ofNat ss.length) → 2 * (ls.length + ss.length) ≤ ts.length → Q M')
    (hX : ∀ A' e M', (if framed then .inl (er ts) else pFrame ts.tail) = .inl e → A <+: A' → Thr B A' e M' → Ex w b M M' → X M') : w_Reader_frame 0 Q X M := by
  unfold w_Reader_frame
  rw [hfr]
  cases framed with
  | true => exact itn (by decide) (k_wrong (Ex.pw (w := w) (b := b) (M := M)) hR (Ex.rf w b M) (fun M' th iv => hX A _ M' rfl (List.prefix_refl _) th iv))
  | false =>
    refine itp rfl ?_
    have hX' : ∀ A' e M', pFrame ts.tail = .inl e → A <+: A' → Thr B A' e M' → Ex w b M M' → X M' := fun A' e M' q => hX A' e M' q
    have hI : PW (fun _ M' => Ex w b M M' ∧ mI M' 5 w 47 = Int32.ofNat nk) := fun A A' M1 M2 h hp _ hk => ⟨h.1.wk hk, (hk.1.I (f := 5) (k := 47) rfl w).trans h.2⟩
    refine k_next hI hR ⟨Ex.rf w b M, h47⟩ h1 (fun A1 M1 p1 R1 i1 => ?_)
    have hw1 : mR M1 3 0 1 = some (5, w) := i1.1.1.2.1.1.trans hw
    refine ⟨w, hw1, ?_⟩
    rw [i1.2]
    have htl : ts.tail.length + 1 = ts.length := by rw [List.length_tail]; have := List.length_pos_iff.mpr hR.hd.2.2; omega
    have hL1 : mL M1 73 w = mL M 73 w := (i1.1.1.1.1 73 rfl).2 w
    have x1 : Ex w b M (sI M1 3 0 19 (Int32.ofNat nk)) := i1.1.w3
    refine c_kindsF (e := false) (bb := 59) (b := b) (Or.inl ⟨rfl, rfl⟩) R1.s3 hw1 (show mI (sI M1 3 0 19 (Int32.ofNat nk)) 5 w 47 = Int32.ofNat nk from i1.2) hb (by rw [mL_sI, hL1]; omega) (by rw [mL_sI, hL1]; exact hL) (fun A2 ls t2 M2 hf2 a1 p2 R2 x2 k2 s2 cnt2 h59 => ?_) (fun A' e M' a1 p2 th x2 => hX' A' e M' (by unfold pFrame; rw [a1]) (p1.trans p2) th (x1.trans x2))
    have f2 : mI M2 3 0 19 = Int32.ofNat nk := (hf2.I (f := 3) (k := 19) rfl 0).trans rfl
    have cle : (if ls.length = 0 then 0 else 1) ≤ 1 := by split <;> omega
    have ht2 : t2.tail.length + 1 = t2.length := by rw [List.length_tail]; have := List.length_pos_iff.mpr R2.hd.2.2; omega
    have hI2 : PW (fun A' M' => Ex w b M M' ∧ mI M' 5 w 47 = Int32.ofNat (nk + ls.length) ∧ cKs A' w nk ls M' ∧ mI M' 3 0 19 = Int32.ofNat nk ∧ mI M' 3 0 20 = Int32.ofNat ls.length) := fun A A' M1 M2 h hp _ hk =>
      ⟨h.1.wk hk, (hk.1.I (f := 5) (k := 47) rfl w).trans h.2.1, fun i hi => by rw [hk.1.Ia (f := 73) rfl rfl]; exact (h.2.2.1.pre hp) i hi, (hk.1.I (f := 3) (k := 19) rfl 0).trans h.2.2.2.1, (hk.1.I (f := 3) (k := 20) rfl 0).trans h.2.2.2.2⟩
    refine k_next hI2 (M := sI M2 3 0 20 (Int32.ofNat ls.length)) R2.s3 ⟨(x1.trans x2).w3, k2, s2, f2, rfl⟩ (by omega) (fun A3 M3 p3 R3 i3 => ?_)
    have hw3 : mR M3 3 0 1 = some (5, w) := i3.1.1.2.1.1.trans hw
    have hL3 : mL M3 73 w = mL M 73 w := (i3.1.1.1.1 73 rfl).2 w
    have hpf : ∀ x, pKinds 0 (t2.tail.length + 1) [] t2.tail = x → pFrame ts.tail = (match x with
        | .inl e => .inl e
        | .inr (ss, t3) => .inr ((ls, ss), t3)) := fun x hx => by
      unfold pFrame; rw [a1]; dsimp only; rw [hx]; cases x <;> rfl
    have hbb : ∀ f, b f ≤ if f = 73 then nk + ls.length else b f := fun f => by
      split
      · rename_i q; rw [q]; omega
      · exact Nat.le_refl _
    refine c_kindsF (e := true) (bb := 0) (b := fun f => if f = 73 then nk + ls.length else b f) (Or.inr ⟨rfl, rfl⟩) R3 hw3 i3.2.1 (Nat.le_refl _) (by rw [hL3]; omega) (by rw [hL3]; exact hL) (fun A4 ss t4 M4 hf4 a4 p4 R4 x4 k4 s4 cnt4 h0 => ?_) (fun A' e M' a4 p4 th x4 => hX' A' e M' (by rw [hpf _ a4]) (((p1.trans p2).trans p3).trans p4) th (i3.1.trans (x4.mono hbb)))
    have x4' := i3.1.trans (x4.mono hbb)
    have cle4 : (if ss.length = 0 then 0 else 1) ≤ 1 := by split <;> omega
    have hn4 := List.length_pos_iff.mpr R4.hd.2.2
    refine ⟨Or.inr rfl, _, rfl, hQ A4 ls ss t4 _ rfl (by rw [hpf _ a4]) (((p1.trans p2).trans p3).trans p4) R4.s3.s3.s3 x4'.w3.w3.w3 k4 ?_ ⟨rfl, x4'.2.1, (hf4.I (f := 3) (k := 19) rfl 0).trans i3.2.2.2.1, (hf4.I (f := 3) (k := 20) rfl 0).trans i3.2.2.2.2, rfl⟩ (by omega)⟩
    have s3 : cKs A3 w nk ls M4 := i3.2.2.1.lo x4.1.1 (by show _ ≤ nk + ls.length; omega)
    exact fun i hi => ((s3.pre p4).app s4) i hi
