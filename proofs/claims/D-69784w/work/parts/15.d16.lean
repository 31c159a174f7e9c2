/-! B: the twin's checker: what it looks at; whether a kind fits -/
theorem kt_cases {A : List Nm} {co : List Ins} {κ : Kd} (h : kwf A co κ) (hl : A.length ≤ 200000) : (κ.1 = 2 ∧ 16 ≤ (kt A κ).toInt) ∨ (κ.1 = 0 ∧ (kt A κ).toInt = 1) ∨ (κ.1 = 1 ∧ (kt A κ).toInt = 2) ∨ (κ.1 = -1 ∧ (kt A κ).toInt = 3) ∨ (κ.1 = -2 ∧ (kt A κ).toInt = 4) ∨ (κ.1 = -3 ∧ (kt A κ).toInt = 5) ∨ (κ.1 = -4 ∧ (kt A κ).toInt = 0) ∨ (κ.1 ≤ -10 ∧ -100 ≤ κ.1 ∧ (kt A κ).toInt = κ.1 + 9) := by
  have := kt_int h hl
  have := h.rg
  have := Int.natCast_nonneg (A.idxOf κ.2)
  repeat' split at *
  all_goals omega
theorem kt_e {A : List Nm} {co : List Ins} {κ : Kd} {n : Nat} {m : Int} (h : kwf A co κ) (hl : A.length ≤ 200000) (hm : (n = 0 ∧ m = -4) ∨ (n = 1 ∧ m = 0) ∨ (n = 2 ∧ m = 1) ∨ (n = 3 ∧ m = -1) ∨ (n = 4 ∧ m = -2) ∨ (n = 5 ∧ m = -3)) : kt A κ = Int32.ofNat n ↔ κ.1 = m := by
  rw [← Int32.toInt_inj, oN_toInt (by omega)]
  have := kt_cases h hl
  omega
theorem kt_l16 {A : List Nm} {co : List Ins} {κ : Kd} (h : kwf A co κ) (hl : A.length ≤ 200000) : kt A κ < 16 ↔ κ.1 ≠ 2 := by
  rw [Int32.lt_iff_toInt_lt, show (16 : Int32).toInt = 16 from rfl]
  have := kt_cases h hl
  omega
theorem kt_l0 {A : List Nm} {co : List Ins} {κ : Kd} (h : kwf A co κ) (hl : A.length ≤ 200000) : 0 ≤ kt A κ ↔ ¬ κ.1 ≤ -10 := by
  rw [Int32.le_iff_toInt_le, show (0 : Int32).toInt = 0 from rfl]
  have := kt_cases h hl
  omega
/-- the twin's checker is at a method -/
def TE (G : List Sl) (US : UST) (A : List Nm) (S : List Sg) (W : List Cls) (w c k : Nat) (br : Int32) (nq nl nf nk : Nat) (M : Mem) : Prop :=
  (TW A S W w br 0 nq nl nq nl nf nk M ∧ TV US A S M ∧ TKs A M ∧ TG G M) ∧ Gx G w ∧ (mI M 11 0 76 = Int32.ofNat c ∧ mI M 11 0 75 = Int32.ofNat (12 * c + k)) ∧ (c < W.length ∧ k < (gc W c).2.2.2.2.2.length) ∧ (A.length ≤ 200000 ∧ AT0 <+: A) ∧ wfM (gmt (gc W c) k) ∧ (gc W c).2.1 ≠ []
def teOk (F : Nat) : Bool := (sOk F && (tOk F && kOk F)) && [cd 11 4, 105, 5105, cd 11 36, cd 11 37, 106, 5106, cd 11 38, cd 11 75, cd 11 76].all (fun b => !F.testBit b)
section
variable {G : List Sl} {US : UST} {A : List Nm} {S : List Sg} {W : List Cls} {w c k : Nat} {br : Int32} {nq nl nf nk : Nat} {M M' : Mem} {Q : Int32 → Mem → Prop}
theorem TE.fr {F : Nat} (h : TE G US A S W w c k br nq nl nf nk M) (hf : Fr F M M') (hF : teOk F = true := by rfl) : TE G US A S W w c k br nq nl nf nk M' := by
  unfold teOk at hF
  simp only [Bool.and_eq_true, List.all_cons, List.all_nil, Bool.not_eq_true', and_true] at hF
  obtain ⟨⟨s1, s2, s3⟩, b1, b2, b3, b4, b5, b6, b7, b8, b9, b10⟩ := hF
  obtain ⟨⟨h1, h2, h3, h4⟩, hx, ⟨h5, h6⟩, h7⟩ := h
  exact ⟨⟨h1.fr hf hx.1 hx.2.2.2.1 s1 s2, h2.fr hf hx s1 b1 b2 b3 b4 b5 b6 b7 b8, h3.fr hf s3, ((GF.rf h4).fr (X := []) hf hx.1 s1).1⟩, hx, ⟨(hf.I b10 0).trans h5, (hf.I b9 0).trans h6⟩, h7⟩
theorem TE.r45 (h : TE G US A S W w c k br nq nl nf nk M) : mR M 11 0 45 = some (12, w) := h.1.1.1.1.2.1
theorem TE.cl (h : TE G US A S W w c k br nq nl nf nk M) : tCl A W w M := h.1.1.1.1.1
theorem TE.la (h : TE G US A S W w c k br nq nl nf nk M) : A.length ≤ 200000 := h.2.2.2.2.1.1
theorem TE.fault (h : TE G US A S W w c k br nq nl nf nk M) : nc A nThing + 1 = nc A nFault ∧ nFault ∈ A := by
  have hp := h.2.2.2.2.1.2
  have m1 : nThing ∈ AT0 := by decide
  have m2 : nFault ∈ AT0 := by decide
  rw [nc_pre hp m1, nc_pre hp m2]
  exact ⟨by decide, hp.subset m2⟩
theorem TE.lc (h : TE G US A S W w c k br nq nl nf nk M) : c < W.length ∧ W.length ≤ 51 := ⟨h.2.2.2.1.1, h.cl.1.1.2.2.1⟩
theorem TE.c76 (h : TE G US A S W w c k br nq nl nf nk M) : mI M 11 0 76 = Int32.ofNat c := h.2.2.1.1
theorem TE.m75 (h : TE G US A S W w c k br nq nl nf nk M) : mI M 11 0 75 = Int32.ofNat (12 * c + k) := h.2.2.1.2
theorem TE.ms (h : TE G US A S W w c k br nq nl nf nk M) : tMs A S W w 0 nq nl nf nk M := h.1.1.1.2.2
theorem TE.mc (h : TE G US A S W w c k br nq nl nf nk M) : tMc A S w nq nl nf nk (12 * c + k) (gmt (gc W c) k) M := h.ms.2.2 c h.lc.1 k h.2.2.2.1.2
theorem TE.hd (h : TE G US A S W w c k br nq nl nf nk M) : tHd A S w (12 * c + k) (gmt (gc W c) k) M := (h.ms.1.2 c h.lc.1).2 k h.2.2.2.1.2
theorem TE.mlt (h : TE G US A S W w c k br nq nl nf nk M) : 12 * c + k < 612 := by
  have := (h.ms.1.2 c h.lc.1).1.2
  have := h.lc
  have := h.2.2.2.1.2
  omega
theorem TE.ml {f : Nat} (h : TE G US A S W w c k br nq nl nf nk M) (h1 : 144 ≤ f) (h2 : f ≤ 151) : mL M f w = 612 := h.ms.1.1 f h1 h2
theorem TE.wf (h : TE G US A S W w c k br nq nl nf nk M) : wfM (gmt (gc W c) k) := h.2.2.2.2.2.1
theorem TE.rl (h : TE G US A S W w c k br nq nl nf nk M) : RLo w nq nl nf nk M := h.1.1.2.2.1
theorem TE.sl {s : Sl} (h : TE G US A S W w c k br nq nl nf nk M) (hs : s ∈ XW w) : mR M s.1 s.2.1 s.2.2.1 = some (s.2.2.2, rdI M s) := (h.1.2.2.2 s (h.2.1.2.2.2.1 s hs)).1.1
theorem TE.sl5 {s : Sl} (h : TE G US A S W w c k br nq nl nf nk M) (hs : s ∈ G) : mR M s.1 s.2.1 s.2.2.1 = some (s.2.2.2, rdI M s) := (h.1.2.2.2 s hs).1.1
theorem TE.sr (h : TE G US A S W w c k br nq nl nf nk M) : mI M 147 w (12 * c + k) = Int32.ofNat (sr (gmt (gc W c) k)) ∧ sr (gmt (gc W c) k) ≤ 20 := by
  obtain ⟨s, l, e1, e2, h1, h2, -⟩ := h.wf.2.1
  show mI M 147 w (12 * c + k) = Int32.ofNat (gmt (gc W c) k).2.2.2.2.1.toNatClampNeg ∧ (gmt (gc W c) k).2.2.2.2.1.toNatClampNeg ≤ 20
  rw [h.hd.2.2.2.2.1, e1, oN_tnc (by omega)]
  exact ⟨rfl, h1⟩
theorem TE.lr (h : TE G US A S W w c k br nq nl nf nk M) : mI M 148 w (12 * c + k) = Int32.ofNat (lr (gmt (gc W c) k)) ∧ lr (gmt (gc W c) k) ≤ 20 := by
  obtain ⟨s, l, e1, e2, h1, h2, -⟩ := h.wf.2.1
  show mI M 148 w (12 * c + k) = Int32.ofNat (gmt (gc W c) k).2.2.2.2.2.1.toNatClampNeg ∧ (gmt (gc W c) k).2.2.2.2.2.1.toNatClampNeg ≤ 20
  rw [h.hd.2.2.2.2.2, e2, oN_tnc (by omega)]
  exact ⟨rfl, h2⟩
theorem TKs.thing {A : List Nm} {M : Mem} (h : TKs A M) : mI M 11 0 8 = nc A nThing ∧ nThing ∈ A := h (8, nThing) (by simp [kF])
theorem TKs.make {A : List Nm} {M : Mem} (h : TKs A M) : mI M 11 0 6 = nc A nMake ∧ nMake ∈ A := h (6, nMake) (by simp [kF])
theorem TKs.start {A : List Nm} {M : Mem} (h : TKs A M) : mI M 11 0 7 = nc A nStart ∧ nStart ∈ A := h (7, nStart) (by simp [kF])
theorem ct_parentName {d : Nat} (hw : mR M 11 0 45 = some (12, w)) (h : tCl A W w M) (hK : TKs A M) (hd : d < W.length) (hQ : ∀ v, ((v = nc A (upN W d) ∧ upN W d ∈ A) ∨ (v = pcT A (upN W d) ∧ (upN W d = [] ∨ upN W d ∈ A))) → (upN W d ≠ [] → v = nc A (upN W d) ∧ upN W d ∈ A) → Q v M) : w_Model_parentName 0 (Int32.ofNat d) Q M := by
  have hl := h.1.1.2.2.1
  unfold w_Model_parentName
  refine ⟨w, hw, ?_⟩
  rw [oN_tnc (by omega), h.2.1.2.2.2, (h.2.2 d hd).2.2]
  refine ⟨(vp_oN (by omega)).mpr (by omega), ?_⟩
  unfold upN isFc at hQ
  by_cases e : (gc W d).2.2.2.1 &&& 4 = 0
  · rw [if_neg (fun q => absurd e (of_decide_eq_true q))] at hQ
    refine itp e ⟨w, hw, ?_⟩
    rw [h.2.1.1, (h.2.2 d hd).1.1]
    refine ⟨(vp_oN (by omega)).mpr (by omega), hQ _ (Or.inr ⟨rfl, (h.2.2 d hd).1.2.1⟩) (fun hn => ?_)⟩
    rcases (h.2.2 d hd).1.2.1 with q | q
    · exact absurd q hn
    · exact ⟨by unfold pcT; rw [if_neg hn], q⟩
  · rw [if_pos (decide_eq_true e)] at hQ
    rw [hK.thing.1]
    exact itn e (hQ _ (Or.inl ⟨rfl, hK.thing.2⟩) (fun _ => ⟨rfl, hK.thing.2⟩))
theorem ct_climb {b : Nm} {d : Nat} (hw : mR M 11 0 45 = some (12, w)) (h : tCl A W w M) (hK : TKs A M) (hA : A.length ≤ 200000) (hb : b ∈ A) (hd : fnd W b = some d) : ∀ n j x v, 52 - j < n → j ≤ 52 → ((v = nc A x ∧ x ∈ A) ∨ (v = pcT A x ∧ (x = [] ∨ x ∈ A))) → Q (Int32.ofNat (climb W b (52 - j) x)) M → w_Model_fitClass_L45 0 Q n (nc A b) v (Int32.ofNat j) M := by
  have hl := h.1.1.2.2.1
  have hbn : b ≠ [] := by
    have := (h.2.2 d (fnd_lt hd)).1.2.2
    rw [fnd_name hd] at this; exact this
  intro n
  induction n with
  | zero => intro j x v hn; exact absurd hn (by omega)
  | succ n ih =>
    intro j x v hn hj hv hQ
    unfold w_Model_fitClass_L45
    by_cases cj : 51 < j
    · refine itp (lt_oN (a := 51) cj (by omega)) ?_
      rw [show 52 - j = 0 by omega] at hQ; exact hQ
    refine itn (nlt_oN (a := 51) (b := j) (by omega) (by omega)) ?_
    rw [show 52 - j = (52 - (j + 1)) + 1 by omega] at hQ
    have hcl : climb W b (52 - (j + 1) + 1) x = if x = b then 0 else match fnd W x with
      | none => 43
      | some c => if c = 0 then 37 else climb W b (52 - (j + 1)) (upN W c) := rfl
    rw [hcl] at hQ
    have heq : v = nc A b ↔ x = b := by
      rcases hv with ⟨e, m⟩ | ⟨e, m⟩
      · rw [e]; exact nc_inj (by omega) m hb
      · rw [e]
        unfold pcT
        by_cases q : x = []
        · rw [if_pos q]
          refine ⟨fun z => ?_, fun z => absurd (z.symm.trans q) hbn⟩
          have := congrArg Int32.toInt z
          unfold nc at this
          rw [oN_toInt (by have := List.idxOf_le_length (a := b) (l := A); omega)] at this
          exact absurd this (by have e2 : (-2 : Int32).toInt = -2 := rfl; rw [e2]; omega)
        · rw [if_neg q]
          rcases m with m | m
          · exact absurd m q
          · exact nc_inj (by omega) m hb
    by_cases c1 : x = b
    · rw [if_pos c1] at hQ
      exact itp (heq.mpr c1) hQ
    rw [if_neg c1] at hQ
    refine itn (fun q => c1 (heq.mp q)) ?_
    have key : ∀ (R : Int32 → Mem → Prop), R (oC (fnd W x)) M → w_Model_classOf 0 v R M := fun R hR => by
      rcases hv with ⟨e, m⟩ | ⟨e, m⟩
      · rw [e]; exact ct_classOf hw h.1 m hR
      · rw [e]; exact ct_findP hw h m hR
    refine key _ ?_
    cases e : fnd W x with
    | none =>
      rw [e] at hQ
      exact itn (by decide) (itn (by decide) hQ)
    | some d' =>
      rw [e] at hQ
      have hQ : Q (Int32.ofNat (if d' = 0 then 37 else climb W b (52 - (j + 1)) (upN W d'))) M := hQ
      have hdl := fnd_lt e
      by_cases c2 : d' = 0
      · rw [if_pos c2] at hQ
        subst c2
        exact itn (by decide) (itp (by decide) hQ)
      · rw [if_neg c2] at hQ
        refine itp (lt_oN (a := 0) (by omega) (by omega)) (ct_parentName hw h hK hdl (fun v' hv' _ => ?_))
        rw [show Int32.ofNat j + (1 : Int32) = Int32.ofNat (j + 1) from oN_add j 1]
        exact ih (j + 1) (upN W d') v' (by omega) (by omega) hv' hQ
theorem ct_fit {co : List Ins} {a b : Kd} (hw : mR M 11 0 45 = some (12, w)) (h : tCl A W w M) (hK : TKs A M) (hA : A.length ≤ 200000) (ha : kwf A co a) (hb : kwf A co b) (hQ : Q (Int32.ofNat (fitK W a b)) M) : w_Model_fit 0 (kt A a) (kt A b) Q M := by
  have hl := h.1.1.2.2.1
  unfold w_Model_fit
  unfold fitK at hQ
  have ra := ha.rg
  have rb := hb.rg
  by_cases c1 : b.1 = -2
  · rw [if_pos (Or.inl c1)] at hQ
    exact itp ((kt_e (n := 4) hb hA (by omega)).mpr c1) hQ
  refine itn (fun q => c1 ((kt_e (n := 4) (m := -2) hb hA (by omega)).mp q)) ?_
  by_cases c2 : a = b
  · rw [if_pos (Or.inr c2)] at hQ
    exact itp (by rw [c2]) hQ
  rw [if_neg (fun q => q.elim c1 c2)] at hQ
  refine itn (fun q => c2 ((kt_inw ha hb hA).mp q)) ?_
  by_cases c3 : a.1 = -1
  · rw [if_pos c3] at hQ
    refine itp ((kt_e (n := 3) ha hA (by omega)).mpr c3) ?_
    by_cases c4 : b.1 = 1
    · rw [if_pos (Or.inl c4)] at hQ
      exact itp ((kt_e (n := 2) hb hA (by omega)).mpr c4) hQ
    refine itn (fun q => c4 ((kt_e (n := 2) (m := 1) hb hA (by omega)).mp q)) ?_
    by_cases c5 : b.1 = 2
    · rw [if_pos (Or.inr c5)] at hQ
      exact itn (fun q => (kt_l16 hb hA).mp q c5) hQ
    · rw [if_neg (by omega)] at hQ
      exact itp ((kt_l16 hb hA).mpr c5) hQ
  rw [if_neg c3] at hQ
  refine itn (fun q => c3 ((kt_e (n := 3) (m := -1) ha hA (by omega)).mp q)) ?_
  have eT : (16 : Int32) + mI M 11 0 8 = kt A (2, nThing) := by rw [hK.thing.1, kt_cls]
  by_cases c4 : a.1 = 1
  · rw [if_pos c4] at hQ
    refine itp ((kt_e (n := 2) ha hA (by omega)).mpr c4) ?_
    rw [eT]
    by_cases c5 : b = (2, nThing)
    · rw [if_pos c5] at hQ
      exact itp (by rw [c5]) hQ
    · rw [if_neg c5] at hQ
      exact itn (fun q => c5 ((kt_inw hb (kwf_cls hK.thing.2) hA).mp q)) hQ
  rw [if_neg c4] at hQ
  refine itn (fun q => c4 ((kt_e (n := 2) (m := 1) ha hA (by omega)).mp q)) ?_
  by_cases c5 : a.1 = 2
  · refine itn (fun q => (kt_l16 ha hA).mp q c5) ?_
    by_cases c6 : b.1 = 2
    · rw [if_pos ⟨c5, c6⟩] at hQ
      refine itn (fun q => (kt_l16 hb hA).mp q c6) ?_
      have sb : ∀ {κ : Kd}, κ.1 = 2 → kt A κ - 16 = nc A κ.2 := fun {κ} e => by
        unfold kt nc
        rw [if_pos e]
        exact oN_sub (b := 16) (by omega)
      rw [sb c5, sb c6]
      have ma := ha.ok c5
      have mb := hb.ok c6
      unfold fitC at hQ
      unfold w_Model_fitClass
      rw [hK.thing.1]
      by_cases c7 : b.2 = nThing
      · rw [if_pos c7] at hQ
        exact itp (by rw [c7]) hQ
      rw [if_neg c7] at hQ
      refine itn (fun q => c7 ((nc_inj (by omega) mb hK.thing.2).mp q)) (ct_classOf hw h.1 mb ?_)
      cases e : fnd W b.2 with
      | none => rw [e] at hQ; exact itn (by decide) hQ
      | some d =>
        rw [e] at hQ
        have hQ : Q (Int32.ofNat (if isFc W d = true then 0 else climb W b.2 52 a.2)) M := hQ
        have hdl := fnd_lt e
        refine itp (oN_zero_le (by omega)) ⟨w, hw, ?_⟩
        show vp_in (Int32.ofNat d) (mL M 132 w) ∧ _
        rw [h.2.1.2.2.2]
        refine ⟨(vp_oN (by omega)).mpr (by omega), ?_⟩
        rw [show (oC (some d)).toNatClampNeg = d from oN_tnc (by omega), (h.2.2 d hdl).2.2]
        unfold isFc at hQ
        by_cases c8 : (gc W d).2.2.2.1 &&& 4 = 0
        · rw [if_neg (fun q => absurd c8 (of_decide_eq_true q))] at hQ
          exact itp c8 ⟨53, ct_climb hw h hK hA mb e 53 0 a.2 _ (by omega) (by omega) (Or.inl ⟨rfl, ma⟩) hQ⟩
        · rw [if_pos (decide_eq_true c8)] at hQ
          exact itn c8 hQ
    · rw [if_neg (fun q => c6 q.2)] at hQ
      exact itp ((kt_l16 hb hA).mpr c6) hQ
  · rw [if_neg (fun q => c5 q.1)] at hQ
    exact itp ((kt_l16 ha hA).mpr c5) hQ
end
