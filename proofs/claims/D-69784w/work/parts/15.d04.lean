/-! B: the works' checker: what it looks at; whether a kind fits -/
/-- the first names have their numbers -/
def nA (A : List Nm) : Prop := A.length ≤ 200000 ∧ ∀ (v : Nat) (nm : Nm), A0[v]? = some nm → nc A nm = Int32.ofNat v ∧ nm ∈ A
theorem NC.nA {B A : List Nm} {M : Mem} (h : NC B A M) (hl : A.length ≤ 200000) : nA A := ⟨hl, fun v nm e => by
  have e2 : A[v]? = some nm := by
    obtain ⟨r, er⟩ := h.2.1
    rw [← er, List.getElem?_append_left (List.getElem?_eq_some_iff.mp e).1]; exact e
  exact ⟨nc_at h.1 e2, List.mem_of_getElem? e2⟩⟩
theorem nA.thing {A : List Nm} (h : nA A) : nc A nThing = 81 ∧ nThing ∈ A := h.2 81 nThing rfl
theorem nA.fault {A : List Nm} (h : nA A) : nc A nFault = 82 ∧ nFault ∈ A := h.2 82 nFault rfl
theorem nA.make {A : List Nm} (h : nA A) : nc A nMake = 79 ∧ nMake ∈ A := h.2 79 nMake rfl
theorem nA.start {A : List Nm} (h : nA A) : nc A nStart = 80 ∧ nStart ∈ A := h.2 80 nStart rfl
theorem nA.any {A : List Nm} (h : nA A) : nc A nAny = 77 ∧ nAny ∈ A := h.2 77 nAny rfl
def cwOk (S : Nat) : Bool := loOk S && !S.testBit 211
theorem CWx.fr {A : List Nm} {W : List Cls} {w : Nat} {br : Int32} {nq nk np nh nr : Nat} {M M' : Mem} {S : Nat} (h : CWx A W w br nq nk np nh nr M) (hf : Fr S M M') (hS : cwOk S = true := by rfl) : CWx A W w br nq nk np nh nr M' := by
  unfold cwOk at hS
  rw [Bool.and_eq_true, Bool.not_eq_true'] at hS
  have h5 : ∀ k, k < 65 → mI M' 5 w k = mI M 5 w k := fun k hk => by
    have := hS.1
    unfold loOk at this
    simp only [Bool.and_eq_true, Bool.not_eq_true', List.all_eq_true, List.mem_range] at this
    exact (hf.1 5 k (this.2 k hk) w).1
  exact h.back (List.prefix_refl _) h.1.1.1.1.2.2.2 ((Lo.rf w _ M).fr hf (fun i k _ => hf.Ia rfl hS.2 i k) hS.1) (h5 _ (by omega)) (h5 _ (by omega)) (h5 _ (by omega)) (h5 _ (by omega)) (h5 _ (by omega)) (h5 _ (by omega)) (h5 _ (by omega)) (h5 _ (by omega)) (h5 _ (by omega))
def KB (w nq nk np nh nr : Nat) : Prop := nq ≤ L6 w ∧ nk ≤ L73 w ∧ np ≤ L73 w ∧ 4 * nh ≤ L75 w ∧ 4 * nr ≤ L76 w ∧ 6 * nr ≤ L212 w
/-- a checker of the works is at a method -/
def KE (A : List Nm) (W : List Cls) (w c k : Nat) (br : Int32) (nq nk np nh nr this : Nat) (M : Mem) : Prop :=
  (mR M 4 this 4 = some (5, w) ∧ mI M 4 this 5 = Int32.ofNat c ∧ mI M 4 this 6 = Int32.ofNat (moff W c + k)) ∧ CWx A W w br nq nk np nh nr M ∧ (c < W.length ∧ k < (gc W c).2.2.2.2.2.length) ∧ (nA A ∧ KB w nq nk np nh nr) ∧ wfM (gmt (gc W c) k) ∧ (gc W c).2.1 ≠ []
def keOk (S : Nat) : Bool := cwOk S && (!S.testBit (cd 4 4) && (!S.testBit (cd 4 5) && !S.testBit (cd 4 6)))
section
variable {A : List Nm} {W : List Cls} {w c k this : Nat} {br : Int32} {nq nk np nh nr : Nat} {M M' : Mem}
theorem KE.fr {S : Nat} (h : KE A W w c k br nq nk np nh nr this M) (hf : Fr S M M') (hS : keOk S = true := by rfl) : KE A W w c k br nq nk np nh nr this M' := by
  unfold keOk at hS
  simp only [Bool.and_eq_true, Bool.not_eq_true'] at hS
  obtain ⟨s1, s2, s3, s4⟩ := hS
  obtain ⟨⟨a, b, d⟩, e, f⟩ := h
  exact ⟨⟨(hf.R s2 this).trans a, (hf.I s3 this).trans b, (hf.I s4 this).trans d⟩, e.fr hf s1, f⟩
theorem KE.w8 {v : Int32} (h : KE A W w c k br nq nk np nh nr this M) : KE A W w c k br nq nk np nh nr this (sI M 4 this 8 v) := h.fr (S := (18290777235642933340263066757894312617960271730813190315441489149167511881554656938537851379245112329623930456859119980207744509924971465931798636067319302723206041126495416313891305298556018205341000935522298276653105550801381638917904235551962120701344462531714339310058185524575593757715777086119276359010874016552734763065247656995831069944210537431466486421245111517642918419275431744646465879849872906963070850382815443961142972642401663152500938863142420344348585423810912297233422249987158450804810506125297484616769170068467795158368256)) (Fr.wI rfl (Fr.rf _ _))
theorem KE.r (h : KE A W w c k br nq nk np nh nr this M) : mR M 4 this 4 = some (5, w) := h.1.1
theorem KE.c5 (h : KE A W w c k br nq nk np nh nr this M) : mI M 4 this 5 = Int32.ofNat c := h.1.2.1
theorem KE.m6 (h : KE A W w c k br nq nk np nh nr this M) : mI M 4 this 6 = Int32.ofNat (moff W c + k) := h.1.2.2
theorem KE.cl (h : KE A W w c k br nq nk np nh nr this M) : cCl A W w M := h.2.1.1.1
theorem KE.lc (h : KE A W w c k br nq nk np nh nr this M) : c < W.length ∧ W.length ≤ 51 := ⟨h.2.2.1.1, h.2.1.1.1.1.1.2.2.1⟩
theorem KE.la (h : KE A W w c k br nq nk np nh nr this M) : A.length ≤ 200000 := h.2.2.2.1.1.1
theorem KE.ml {f : Nat} (h : KE A W w c k br nq nk np nh nr this M) (h1 : 55 ≤ f) (h2 : f ≤ 65) : mL M f w = 381 := h.2.1.2.1.1.2.1 f h1 h2
theorem KE.hd (h : KE A W w c k br nq nk np nh nr this M) : cHd A w c (moff W c + k) (gmt (gc W c) k) M := (h.2.1.2.1.2.2 c h.2.2.1.1 k h.2.2.1.2).1
theorem KE.mc (h : KE A W w c k br nq nk np nh nr this M) : cMc A w nq nk np nh nr (moff W c + k) (gmt (gc W c) k) M := (h.2.1.2.1.2.2 c h.2.2.1.1 k h.2.2.1.2).2
theorem KE.mlt (h : KE A W w c k br nq nk np nh nr this M) : moff W c + k < 381 := by
  have hm := h.2.1.2.1.2.1
  have hall : ∀ d, d < W.length → (gc W d).2.2.2.2.2.length ≤ 12 ∧ (d < 21 → (gc W d).2.2.2.2.2.length = 1) := fun d hd => (hm d hd).2
  have h1 := moff_le hall (c + 1) h.2.2.1.1
  have h2 := moff_succ (W := W) (n := c) h.2.2.1.1
  have h3 := h.2.2.1.2
  have := h.lc
  omega
theorem KE.wf (h : KE A W w c k br nq nk np nh nr this M) : wfM (gmt (gc W c) k) := h.2.2.2.2.1
theorem KE.sr (h : KE A W w c k br nq nk np nh nr this M) : mI M 60 w (moff W c + k) = Int32.ofNat (sr (gmt (gc W c) k)) ∧ sr (gmt (gc W c) k) ≤ 20 := by
  obtain ⟨s, l, e1, e2, h1, h2, -⟩ := h.wf.2.1
  show mI M 60 w (moff W c + k) = Int32.ofNat (gmt (gc W c) k).2.2.2.2.1.toNatClampNeg ∧ (gmt (gc W c) k).2.2.2.2.1.toNatClampNeg ≤ 20
  rw [h.hd.2.2.2.2.2.1]
  rw [e1, oN_tnc (by omega)]
  exact ⟨rfl, h1⟩
theorem KE.lr (h : KE A W w c k br nq nk np nh nr this M) : mI M 61 w (moff W c + k) = Int32.ofNat (lr (gmt (gc W c) k)) ∧ lr (gmt (gc W c) k) ≤ 20 := by
  obtain ⟨s, l, e1, e2, h1, h2, -⟩ := h.wf.2.1
  show mI M 61 w (moff W c + k) = Int32.ofNat (gmt (gc W c) k).2.2.2.2.2.1.toNatClampNeg ∧ (gmt (gc W c) k).2.2.2.2.2.1.toNatClampNeg ≤ 20
  rw [h.hd.2.2.2.2.2.2]
  rw [e2, oN_tnc (by omega)]
  exact ⟨rfl, h2⟩
theorem k_breaks {r : Nat} {Q : Int32 → Mem → Prop} (hb : mI M 4 this 8 = 0) (hQ : Q 0 (sI M 4 this 8 (Int32.ofNat r))) : w_Checker_breaks this (Int32.ofNat r) Q M := itp hb hQ
theorem k_broken {r e : Nat} {Q : Int32 → Mem → Prop} (hb : mI M 4 this 8 = Int32.ofNat e) (he : 0 < e ∧ e < 1000) (hQ : Q 0 M) : w_Checker_breaks this (Int32.ofNat r) Q M := itn (by rw [hb]; exact ne_oN (b := 0) (by omega) (by omega) (by omega)) hQ
theorem c_upName {d : Nat} {Q : Int32 → Mem → Prop} (h : cCl A W w M) (hA : nA A) (hd : d < W.length) (hQ : ∀ v, ((v = nc A (upN W d) ∧ upN W d ∈ A) ∨ (v = pcC A (upN W d) ∧ (upN W d = [] ∨ upN W d ∈ A))) → (upN W d ≠ [] → v = nc A (upN W d) ∧ upN W d ∈ A) → Q v M) : w_World_upName w (Int32.ofNat d) Q M := by
  have hl := h.1.1.2.2.1
  unfold w_World_upName
  refine c_isFace h hd ?_
  unfold upN at hQ
  cases e : isFc W d with
  | true =>
    rw [if_pos e] at hQ
    refine itn (by decide) (hQ _ (Or.inl ⟨hA.thing.1.symm, hA.thing.2⟩) (fun _ => ⟨hA.thing.1.symm, hA.thing.2⟩))
  | false =>
    rw [if_neg (by rw [e]; decide)] at hQ
    refine itp (by decide) ?_
    rw [oN_tnc (by omega), h.2.1.1, (h.2.2 d hd).1.1]
    refine ⟨(vp_oN (by omega)).mpr (by omega), hQ _ (Or.inr ⟨rfl, (h.2.2 d hd).1.2.1⟩) (fun hn => ?_)⟩
    rcases (h.2.2 d hd).1.2.1 with q | q
    · exact absurd q hn
    · exact ⟨by unfold pcC; rw [if_neg hn], q⟩
/-- what fits: the way up by names -/
theorem c_climb {b : Nm} {d : Nat} {Q : Int32 → Mem → Prop} (hr : mR M 4 this 4 = some (5, w)) (h : cCl A W w M) (hA : nA A) (hd : fnd W b = some d) (h8 : mI M 4 this 8 = 0) : ∀ n j x v, W.length + 1 - j < n → j ≤ W.length + 1 → ((v = nc A x ∧ x ∈ A) ∨ (v = pcC A x ∧ (x = [] ∨ x ∈ A))) → (climb W b (W.length + 1 - j) x = 0 → Q 1 M) → (climb W b (W.length + 1 - j) x = 37 → Q 0 M) → (climb W b (W.length + 1 - j) x = 43 → Q 0 (sI M 4 this 8 43)) → w_Checker_fits_L105 this Q n (Int32.ofNat d) v (Int32.ofNat j) M := by
  have hl := h.1.1.2.2.1
  intro n
  induction n with
  | zero => intro j x v hn; exact absurd hn (by omega)
  | succ n ih =>
    intro j x v hn hj hv h0 h37 h43
    unfold w_Checker_fits_L105
    refine ⟨w, hr, ?_⟩
    rw [h.1.1.1]
    by_cases cj : W.length < j
    · refine itp (lt_oN cj (by omega)) (h37 ?_)
      rw [show W.length + 1 - j = 0 by omega]; rfl
    refine itn (nlt_oN (by omega) (by omega)) ⟨w, hr, ?_⟩
    have hstep : W.length + 1 - j = (W.length - j) + 1 := by omega
    rw [hstep] at h0 h37 h43
    have key : ∀ (R : Int32 → Mem → Prop), R (oC (fnd W x)) M → w_World_find w v R M := fun R hR => by
      rcases hv with ⟨e, m⟩ | ⟨e, m⟩
      · rw [e]; exact c_find h.1 m hR
      · rw [e]; exact c_findP h m hR
    refine key _ ?_
    have eb := fnd_name hd
    have hdl := fnd_lt hd
    cases e : fnd W x with
    | none =>
      have hne : x ≠ b := fun q => by rw [q, hd] at e; cases e
      refine itn (by decide) (k_breaks (r := 43) h8 ⟨Or.inl rfl, h43 ?_⟩)
      show (if x = b then 0 else _) = 43
      rw [if_neg hne, e]
    | some c' =>
      have hc := fnd_lt e
      have ex := fnd_name e
      refine itp (oN_zero_le (by omega)) ?_
      by_cases c1 : c' = d
      · subst c1
        refine itp rfl (h0 ?_)
        show (if x = b then 0 else _) = 0
        rw [if_pos (ex.symm.trans eb)]
      have hne : x ≠ b := fun q => by
        rw [q, hd] at e
        exact c1 (Option.some.inj e).symm
      refine itn (ne_oN c1 (by omega) (by omega)) ?_
      by_cases c2 : c' = 0
      · refine itp (by rw [c2]; rfl) (h37 ?_)
        show (if x = b then 0 else _) = 37
        rw [if_neg hne, e]
        exact if_pos c2
      refine itn (ne_oN (b := 0) c2 (by omega) (by omega)) ⟨w, hr, c_upName h hA hc (fun v' hv' _ => ?_)⟩
      rw [show Int32.ofNat j + (1 : Int32) = Int32.ofNat (j + 1) from oN_add j 1]
      have hs : climb W b (W.length - j + 1) x = climb W b (W.length + 1 - (j + 1)) (upN W c') := by
        show (if x = b then 0 else _) = _
        rw [if_neg hne, e]
        show (if c' = 0 then 37 else climb W b (W.length - j) _) = _
        rw [if_neg c2, show W.length + 1 - (j + 1) = W.length - j by omega]
      rw [hs] at h0 h37 h43
      exact ih (j + 1) (upN W c') v' (by omega) (by omega) hv' h0 h37 h43
theorem c_fits {co : List Ins} {a b : Kd} {Q : Int32 → Mem → Prop} (hr : mR M 4 this 4 = some (5, w)) (h : cCl A W w M) (hA : nA A) (h8 : mI M 4 this 8 = 0) (ha : kwf A co a) (hb : kwf A co b) (h0 : fitK W a b = 0 → Q 1 M) (h37 : fitK W a b = 37 → Q 0 M) (h43 : fitK W a b = 43 → Q 0 (sI M 4 this 8 43)) : w_Checker_fits this (kC A a) (kC A b) Q M := by
  have hl := h.1.1.2.2.1
  have hAl := hA.1
  unfold w_Checker_fits
  unfold fitK at h0 h37 h43
  by_cases c1 : b.1 = -2
  · refine itp ((kC_eq (n := -2) hb hAl (by omega)).mpr c1) (h0 ?_)
    rw [if_pos (Or.inl c1)]
  refine itn (fun q => c1 ((kC_eq (n := -2) hb hAl (by omega)).mp q)) ?_
  by_cases c2 : a = b
  · refine itp (by rw [c2]) (h0 ?_)
    rw [if_pos (Or.inr c2)]
  refine itn (fun q => c2 ((kC_inw ha hb hAl).mp q)) ?_
  rw [if_neg (fun q => q.elim c1 c2)] at h0 h37 h43
  have ra := ha.rg
  have rb := hb.rg
  by_cases c3 : a.1 ≤ -2
  · refine itp ((kC_le (n := -2) ha hAl (by omega)).mpr c3) (h37 ?_)
    rw [if_neg (by omega), if_neg (by omega), if_neg (by omega)]
  refine itn (fun q => c3 ((kC_le (n := -2) ha hAl (by omega)).mp q)) ?_
  by_cases c4 : 1 ≤ b.1
  · refine itp ((kC_ge (n := 1) hb hAl (by omega)).mpr c4) ?_
    by_cases c5 : a.1 = -1
    · refine itp ((kC_eq (n := -1) ha hAl (by omega)).mpr c5) (h0 ?_)
      rw [if_pos c5, if_pos (by omega)]
    refine itn (fun q => c5 ((kC_eq (n := -1) ha hAl (by omega)).mp q)) ?_
    rw [if_neg c5] at h0 h37 h43
    by_cases c6 : a.1 = 0
    · refine itp ((kC_eq (n := 0) ha hAl (by omega)).mpr c6) (h37 ?_)
      rw [if_neg (by omega), if_neg (by omega)]
    refine itn (fun q => c6 ((kC_eq (n := 0) ha hAl (by omega)).mp q)) ?_
    have eT : (81 : Int32) + 2 = kC A (2, nThing) := by
      show _ = Int32.ofNat (A.idxOf nThing + 2)
      have := hA.thing.1
      unfold nc at this
      rw [← oN_add, this]; rfl
    unfold w_Works_kindOf
    rw [eT]
    have hT : kwf A co (2, nThing) := kwf_cls hA.thing.2
    by_cases c7 : b = (2, nThing)
    · refine itp (by rw [c7]) (h0 ?_)
      by_cases c8 : a.1 = 1
      · rw [if_pos c8, if_pos c7]
      · rw [if_neg c8, if_pos ⟨by omega, by rw [c7]⟩, c7]
        unfold fitC
        rw [if_pos rfl]
    refine itn (fun q => c7 ((kC_inw hb hT hAl).mp q)) ?_
    by_cases c8 : a.1 = 1
    · refine itp ((kC_eq (n := 1) ha hAl (by omega)).mpr c8) (h37 ?_)
      rw [if_pos c8, if_neg c7]
    refine itn (fun q => c8 ((kC_eq (n := 1) ha hAl (by omega)).mp q)) ?_
    rw [if_neg c8] at h0 h37 h43
    by_cases c9 : b.1 = 1
    · refine itp ((kC_eq (n := 1) hb hAl (by omega)).mpr c9) (h37 ?_)
      rw [if_neg (by omega)]
    refine itn (fun q => c9 ((kC_eq (n := 1) hb hAl (by omega)).mp q)) ?_
    have ea : a.1 = 2 := by omega
    have eb : b.1 = 2 := by omega
    rw [if_pos ⟨ea, eb⟩] at h0 h37 h43
    have sb : ∀ {κ : Kd}, κ.1 = 2 → kC A κ - 2 = nc A κ.2 := fun {κ} e => by
      unfold kC nc
      rw [if_pos e]
      exact oN_sub (b := 2) (by omega)
    have hbn : b.2 ≠ nThing := fun q => c7 (kd_ext eb q)
    unfold fitC at h0 h37 h43
    rw [if_neg hbn] at h0 h37 h43
    refine ⟨w, hr, ?_⟩
    rw [sb eb]
    refine c_find h.1 (hb.ok eb) ?_
    cases e : fnd W b.2 with
    | none =>
      rw [e] at h43
      exact itn (by decide) (k_breaks (r := 43) h8 ⟨Or.inl rfl, h43 rfl⟩)
    | some d =>
      rw [e] at h0 h37 h43
      have hdl := fnd_lt e
      refine itp (oN_zero_le (by omega)) ⟨w, hr, c_isFace h hdl ?_⟩
      cases ef : isFc W d with
      | true =>
        refine itn (by decide) (h0 ?_)
        show (if isFc W d = true then 0 else _) = 0
        rw [if_pos ef]
      | false =>
        have hc : ∀ r, climb W b.2 (W.length + 1 - 0) a.2 = r → (if isFc W d = true then 0 else climb W b.2 52 a.2) = r := fun r q => by
          rw [if_neg (by rw [ef]; decide), climb_eq (n' := W.length + 1 - 0) (by omega) (by omega)]; exact q
        refine itp rfl ⟨W.length + 2, ?_⟩
        rw [sb ea]
        exact c_climb hr h hA e h8 _ 0 a.2 _ (by omega) (by omega) (Or.inl ⟨rfl, ha.ok ea⟩) (fun q => h0 (hc _ q)) (fun q => h37 (hc _ q)) (fun q => h43 (hc _ q))
  · refine itn (fun q => c4 ((kC_ge (n := 1) hb hAl (by omega)).mp q)) (h37 ?_)
    by_cases c5 : a.1 = -1
    · rw [if_pos c5, if_neg (by omega)]
    rw [if_neg c5]
    by_cases c6 : a.1 = 1
    · rw [if_pos c6, if_neg (fun q => by rw [q] at c4; exact c4 (by decide))]
    rw [if_neg c6, if_neg (by omega)]
end
