/-! B: linking: a final method above, in both -/
theorem ownI_drop {x : Mth} {L : List Mth} {d : Mth} {j : Nat} (h : j < L.length) : ownI x j (L.drop j) = if (L.getD j d).1 = x.1 ∧ (L.getD j d).2.1 = x.2.1 ∧ (L.getD j d).2.2.1 = x.2.2.1 then some j else ownI x (j + 1) (L.drop (j + 1)) := by
  have e : L.drop j = L.getD j d :: L.drop (j + 1) := by
    rw [List.drop_eq_getElem_cons h]
    congr 1
    rw [List.getD_eq_getElem?_getD, List.getElem?_eq_getElem h]; rfl
  rw [e]
  rfl
section
variable {A : List Nm} {W : List Cls} {w c u : Nat} {br : Int32} {nq nk np nh nr : Nat} {M : Mem} {Q : Int32 → Mem → Prop}
/-- arguments of two methods of a world -/
theorem c_sameM {m l : Nat} {x y : Mth} (hx : cHd A w c l x M) (hy : cHd A w u m y M) (h58 : mL M 58 w = 381) (h211 : mL M 211 (2 * w + 1) = 2286) (hl : l < 381) (hm : m < 381) (hA : A.length < 1000000) (hQ : Q (b2 (decide (y.2.1 = x.2.1))) M) : w_World_sameArguments w (Int32.ofNat m) (2 * w + 1) ((6 : Int32) * Int32.ofNat l) (Int32.ofNat x.2.1.length) Q M := by
  obtain ⟨-, -, -, ⟨x1, x2, x3⟩, -⟩ := hx
  obtain ⟨-, -, -, ⟨y1, y2, y3⟩, -⟩ := hy
  have loop : ∀ n j (b : Bool), x.2.1.length - j < n → j ≤ x.2.1.length → (b = true → y.2.1.length = x.2.1.length ∧ ∀ i, i < j → gk y.2.1 i = gk x.2.1 i) → (b = false → y.2.1 ≠ x.2.1) → w_World_sameArguments_L21 w Q n (Int32.ofNat m) (2 * w + 1) (Int32.ofNat (6 * l)) (Int32.ofNat x.2.1.length) (b2 b) (Int32.ofNat j) M := by
    intro n
    induction n with
    | zero => intro j b hn; exact absurd hn (by omega)
    | succ n ih =>
      intro j b hn hj h1 h0
      unfold w_World_sameArguments_L21 w_World_sameArguments_j59
      by_cases cj : x.2.1.length ≤ j
      · refine itp (le_oN cj (by omega)) ⟨by cases b <;> simp [b2], ?_⟩
        have e : decide (y.2.1 = x.2.1) = b := by
          cases b with
          | false => exact decide_eq_false (h0 rfl)
          | true =>
            obtain ⟨e1, e2⟩ := h1 rfl
            exact decide_eq_true (gk_ext e1 (fun i hi => e2 i (by omega)))
        rw [e] at hQ; exact hQ
      refine itn (nle_oN (by omega) (by omega)) ?_
      cases b with
      | false =>
        refine itp rfl ⟨Or.inl rfl, ?_⟩
        rw [decide_eq_false (h0 rfl)] at hQ; exact hQ
      | true =>
        obtain ⟨e1, e2⟩ := h1 rfl
        refine itn (by decide) ?_
        obtain ⟨p1, p2, p3⟩ := x3 j (by omega)
        obtain ⟨q1, q2, q3⟩ := y3 j (by omega)
        rw [show (6 : Int32) * Int32.ofNat m = Int32.ofNat (6 * m) from oN_mul 6 m, oN_add, oN_add, oN_tnc (k := 6 * m + j) (by omega), oN_tnc (k := 6 * l + j) (by omega), p1, q1, h211, show Int32.ofNat j + (1 : Int32) = Int32.ofNat (j + 1) from oN_add j 1]
        refine ⟨(vp_oN (by omega)).mpr (by omega), (vp_oN (by omega)).mpr (by omega), ?_⟩
        have inj := kC_inj (A := A) q3 p3 q2 p2 hA
        by_cases c1 : gk y.2.1 j = gk x.2.1 j
        · refine itp (by rw [c1]) (ih (j + 1) true (by omega) (by omega) (fun _ => ⟨e1, fun i hi => ?_⟩) (fun z => by cases z))
          by_cases ei : i = j
          · rw [ei]; exact c1
          · exact e2 i (by omega)
        · exact itn (fun z => c1 (inj.mp z)) (ih (j + 1) false (by omega) (by omega) (fun z => by cases z) (fun _ z => c1 (by rw [z])))
  unfold w_World_sameArguments w_World_sameArguments_j16
  rw [oN_tnc (k := m) (by omega), y1, h58, show (6 : Int32) * Int32.ofNat l = Int32.ofNat (6 * l) from oN_mul 6 l]
  refine ⟨(vp_oN (by omega)).mpr hm, ?_⟩
  by_cases c1 : y.2.1.length = x.2.1.length
  · exact itp (by rw [c1]) ⟨x.2.1.length + 1, loop _ 0 true (by omega) (by omega) (fun _ => ⟨c1, fun i hi => absurd hi (by omega)⟩) (fun z => by cases z)⟩
  · exact itn (ne_oN c1 (by omega) (by omega)) ⟨x.2.1.length + 1, loop _ 0 false (by omega) (by omega) (fun z => by cases z) (fun _ z => c1 (by rw [z]))⟩
theorem CWx.mo {e : Nat} (h : CWx A W w br nq nk np nh nr M) (hc : c < W.length) : mI M 43 w c = Int32.ofNat (moff W c) ∧ mI M 44 w c = Int32.ofNat (gc W c).2.2.2.2.2.length ∧ moff W c + (gc W c).2.2.2.2.2.length ≤ 381 ∧ (gc W c).2.2.2.2.2.length ≤ 12 ∧ W.length ≤ 51 := by
  have hms := h.2.1
  have hmm := hms.2.1 c hc
  have h51 : W.length ≤ 51 := h.1.1.1.1.2.2.1
  have m2 := hmm.1.2
  rw [show (if c + 1 = W.length then 0 else 0) = 0 by split <;> rfl, Nat.add_zero] at m2
  have hall : ∀ d, d < W.length → (gc W d).2.2.2.2.2.length ≤ 12 ∧ (d < 21 → (gc W d).2.2.2.2.2.length = 1) := fun d hd => (hms.2.1 d hd).2
  have hmo1 := moff_le hall (c + 1) hc
  have hmo2 := moff_succ (W := W) (n := c) hc
  exact ⟨hmm.1.1, m2, by omega, hmm.2.1, h51⟩
/-- the class's own method that is like another one -/
theorem c_own {l : Nat} (h : CWx A W w br nq nk np nh nr M) (hA : A.length ≤ 200000) (hc : c < W.length) (hl : l < (gc W c).2.2.2.2.2.length) (hu : u < W.length) (hQ : Q (match ownI (gmt (gc W c) l) 0 (gc W u).2.2.2.2.2 with | none => -2 | some j => Int32.ofNat (moff W u + j)) M) : w_World_own w (Int32.ofNat u) (nc A (gmt (gc W c) l).1) (Int32.ofNat (moff W c + l)) (kC A (gmt (gc W c) l).2.2.1) Q M := by
  obtain ⟨u1, u2, u3, u4, u5⟩ := h.mo (e := 0) hu
  obtain ⟨c1, c2, c3, c4, -⟩ := h.mo (e := 0) hc
  have hms := h.2.1
  have hx := (hms.2.2 c hc l hl).1
  have f381 := hms.1.2.1
  have loop : ∀ n j, (gc W u).2.2.2.2.2.length - j < n → j ≤ (gc W u).2.2.2.2.2.length → ownI (gmt (gc W c) l) 0 (gc W u).2.2.2.2.2 = ownI (gmt (gc W c) l) j ((gc W u).2.2.2.2.2.drop j) → w_World_own_L8 w Q n (Int32.ofNat u) (nc A (gmt (gc W c) l).1) (Int32.ofNat (moff W c + l)) (kC A (gmt (gc W c) l).2.2.1) (Int32.ofNat (moff W u + j)) M := by
    intro n
    induction n with
    | zero => intro j hn; exact absurd hn (by omega)
    | succ n ih =>
      intro j hn hj he
      unfold w_World_own_L8 w_World_own_j75
      rw [oN_tnc (k := u) (by omega), u1, u2, oN_add, hms.1.1.1, hms.1.1.2]
      refine ⟨(vp_oN (by omega)).mpr (by omega), (vp_oN (by omega)).mpr (by omega), ?_⟩
      by_cases cj : (gc W u).2.2.2.2.2.length ≤ j
      · refine itp (le_oN (by omega) (by omega)) ?_
        rw [he, List.drop_eq_nil_of_le cj] at hQ; exact hQ
      have hjl : j < (gc W u).2.2.2.2.2.length := by omega
      have hy := (hms.2.2 u hu j hjl).1
      refine itn (nle_oN (by omega) (by omega)) ?_
      rw [oN_tnc (k := moff W u + j) (by omega), hy.2.1.1, f381 56 (by omega) (by omega)]
      refine ⟨(vp_oN (by omega)).mpr (by omega), ?_⟩
      rw [ownI_drop (d := ([], [], (0, []), 0, 0, 0, [], [])) hjl] at he
      have he : ownI (gmt (gc W c) l) 0 (gc W u).2.2.2.2.2 = if (gmt (gc W u) j).1 = (gmt (gc W c) l).1 ∧ (gmt (gc W u) j).2.1 = (gmt (gc W c) l).2.1 ∧ (gmt (gc W u) j).2.2.1 = (gmt (gc W c) l).2.2.1 then some j else ownI (gmt (gc W c) l) (j + 1) ((gc W u).2.2.2.2.2.drop (j + 1)) := he
      have next : ¬ ((gmt (gc W u) j).1 = (gmt (gc W c) l).1 ∧ (gmt (gc W u) j).2.1 = (gmt (gc W c) l).2.1 ∧ (gmt (gc W u) j).2.2.1 = (gmt (gc W c) l).2.2.1) → w_World_own_L8 w Q n (Int32.ofNat u) (nc A (gmt (gc W c) l).1) (Int32.ofNat (moff W c + l)) (kC A (gmt (gc W c) l).2.2.1) (Int32.ofNat (moff W u + j) + 1) M := fun hne => by
        rw [if_neg hne] at he
        rw [show Int32.ofNat (moff W u + j) + (1 : Int32) = Int32.ofNat (moff W u + (j + 1)) from oN_add (moff W u + j) 1]
        exact ih (j + 1) (by omega) (by omega) he
      by_cases d1 : (gmt (gc W u) j).1 = (gmt (gc W c) l).1
      · refine itp (by rw [d1]) ?_
        rw [hy.2.2.2.2.1.1, f381 59 (by omega) (by omega)]
        refine ⟨(vp_oN (by omega)).mpr (by omega), ?_⟩
        by_cases d2 : (gmt (gc W u) j).2.2.1 = (gmt (gc W c) l).2.2.1
        · refine itp (by rw [d2]) ?_
          rw [oN_tnc (k := moff W c + l) (by omega), hx.2.2.2.1.1, f381 58 (by omega) (by omega)]
          refine ⟨(vp_oN (by omega)).mpr (by omega), c_sameM hx hy (f381 58 (by omega) (by omega)) hms.1.2.2 (by omega) (by omega) (by omega) ?_⟩
          by_cases d3 : (gmt (gc W u) j).2.1 = (gmt (gc W c) l).2.1
          · rw [if_pos ⟨d1, d3, d2⟩] at he
            rw [decide_eq_true d3]
            rw [he] at hQ
            exact itn (by decide) hQ
          · rw [decide_eq_false d3]
            exact itp rfl (next (fun z => d3 z.2.1))
        · exact itn (fun z => d2 ((kC_inj hy.2.2.2.2.1.2.2 hx.2.2.2.2.1.2.2 hy.2.2.2.2.1.2.1 hx.2.2.2.2.1.2.1 (by omega)).mp z)) (next (fun z => d2 z.2.2))
      · exact itn (fun z => d1 ((nc_inj (by omega) hy.2.1.2 hx.2.1.2).mp z)) (next (fun z => d1 z.1))
  unfold w_World_own
  rw [oN_tnc (k := u) (by omega), u1, hms.1.1.1]
  exact ⟨(vp_oN (by omega)).mpr (by omega), (gc W u).2.2.2.2.2.length + 1, loop _ 0 (by omega) (by omega) rfl⟩
theorem ownI_lt {x : Mth} : ∀ {L : List Mth} {k j : Nat}, ownI x k L = some j → k ≤ j ∧ j < k + L.length
  | [], _, _, h => by cases h
  | y :: L, k, j, h => by
    unfold ownI at h
    split at h
    · cases h; simp
    · have := ownI_lt h
      simp only [List.length_cons]; omega
/-- whether a final method above is changed -/
theorem c_changesFinal {L : Nat → Int32} {p : Nat} (h : CWx A W w br nq nk np nh nr M) (hA : nA A) (hc : c < W.length) (hI : LInv W L) (hp : upW W c = some p) (hp1 : p = 0 ∨ L p = 1) (hpl : p < W.length) (hQ : Q (b2 (chFin W c)) M) : w_World_changesFinal w (Int32.ofNat c) (Int32.ofNat p) Q M := by
  obtain ⟨c1, c2, c3, c4, h51⟩ := h.mo (e := 0) hc
  have hms := h.2.1
  have f381 := hms.1.2.1
  have hAl := hA.1
  unfold chFin at hQ
  rw [hp] at hQ
  have loop : ∀ n j, (gc W c).2.2.2.2.2.length - j < n → j ≤ (gc W c).2.2.2.2.2.length → (gc W c).2.2.2.2.2.any (fun x => plainM x && chUp W x 52 (some p)) = ((gc W c).2.2.2.2.2.drop j).any (fun x => plainM x && chUp W x 52 (some p)) → w_World_changesFinal_L7 w Q n (Int32.ofNat c) (Int32.ofNat p) (Int32.ofNat (moff W c + j)) M := by
    intro n
    induction n with
    | zero => intro j hn; exact absurd hn (by omega)
    | succ n ih =>
      intro j hn hj he
      unfold w_World_changesFinal_L7
      rw [oN_tnc (k := c) (by omega), c1, c2, oN_add, hms.1.1.1, hms.1.1.2]
      refine ⟨(vp_oN (by omega)).mpr (by omega), (vp_oN (by omega)).mpr (by omega), ?_⟩
      by_cases cj : (gc W c).2.2.2.2.2.length ≤ j
      · refine itp (le_oN (by omega) (by omega)) ?_
        rw [he, List.drop_eq_nil_of_le cj] at hQ; exact hQ
      have hjl : j < (gc W c).2.2.2.2.2.length := by omega
      have hy := (hms.2.2 c hc j hjl).1
      have ed : (gc W c).2.2.2.2.2.drop j = gmt (gc W c) j :: (gc W c).2.2.2.2.2.drop (j + 1) := by
        rw [List.drop_eq_getElem_cons hjl]
        congr 1
        show _ = (gc W c).2.2.2.2.2.getD j _
        rw [List.getD_eq_getElem?_getD, List.getElem?_eq_getElem hjl]; rfl
      rw [ed, List.any_cons] at he
      refine itn (nle_oN (by omega) (by omega)) ?_
      rw [oN_tnc (k := moff W c + j) (by omega), hy.2.1.1, hy.2.2.1, f381 56 (by omega) (by omega), f381 57 (by omega) (by omega)]
      refine ⟨(vp_oN (by omega)).mpr (by omega), ?_⟩
      have next : (plainM (gmt (gc W c) j) && chUp W (gmt (gc W c) j) 52 (some p)) = false → w_World_changesFinal_j130 w Q (w_World_changesFinal_L7 w Q n) (Int32.ofNat c) (Int32.ofNat p) (Int32.ofNat (moff W c + j)) M := fun e => by
        rw [e, Bool.false_or] at he
        unfold w_World_changesFinal_j130
        rw [show Int32.ofNat (moff W c + j) + (1 : Int32) = Int32.ofNat (moff W c + (j + 1)) from oN_add (moff W c + j) 1]
        exact ih (j + 1) (by omega) (by omega) he
      have found : (plainM (gmt (gc W c) j) && chUp W (gmt (gc W c) j) 52 (some p)) = true → Q 1 M := fun e => by
        rw [e, Bool.true_or] at he
        rw [he] at hQ; exact hQ
      -- the way up
      have way : ∀ (b : Bool), b = plainM (gmt (gc W c) j) → ∀ m u r, (u = 0 ∨ L u = 1) → u < W.length → (u ≠ 0 → rk W u < r) → r ≤ 52 → r < m → (b = true → chUp W (gmt (gc W c) j) 52 (some p) = chUp W (gmt (gc W c) j) r (some u) ∨ (u = 0 ∧ chUp W (gmt (gc W c) j) 52 (some p) = false)) → w_World_changesFinal_L67 w Q (w_World_changesFinal_L7 w Q n) m (Int32.ofNat c) (Int32.ofNat p) (Int32.ofNat (moff W c + j)) (b2 b) (Int32.ofNat u) M := by
        intro b hb m
        induction m with
        | zero => intro u r _ _ _ _ hn; exact absurd hn (by omega)
        | succ m ihm =>
          intro u r hu hul hrk hr52 hn' hch
          unfold w_World_changesFinal_L67
          by_cases cu : u = 0
          · refine itp (by rw [cu]; decide) (next ?_)
            rw [← hb]
            cases b with
            | false => rfl
            | true =>
              rcases hch rfl with z | z
              · rw [z, cu]
                cases r with
                | zero => rfl
                | succ r => rfl
              · rw [z.2]; rfl
          refine itn (nle_oN (b := 0) (by omega) (by omega)) ?_
          cases b with
          | false => exact itp rfl (next (by rw [← hb]; rfl))
          | true =>
            have hch : chUp W (gmt (gc W c) j) 52 (some p) = chUp W (gmt (gc W c) j) r (some u) := by
              rcases hch rfl with z | z
              · exact z
              · exact absurd z.1 cu
            have hrk := hrk cu
            obtain ⟨r', er⟩ : ∃ r', r = r' + 1 := ⟨r - 1, by omega⟩
            subst er
            have hcu : chUp W (gmt (gc W c) j) (r' + 1) (some u) = if u = 0 then false else (match ownI (gmt (gc W c) j) 0 (gc W u).2.2.2.2.2 with
              | none => false
              | some j' => decide ((gmt (gc W u) j').2.2.2.1 &&& 7 = 2)) || chUp W (gmt (gc W c) j) r' (upW W u) := rfl
            rw [hcu, if_neg cu] at hch
            refine itn (by decide) ⟨by rw [f381 56 (by omega) (by omega)]; exact (vp_oN (by omega)).mpr (by omega), by rw [f381 59 (by omega) (by omega)]; exact (vp_oN (by omega)).mpr (by omega), ?_⟩
            rw [oN_tnc (k := moff W c + j) (by omega), hy.2.1.1, hy.2.2.2.2.1.1]
            refine c_own h hAl hc hjl hul ?_
            obtain ⟨u', eu, hu'l, hu'⟩ := hI.up hul (by rcases hu with z | z; exact absurd z cu; exact z) cu
            have more : (match ownI (gmt (gc W c) j) 0 (gc W u).2.2.2.2.2 with
              | none => false
              | some j' => decide ((gmt (gc W u) j').2.2.2.1 &&& 7 = 2)) = false → w_World_changesFinal_j119 w Q (w_World_changesFinal_L7 w Q n) (w_World_changesFinal_L67 w Q (w_World_changesFinal_L7 w Q n) m) (Int32.ofNat c) (Int32.ofNat p) (Int32.ofNat (moff W c + j)) (b2 true) (Int32.ofNat u) M := fun e => by
              rw [e, Bool.false_or, eu] at hch
              unfold w_World_changesFinal_j119
              refine c_up h.1.1 hul ?_
              rw [eu]
              refine ihm u' r' (hu'.elim Or.inl (fun z => Or.inr z.1)) hu'l (fun z => ?_) (by omega) (by omega) (fun _ => Or.inl hch)
              rcases hu' with y | y
              · exact absurd y z
              · omega
            cases eo : ownI (gmt (gc W c) j) 0 (gc W u).2.2.2.2.2 with
            | none => exact itp (show (-2 : Int32) < 0 by decide) (more (by rw [eo]))
            | some j' =>
              have hj' := ownI_lt eo
              have hj'l : j' < (gc W u).2.2.2.2.2.length := by omega
              obtain ⟨-, -, u3, -, -⟩ := h.mo (e := 0) hul
              have hz := (hms.2.2 u hul j' hj'l).1
              refine itn (oN_nonneg (by omega)) ?_
              rw [oN_tnc (k := moff W u + j') (by omega), hz.2.2.1, f381 57 (by omega) (by omega)]
              refine ⟨(vp_oN (by omega)).mpr (by omega), ?_⟩
              rw [eo] at hch
              by_cases c7 : (gmt (gc W u) j').2.2.2.1 &&& 7 = 2
              · refine itp c7 (found ?_)
                rw [← hb, hch]
                show (true && (decide ((gmt (gc W u) j').2.2.2.1 &&& 7 = 2) || _)) = true
                rw [decide_eq_true c7]; rfl
              · exact itn c7 (more (by rw [eo]; exact decide_eq_false c7))
      have start : ∀ (b : Bool), b = plainM (gmt (gc W c) j) → w_World_changesFinal_j62 w Q (w_World_changesFinal_L7 w Q n) (Int32.ofNat c) (Int32.ofNat p) (Int32.ofNat (moff W c + j)) (b2 b) M := fun b hb => by
        unfold w_World_changesFinal_j62
        have := rk_le (W := W) (c := p)
        exact ⟨53, way b hb 53 p 52 hp1 hpl (fun _ => by omega) (by omega) (by omega) (fun _ => Or.inl rfl)⟩
      unfold w_World_changesFinal_j61
      have hmk : nc A (gmt (gc W c) j).1 = 79 ↔ (gmt (gc W c) j).1 = nMake := ⟨fun z => (nc_inj (by omega) hy.2.1.2 hA.make.2).mp (z.trans hA.make.1.symm), fun z => by rw [z]; exact hA.make.1⟩
      have hst : nc A (gmt (gc W c) j).1 = 80 ↔ (gmt (gc W c) j).1 = nStart := ⟨fun z => (nc_inj (by omega) hy.2.1.2 hA.start.2).mp (z.trans hA.start.1.symm), fun z => by rw [z]; exact hA.start.1⟩
      unfold plainM at start
      by_cases d1 : (gmt (gc W c) j).1 = nMake
      · exact itp (hmk.mpr d1) (start false (by rw [decide_eq_false (fun z => z d1)]; rfl))
      refine itn (fun z => d1 (hmk.mp z)) ⟨(vp_oN (by omega)).mpr (by omega), ?_⟩
      by_cases d2 : (gmt (gc W c) j).1 = nStart
      · exact itp (hst.mpr d2) (start false (by rw [decide_eq_true d1, decide_eq_false (p := (gmt (gc W c) j).1 ≠ nStart) (fun z => z d2)]; rfl))
      refine itn (fun z => d2 (hst.mp z)) ⟨(vp_oN (by omega)).mpr (by omega), ?_⟩
      by_cases d3 : (gmt (gc W c) j).2.2.2.1 &&& 5 = 0
      · exact itp d3 (start true (by rw [decide_eq_true d1, decide_eq_true d2, decide_eq_true d3]; rfl))
      · exact itn d3 (start false (by rw [decide_eq_true d1, decide_eq_true d2, decide_eq_false d3]; rfl))
  unfold w_World_changesFinal
  rw [oN_tnc (k := c) (by omega), c1, hms.1.1.1]
  exact ⟨(vp_oN (by omega)).mpr (by omega), (gc W c).2.2.2.2.2.length + 1, loop _ 0 (by omega) (by omega) (by rw [List.drop_zero])⟩
end
