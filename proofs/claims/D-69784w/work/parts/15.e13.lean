/-! B: finding methods in the works -/
abbrev lik (y x : Mth) : Prop := y.1 = x.1 ∧ y.2.1 = x.2.1 ∧ y.2.2.1 = x.2.2.1
theorem ownI_none {x : Mth} : ∀ {l : List Mth} {k : Nat}, (∀ y ∈ l, ¬ lik y x) → ownI x k l = Option.none
  | [], _, _ => rfl
  | y :: l, k, h => by
    unfold ownI
    rw [if_neg (h y List.mem_cons_self)]
    exact ownI_none (fun z hz => h z (List.mem_cons_of_mem _ hz))
theorem ownI_at {x : Mth} {d : Mth} : ∀ {l : List Mth} {k j : Nat}, ownI x k l = some j → lik (l.getD (j - k) d) x
  | [], _, _, h => by cases h
  | y :: l, k, j, h => by
    have h' := h
    unfold ownI at h
    split at h
    · rename_i q
      cases h
      rw [Nat.sub_self]; exact q
    · have h1 := ownI_lt h
      have := ownI_at (d := d) h
      rw [show j - k = (j - (k + 1)) + 1 by omega]
      exact this
theorem ownQ_lt {x : Mth} {msk : Int32} {l : List Mth} {j : Nat} (h : ownQ x msk l = some j) : j < l.length ∧ lik (l.getD j ([], [], (0, []), 0, 0, 0, [], [])) x ∧ (l.getD j ([], [], (0, []), 0, 0, 0, [], [])).2.2.2.1 &&& msk = 0 := by
  unfold ownQ at h
  split at h
  · cases h
  · rename_i e
    split at h
    · rename_i q
      cases h
      have := ownI_lt e
      have h2 := ownI_at (d := ([], [], (0, []), 0, 0, 0, [], [])) e
      rw [Nat.sub_zero] at h2
      exact ⟨by omega, h2, q⟩
    · cases h
def oM (W : List Cls) (o : Option (Nat × Nat)) : Int32 := match o with
  | none => -2
  | some r => Int32.ofNat (moff W r.1 + r.2)
/-- a member that is named, with what is known of it -/
def RfX (A : List Nm) (w r : Nat) (k : Nm) (x : Mth) (M : Mem) : Prop := cRf A w r k x.1 x.2.1 x.2.2.1 M ∧ (x.2.1.length ≤ 6 ∧ (∀ κ ∈ x.2.1, kdOk κ) ∧ kdOk x.2.2.1) ∧ (4 * r + 4 ≤ mL M 76 w ∧ mL M 76 w < 2000000) ∧ 6 * r + 6 ≤ mL M 211 (2 * w + 2) ∧ mL M 211 (2 * w + 2) < 2000000
section
variable {A : List Nm} {W : List Cls} {w c p r : Nat} {br : Int32} {nq nk np nh nr : Nat} {M M' : Mem} {Q : Int32 → Mem → Prop} {v : List Nat} {k : Nm} {x : Mth} {L : Nat → Int32} {msk : Int32}
theorem RfX.lw {b : Nat → Nat} (h : RfX A w r k x M) (hx : Lo w b M M') (h1 : 4 * r + 4 ≤ b 76) (h2 : 6 * r + 6 ≤ b 212) : RfX A w r k x M' := by
  obtain ⟨a, b, c, d⟩ := h
  have e1 : mL M' 76 w = mL M 76 w := (hx.1 76 rfl).2 w
  have e2 : mL M' 211 (2 * w + 2) = mL M 211 (2 * w + 2) := hx.2.2.2 _
  exact ⟨a.lo hx h1 h2, b, by rw [e1]; exact c, by rw [e2]; exact d⟩
theorem RfX.sp {w' : Nat} (h : RfX A w r k x M) (hs : Sp w' M M') : RfX A w r k x M' := by
  obtain ⟨⟨a1, a2, a3, a4, a5⟩, b, c, d⟩ := h
  have e : ∀ i j, mI M' 76 i j = mI M 76 i j := fun i j => hs.1.Ia (f := 76) rfl rfl i j
  have e2 : ∀ i j, mI M' 211 i j = mI M 211 i j := fun i j => hs.1.Ia (f := 211) rfl rfl i j
  refine ⟨⟨by rw [e]; exact a1, by rw [e]; exact a2, by rw [e]; exact a3, by rw [e]; exact a4, fun i h1 h2 => by rw [e2]; exact a5 i h1 h2⟩, b, by rw [hs.1.L (f := 76) rfl]; exact c, by rw [hs.1.L (f := 211) rfl]; exact d⟩
theorem k_refClass (h : RfX A w r k x M) (hQ : Q (nc A k) M) : w_World_refClass w (Int32.ofNat r) Q M := by
  unfold w_World_refClass
  have := h.2.2.1
  rw [show (4 : Int32) * Int32.ofNat r = Int32.ofNat (4 * r) from oN_mul 4 r, oN_tnc (by omega), h.1.1.1]
  exact ⟨(vp_oN (by omega)).mpr (by omega), hQ⟩
theorem k_refName (h : RfX A w r k x M) (hQ : Q (nc A x.1) M) : w_World_refName w (Int32.ofNat r) Q M := by
  unfold w_World_refName
  have := h.2.2.1
  rw [show (4 : Int32) * Int32.ofNat r = Int32.ofNat (4 * r) from oN_mul 4 r, show Int32.ofNat (4 * r) + (1 : Int32) = Int32.ofNat (4 * r + 1) from oN_add _ 1, oN_tnc (by omega), h.1.2.1.1]
  exact ⟨(vp_oN (by omega)).mpr (by omega), hQ⟩
theorem k_refType (h : RfX A w r k x M) (hQ : Q (kC A x.2.2.1) M) : w_World_refType w (Int32.ofNat r) Q M := by
  unfold w_World_refType
  have := h.2.2.1
  rw [show (4 : Int32) * Int32.ofNat r = Int32.ofNat (4 * r) from oN_mul 4 r, show Int32.ofNat (4 * r) + (2 : Int32) = Int32.ofNat (4 * r + 2) from oN_add _ 2, oN_tnc (by omega), h.1.2.2.1.1]
  exact ⟨(vp_oN (by omega)).mpr (by omega), hQ⟩
theorem k_refArguments (h : RfX A w r k x M) (hQ : Q (Int32.ofNat x.2.1.length) M) : w_World_refArguments w (Int32.ofNat r) Q M := by
  unfold w_World_refArguments
  have := h.2.2.1
  rw [show (4 : Int32) * Int32.ofNat r = Int32.ofNat (4 * r) from oN_mul 4 r, show Int32.ofNat (4 * r) + (3 : Int32) = Int32.ofNat (4 * r + 3) from oN_add _ 3, oN_tnc (by omega), h.1.2.2.2.1]
  exact ⟨(vp_oN (by omega)).mpr (by omega), hQ⟩
/-- arguments of a method and of a member that is named -/
theorem c_sameR {m u : Nat} {y : Mth} (hx : RfX A w r k x M) (hy : cHd A w u m y M) (h58 : mL M 58 w = 381) (h211 : mL M 211 (2 * w + 1) = 2286) (hm : m < 381) (hA : A.length < 1000000) (hQ : Q (b2 (decide (y.2.1 = x.2.1))) M) : w_World_sameArguments w (Int32.ofNat m) (2 * w + 2) ((6 : Int32) * Int32.ofNat r) (Int32.ofNat x.2.1.length) Q M := by
  obtain ⟨⟨-, -, -, x1, x3⟩, ⟨x2, xk, -⟩, -, l1, l2⟩ := hx
  obtain ⟨-, -, -, ⟨y1, y2, y3⟩, -⟩ := hy
  have loop : ∀ n j (b : Bool), x.2.1.length - j < n → j ≤ x.2.1.length → (b = true → y.2.1.length = x.2.1.length ∧ ∀ i, i < j → gk y.2.1 i = gk x.2.1 i) → (b = false → y.2.1 ≠ x.2.1) → w_World_sameArguments_L21 w Q n (Int32.ofNat m) (2 * w + 2) (Int32.ofNat (6 * r)) (Int32.ofNat x.2.1.length) (b2 b) (Int32.ofNat j) M := by
    intro n
    induction n with
    | zero => intro j b hn; exact absurd hn (by omega)
    | succ n ih =>
      intro j b hn hj h1 h0
      unfold w_World_sameArguments_L21 w_World_sameArguments_j59
      by_cases cj : x.2.1.length ≤ j
      · refine itp (le_oN cj (by omega)) ⟨by cases b <;> simp [b2], ?_⟩
        have e : decide (y.2.1 = x.2.1) = b := by
          cases b with
          | false => exact decide_eq_false (h0 rfl)
          | true =>
            obtain ⟨e1, e2⟩ := h1 rfl
            exact decide_eq_true (gk_ext e1 (fun i hi => e2 i (by omega)))
        rw [e] at hQ; exact hQ
      refine itn (nle_oN (by omega) (by omega)) ?_
      cases b with
      | false =>
        refine itp rfl ⟨Or.inl rfl, ?_⟩
        rw [decide_eq_false (h0 rfl)] at hQ; exact hQ
      | true =>
        obtain ⟨e1, e2⟩ := h1 rfl
        refine itn (by decide) ?_
        obtain ⟨p1, p2⟩ := x3 j (by omega) (by omega)
        obtain ⟨q1, q2, q3⟩ := y3 j (by omega)
        rw [show (6 : Int32) * Int32.ofNat m = Int32.ofNat (6 * m) from oN_mul 6 m, oN_add, oN_add, oN_tnc (k := 6 * m + j) (by omega), oN_tnc (k := 6 * r + j) (by omega), p1, q1, h211, show Int32.ofNat j + (1 : Int32) = Int32.ofNat (j + 1) from oN_add j 1]
        refine ⟨(vp_oN (by omega)).mpr (by omega), (vp_oN (by omega)).mpr (by omega), ?_⟩
        have inj := kC_inj (A := A) q3 (xk _ (gk_mem (by omega))) q2 p2 hA
        by_cases c1 : gk y.2.1 j = gk x.2.1 j
        · refine itp (by rw [c1]) (ih (j + 1) true (by omega) (by omega) (fun _ => ⟨e1, fun i hi => ?_⟩) (fun z => by cases z))
          by_cases ei : i = j
          · rw [ei]; exact c1
          · exact e2 i (by omega)
        · exact itn (fun z => c1 (inj.mp z)) (ih (j + 1) false (by omega) (by omega) (fun z => by cases z) (fun _ z => c1 (by rw [z])))
  unfold w_World_sameArguments w_World_sameArguments_j16
  rw [oN_tnc (k := m) (by omega), y1, h58, show (6 : Int32) * Int32.ofNat r = Int32.ofNat (6 * r) from oN_mul 6 r]
  refine ⟨(vp_oN (by omega)).mpr hm, ?_⟩
  by_cases c1 : y.2.1.length = x.2.1.length
  · exact itp (by rw [c1]) ⟨x.2.1.length + 1, loop _ 0 true (by omega) (by omega) (fun _ => ⟨c1, fun i hi => absurd hi (by omega)⟩) (fun z => by cases z)⟩
  · exact itn (ne_oN c1 (by omega) (by omega)) ⟨x.2.1.length + 1, loop _ 0 false (by omega) (by omega) (fun z => by cases z) (fun _ z => c1 (by rw [z]))⟩
theorem c_isLike {m u : Nat} {y : Mth} (hx : RfX A w r k x M) (hy : cHd A w u m y M) (f381 : ∀ f, 55 ≤ f → f ≤ 65 → mL M f w = 381) (h211 : mL M 211 (2 * w + 1) = 2286) (hm : m < 381) (hA : A.length < 1000000) (hQ : Q (b2 (decide (lik y x))) M) : w_World_isLike w (Int32.ofNat m) (Int32.ofNat r) Q M := by
  unfold w_World_isLike
  rw [oN_tnc (k := m) (by omega), f381 56 (by omega) (by omega), hy.2.1.1]
  refine ⟨(vp_oN (by omega)).mpr hm, k_refName hx ?_⟩
  by_cases c1 : y.1 = x.1
  · refine itp (by rw [c1]) ⟨by rw [f381 59 (by omega) (by omega)]; exact (vp_oN (by omega)).mpr hm, k_refType hx ?_⟩
    rw [hy.2.2.2.2.1.1]
    by_cases c2 : y.2.2.1 = x.2.2.1
    · refine itp (by rw [c2]) ?_
      unfold w_World_typesOf
      refine k_refArguments hx (c_sameR hx hy (f381 58 (by omega) (by omega)) h211 hm hA ?_)
      by_cases c3 : y.2.1 = x.2.1
      · rw [decide_eq_true (show lik y x from ⟨c1, c3, c2⟩)] at hQ
        rw [decide_eq_true c3]
        exact itn (by decide) hQ
      · rw [decide_eq_false (fun z : lik y x => c3 z.2.1)] at hQ
        rw [decide_eq_false c3]
        exact itp rfl hQ
    · rw [decide_eq_false (fun z : lik y x => c2 z.2.2)] at hQ
      exact itn (fun z => c2 ((kC_inj hy.2.2.2.2.1.2.2 hx.2.1.2.2 hy.2.2.2.2.1.2.1 hx.1.2.2.1.2 hA).mp z)) hQ
  · rw [decide_eq_false (fun z : lik y x => c1 z.1)] at hQ
    exact itn (fun z => c1 ((nc_inj (by omega) hy.2.1.2 hx.1.2.1.2).mp z)) hQ
/-- the class's own method that is like a member that is named -/
theorem c_ownLike {u : Nat} (h : CWx A W w br nq nk np nh nr M) (hx : RfX A w r k x M) (hA : A.length ≤ 200000) (hC : WC W) (hu : u < W.length) (hQ : Q (oM W ((ownQ x msk (gc W u).2.2.2.2.2).map (fun j => (u, j)))) M) : w_World_ownLike w (Int32.ofNat u) (Int32.ofNat r) msk Q M := by
  obtain ⟨u1, u2, u3, u4, u5⟩ := h.mo (e := 0) hu
  have hms := h.2.1
  have f381 := hms.1.2.1
  have hpw := (hC.at hu).2.1
  have loop : ∀ n j, (gc W u).2.2.2.2.2.length - j < n → j ≤ (gc W u).2.2.2.2.2.length → ownI x 0 (gc W u).2.2.2.2.2 = ownI x j ((gc W u).2.2.2.2.2.drop j) ∨ (ownQ x msk (gc W u).2.2.2.2.2 = none ∧ ∀ i, j ≤ i → i < (gc W u).2.2.2.2.2.length → ¬ lik (gmt (gc W u) i) x) → w_World_ownLike_L8 w Q n (Int32.ofNat u) (Int32.ofNat r) msk (Int32.ofNat (moff W u + j)) M := by
    intro n
    induction n with
    | zero => intro j hn; exact absurd hn (by omega)
    | succ n ih =>
      intro j hn hj he
      unfold w_World_ownLike_L8 w_World_ownLike_j51
      rw [oN_tnc (k := u) (by omega), u1, u2, oN_add, hms.1.1.1, hms.1.1.2]
      refine ⟨(vp_oN (by omega)).mpr (by omega), (vp_oN (by omega)).mpr (by omega), ?_⟩
      by_cases cj : (gc W u).2.2.2.2.2.length ≤ j
      · refine itp (le_oN (by omega) (by omega)) ?_
        have : ownQ x msk (gc W u).2.2.2.2.2 = none := by
          rcases he with z | z
          · unfold ownQ
            rw [z, List.drop_eq_nil_of_le cj]; rfl
          · exact z.1
        rw [this] at hQ; exact hQ
      have hjl : j < (gc W u).2.2.2.2.2.length := by omega
      have hy := (hms.2.2 u hu j hjl).1
      refine itn (nle_oN (by omega) (by omega)) ?_
      rw [show Int32.ofNat (moff W u + j) + (1 : Int32) = Int32.ofNat (moff W u + (j + 1)) from oN_add (moff W u + j) 1]
      refine c_isLike hx hy f381 hms.1.2.2 (by omega) (by omega) ?_
      by_cases d1 : lik (gmt (gc W u) j) x
      · rw [decide_eq_true d1]
        refine itn (by decide) ?_
        rw [oN_tnc (k := moff W u + j) (by omega), hy.2.2.1, f381 57 (by omega) (by omega)]
        refine ⟨(vp_oN (by omega)).mpr (by omega), ?_⟩
        have he := he.resolve_right (fun z => z.2 j (Nat.le_refl _) hjl d1)
        rw [ownI_drop (d := ([], [], (0, []), 0, 0, 0, [], [])) hjl] at he
        have he : ownI x 0 (gc W u).2.2.2.2.2 = some j := he.trans (if_pos d1)
        have eq : ownQ x msk (gc W u).2.2.2.2.2 = if (gmt (gc W u) j).2.2.2.1 &&& msk = 0 then some j else none := by
          unfold ownQ; rw [he]
        by_cases d2 : (gmt (gc W u) j).2.2.2.1 &&& msk = 0
        · rw [if_pos d2] at eq
          rw [eq] at hQ
          exact itp d2 hQ
        · rw [if_neg d2] at eq
          refine itn d2 (ih (j + 1) (by omega) (by omega) (Or.inr ⟨eq, fun i h1 h2 z => ?_⟩))
          have hp := List.pairwise_iff_getElem.mp hpw j i hjl h2 (by omega)
          have g1 : gmt (gc W u) j = (gc W u).2.2.2.2.2[j] := by
            show (gc W u).2.2.2.2.2.getD j _ = _
            rw [List.getD_eq_getElem?_getD, List.getElem?_eq_getElem hjl]; rfl
          have g2 : gmt (gc W u) i = (gc W u).2.2.2.2.2[i] := by
            show (gc W u).2.2.2.2.2.getD i _ = _
            rw [List.getD_eq_getElem?_getD, List.getElem?_eq_getElem h2]; rfl
          rw [g1] at d1
          rw [g2] at z
          exact hp ⟨d1.1.trans z.1.symm, d1.2.1.trans z.2.1.symm, d1.2.2.trans z.2.2.symm⟩
      · rw [decide_eq_false d1]
        refine itp rfl (ih (j + 1) (by omega) (by omega) ?_)
        rcases he with z | z
        · rw [ownI_drop (d := ([], [], (0, []), 0, 0, 0, [], [])) hjl] at z
          exact Or.inl (z.trans (if_neg d1))
        · exact Or.inr ⟨z.1, fun i h1 h2 => z.2 i (by omega) h2⟩
  unfold w_World_ownLike
  rw [oN_tnc (k := u) (by omega), u1, hms.1.1.1]
  exact ⟨(vp_oN (by omega)).mpr (by omega), (gc W u).2.2.2.2.2.length + 1, loop _ 0 (by omega) (by omega) (Or.inl rfl)⟩
end
