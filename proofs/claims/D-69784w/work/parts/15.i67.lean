/-! DIFFER, works: methods that are written alike -/
/-- a method to be looked at -/
def AlM (A : List Nm) (w nq nk np nh nr m q0 h0 : Nat) (x : Mth) (M : Mem) : Prop := ((mI M 57 w m = x.2.2.2.1 ∧ mI M 60 w m = x.2.2.2.2.1 ∧ mI M 61 w m = x.2.2.2.2.2.1) ∧ mI M 62 w m = Int32.ofNat q0 ∧ mI M 63 w m = Int32.ofNat (co x).length ∧ mI M 64 w m = Int32.ofNat h0 ∧ mI M 65 w m = Int32.ofNat (hs x).length) ∧ ((∀ f, 55 ≤ f → f ≤ 65 → mL M f w = 381) ∧ m < 381 ∧ cRm w M ∧ q0 < 1000000 ∧ 4 * (h0 + (hs x).length) ≤ L75 w ∧ (co x).length ≤ 80 ∧ (hs x).length ≤ 8) ∧ (∀ i, i < (co x).length → AlI A w nq nk np nr (q0 + i) (gin (co x) i) M) ∧ (∀ i, i < (hs x).length → cFh A w (h0 + i) (ghn (hs x) i) M) ∧ (∀ i, i < (co x).length → ∀ t ∈ iT (gin (co x) i), t < 1000) ∧ ∀ i, i < (hs x).length → (ghn (hs x) i).1 < 1000 ∧ (ghn (hs x) i).2.1 < 1000 ∧ (ghn (hs x) i).2.2.1 < 1000
theorem gin_ext {a b : List Ins} (hl : a.length = b.length) (h : ∀ i, i < a.length → gin a i = gin b i) : a = b := by
  apply List.ext_getElem hl
  intro i h1 h2
  have := h i h1
  rw [show gin a i = a[i] by show a.getD i _ = _; rw [List.getD_eq_getElem?_getD, List.getElem?_eq_getElem h1]; rfl, show gin b i = b[i] by show b.getD i _ = _; rw [List.getD_eq_getElem?_getD, List.getElem?_eq_getElem h2]; rfl] at this
  exact this
theorem ghn_ext {a b : List Hnd} (hl : a.length = b.length) (h : ∀ i, i < a.length → ghn a i = ghn b i) : a = b := by
  apply List.ext_getElem hl
  intro i h1 h2
  have := h i h1
  rw [show ghn a i = a[i] by show a.getD i _ = _; rw [List.getD_eq_getElem?_getD, List.getElem?_eq_getElem h1]; rfl, show ghn b i = b[i] by show b.getD i _ = _; rw [List.getD_eq_getElem?_getD, List.getElem?_eq_getElem h2]; rfl] at this
  exact this
/-- the k-th number of a handler -/
def hnV (A : List Nm) (y : Hnd) (k : Nat) : Int32 := if k = 0 then Int32.ofNat y.1 else if k = 1 then Int32.ofNat y.2.1 else if k = 2 then Int32.ofNat y.2.2.1 else nc A y.2.2.2
theorem hnV_at {A : List Nm} {w h : Nat} {y : Hnd} {M : Mem} (hy : cFh A w h y M) {k : Nat} (hk : k < 4) : mI M 75 w (4 * h + k) = hnV A y k := by
  obtain ⟨a, b, c, d, -⟩ := hy
  have : k = 0 ∨ k = 1 ∨ k = 2 ∨ k = 3 := by omega
  rcases this with e | e | e | e <;> subst e
  · exact a
  · exact b
  · exact c
  · exact d
theorem hnV_inj {A : List Nm} (hA : A.length ≤ 200000) {y z : Hnd} (hy : y.1 < 1000 ∧ y.2.1 < 1000 ∧ y.2.2.1 < 1000) (hz : z.1 < 1000 ∧ z.2.1 < 1000 ∧ z.2.2.1 < 1000) (my : y.2.2.2 ∈ A) (mz : z.2.2.2 ∈ A) (h : ∀ k, k < 4 → hnV A y k = hnV A z k) : y = z := by
  have h0 : Int32.ofNat y.1 = Int32.ofNat z.1 := h 0 (by omega)
  have h1 : Int32.ofNat y.2.1 = Int32.ofNat z.2.1 := h 1 (by omega)
  have h2 : Int32.ofNat y.2.2.1 = Int32.ofNat z.2.2.1 := h 2 (by omega)
  have h3 : nc A y.2.2.2 = nc A z.2.2.2 := h 3 (by omega)
  exact Prod.ext ((oN_inj (by omega) (by omega)).1 h0) (Prod.ext ((oN_inj (by omega) (by omega)).1 h1) (Prod.ext ((oN_inj (by omega) (by omega)).1 h2) ((nc_inj (A := A) (by omega) my mz).1 h3)))
section
variable {A : List Nm} {w w' nq nk np nh nr m q0 h0 nq' nk' np' nh' nr' m' q0' h0' : Nat} {x y : Mth} {M : Mem} {Q : Int32 → Mem → Prop}
theorem c_wa142 (hA : A.length ≤ 200000) (hx : AlM A w nq nk np nh nr m q0 h0 x M) (hy : AlM A w' nq' nk' np' nh' nr' m' q0' h0' y M) (e : x.2.2.2.1 = y.2.2.2.1 ∧ x.2.2.2.2.1 = y.2.2.2.2.1 ∧ x.2.2.2.2.2.1 = y.2.2.2.2.2.1 ∧ (hs x).length = (hs y).length) (hQ : Q (b2 (eqQ x.2.2.2 y.2.2.2)) M) : ∀ n k (b : Bool), k ≤ 4 * (hs x).length → 4 * (hs x).length - k < n → (b = true ↔ (co x = co y ∧ ∀ j, j < k → hnV A (ghn (hs x) (j / 4)) (j % 4) = hnV A (ghn (hs y) (j / 4)) (j % 4))) → w_Works_isWrittenAlike_L142 0 Q n w (Int32.ofNat m) w' (Int32.ofNat m') (b2 b) (Int32.ofNat k) M
  | 0, k, b, hk, hn, hb => absurd hn (by omega)
  | n + 1, k, b, hk, hn, hb => by
    have z1 := L_le w
    have z2 := L_le w'
    obtain ⟨⟨-, -, -, r64, r65⟩, ⟨l1, hm, hR, -, l75, -, l8⟩, -, hH, -, hT⟩ := id hx
    obtain ⟨⟨-, -, -, r64', r65'⟩, ⟨l1', hm', hR', -, l75', -, l8'⟩, -, hH', -, hT'⟩ := id hy
    have bb : b2 b = 0 ∨ b2 b = 1 := by cases b <;> simp [b2]
    have fls : b = false → x.2.2.2 ≠ y.2.2.2 := fun q z => by
      have ec : co x = co y := congrArg (fun t => t.2.2.2.1) z
      have eh : hs x = hs y := congrArg (fun t => t.2.2.2.2) z
      have : b = true := hb.2 ⟨ec, fun j _ => by rw [eh]⟩
      rw [q] at this; cases this
    unfold w_Works_isWrittenAlike_L142
    rw [oN_tnc (k := m) (by omega), oN_tnc (k := m') (by omega), l1 65 (by omega) (by omega), l1 64 (by omega) (by omega), l1' 64 (by omega) (by omega), r65, r64, r64', lit32 4, oN_mul, oN_mul, oN_mul]
    refine ⟨(vp_oN (by omega)).mpr hm, ?_⟩
    by_cases ek : k = 4 * (hs x).length
    · refine itp (by rw [ek]; exact le_oN (Nat.le_refl _) (by omega)) ⟨bb, ?_⟩
      have eb : b = eqQ x.2.2.2 y.2.2.2 := by
        cases b with
        | false => exact (eqQ_f (fls rfl)).symm
        | true =>
          obtain ⟨q1, q2⟩ := hb.1 rfl
          refine (eqQ_t (Prod.ext e.1 (Prod.ext e.2.1 (Prod.ext e.2.2.1 (Prod.ext q1 (ghn_ext e.2.2.2 (fun i hi => ?_))))))).symm
          have hi : i < (hs x).length := hi
          have el := e.2.2.2
          refine hnV_inj hA (hT i hi) (hT' i (by omega)) (hH i hi).2.2.2.2 (hH' i (by omega)).2.2.2.2 (fun a ha => ?_)
          have := q2 (4 * i + a) (by omega)
          rw [show (4 * i + a) / 4 = i by omega, show (4 * i + a) % 4 = a by omega] at this
          exact this
      rw [eb]; exact hQ
    refine itn (nle_oN (by omega) (by omega)) ?_
    cases b with
    | false =>
      refine itp rfl ⟨Or.inl rfl, ?_⟩
      rw [eqQ_f (fls rfl)] at hQ; exact hQ
    | true =>
      obtain ⟨q1, q2⟩ := hb.1 rfl
      have hd : k / 4 < (hs x).length := by omega
      have a1 := hnV_at (hH (k / 4) hd) (k := k % 4) (by omega)
      have a2 := hnV_at (hH' (k / 4) (by omega)) (k := k % 4) (by omega)
      rw [show 4 * (h0 + k / 4) + k % 4 = 4 * h0 + k by omega] at a1
      rw [show 4 * (h0' + k / 4) + k % 4 = 4 * h0' + k by omega] at a2
      refine itn (by decide) ⟨(vp_oN (by omega)).mpr hm, ?_⟩
      rw [oN_add, oN_add, oN_tnc (k := 4 * h0 + k) (by omega), oN_tnc (k := 4 * h0' + k) (by omega), hR.2.2.2.1, hR'.2.2.2.1, a1, a2]
      refine ⟨(vp_oN (by omega)).mpr (by omega), (vp_oN (by omega)).mpr hm', (vp_oN (by omega)).mpr (by omega), ?_⟩
      unfold w_Works_isWrittenAlike_j201
      rw [lit32 1, oN_add]
      by_cases c : hnV A (ghn (hs x) (k / 4)) (k % 4) = hnV A (ghn (hs y) (k / 4)) (k % 4)
      · refine itp c (c_wa142 hA hx hy e hQ n (k + 1) true (by omega) (by omega) ⟨fun _ => ⟨q1, fun j hj => ?_⟩, fun _ => rfl⟩)
        by_cases ej : j = k
        · rw [ej]; exact c
        · exact q2 j (by omega)
      · exact itn c (c_wa142 hA hx hy e hQ n (k + 1) false (by omega) (by omega) ⟨fun z => (by cases z), fun z => absurd (z.2 k (by omega)) c⟩)
theorem c_wa90 (hA : A.length ≤ 200000) (hx : AlM A w nq nk np nh nr m q0 h0 x M) (hy : AlM A w' nq' nk' np' nh' nr' m' q0' h0' y M) (e : x.2.2.2.1 = y.2.2.2.1 ∧ x.2.2.2.2.1 = y.2.2.2.2.1 ∧ x.2.2.2.2.2.1 = y.2.2.2.2.2.1 ∧ (hs x).length = (hs y).length) (ec : (co x).length = (co y).length) (hQ : Q (b2 (eqQ x.2.2.2 y.2.2.2)) M) : ∀ n k (b : Bool), k ≤ (co x).length → (co x).length - k < n → (b = true ↔ ∀ j, j < k → gin (co x) j = gin (co y) j) → w_Works_isWrittenAlike_L90 0 Q n w (Int32.ofNat m) w' (Int32.ofNat m') (b2 b) (Int32.ofNat k) M
  | 0, k, b, hk, hn, hb => absurd hn (by omega)
  | n + 1, k, b, hk, hn, hb => by
    have z1 := L_le w
    have z2 := L_le w'
    obtain ⟨⟨-, r62, r63, -⟩, ⟨l1, hm, hR, hq0, -, l80, l8⟩, hI, -, hT, -⟩ := id hx
    obtain ⟨⟨-, r62', -⟩, ⟨l1', hm', hR', hq0', -, l80', -⟩, hI', -, hT', -⟩ := id hy
    have go : (b = true ↔ co x = co y) → w_Works_isWrittenAlike_j139 0 Q w (Int32.ofNat m) w' (Int32.ofNat m') (b2 b) M := fun hc => by
      unfold w_Works_isWrittenAlike_j139
      refine ⟨4 * (hs x).length + 1, c_wa142 hA hx hy e hQ _ 0 b (Nat.zero_le _) (by omega) ⟨fun z => ⟨hc.1 z, fun j hj => absurd hj (by omega)⟩, fun z => hc.2 z.1⟩⟩
    unfold w_Works_isWrittenAlike_L90
    rw [oN_tnc (k := m) (by omega), oN_tnc (k := m') (by omega), l1 63 (by omega) (by omega), l1 62 (by omega) (by omega), l1' 62 (by omega) (by omega), r63]
    refine ⟨(vp_oN (by omega)).mpr hm, ?_⟩
    by_cases ek : k = (co x).length
    · refine itp (by rw [ek]; exact le_oN (Nat.le_refl _) (by omega)) (go ⟨fun z => gin_ext ec (fun i hi => hb.1 z i (by omega)), fun z => hb.2 (fun j _ => by rw [z])⟩)
    refine itn (nle_oN (by omega) (by omega)) ?_
    cases b with
    | false =>
      refine itp rfl (go ⟨fun z => (by cases z), fun z => hb.2 (fun j _ => by rw [z])⟩)
    | true =>
      refine itn (by decide) ⟨(vp_oN (by omega)).mpr hm, (vp_oN (by omega)).mpr hm', ?_⟩
      rw [r62, r62', oN_add, oN_add]
      refine c_isAlike hA (hI k (by omega)) (hI' k (by omega)) (hT k (by omega)) (hT' k (by omega)) ?_
      rw [lit32 1, oN_add]
      refine c_wa90 hA hx hy e ec hQ n (k + 1) _ (by omega) (by omega) ⟨fun z j hj => ?_, fun z => eqQ_t (z k (by omega))⟩
      by_cases ej : j = k
      · rw [ej]; exact eqQ_of z
      · exact hb.1 rfl j (by omega)
theorem c_writtenAlike (hA : A.length ≤ 200000) (hx : AlM A w nq nk np nh nr m q0 h0 x M) (hy : AlM A w' nq' nk' np' nh' nr' m' q0' h0' y M) (hQ : Q (b2 (eqQ x.2.2.2 y.2.2.2)) M) : w_Works_isWrittenAlike 0 w (Int32.ofNat m) w' (Int32.ofNat m') Q M := by
  obtain ⟨⟨⟨r57, r60, r61⟩, r62, r63, r64, r65⟩, ⟨l1, hm, hR, hq0, l75, l80, l8⟩, -⟩ := id hx
  obtain ⟨⟨⟨r57', r60', r61'⟩, r62', r63', r64', r65'⟩, ⟨l1', hm', hR', hq0', l75', l80', l8'⟩, -⟩ := id hy
  have v : ∀ f, 55 ≤ f → f ≤ 65 → vp_in (Int32.ofNat m) (mL M f w) := fun f a b => by rw [l1 f a b]; exact (vp_oN (by omega)).mpr hm
  have v' : ∀ f, 55 ≤ f → f ≤ 65 → vp_in (Int32.ofNat m') (mL M f w') := fun f a b => by rw [l1' f a b]; exact (vp_oN (by omega)).mpr hm'
  have no : x.2.2.2 ≠ y.2.2.2 → w_Works_isWrittenAlike_j84 0 Q w (Int32.ofNat m) w' (Int32.ofNat m') M := fun z => by
    rw [eqQ_f z] at hQ
    have g142 : w_Works_isWrittenAlike_j139 0 Q w (Int32.ofNat m) w' (Int32.ofNat m') 0 M := by
      unfold w_Works_isWrittenAlike_j139
      refine ⟨1, ?_⟩
      unfold w_Works_isWrittenAlike_L142
      refine ⟨v 65 (by omega) (by omega), ?_⟩
      split
      · exact ⟨Or.inl rfl, hQ⟩
      · exact itp rfl ⟨Or.inl rfl, hQ⟩
    unfold w_Works_isWrittenAlike_j84 w_Works_isWrittenAlike_j85
    refine ⟨1, ?_⟩
    unfold w_Works_isWrittenAlike_L90
    refine ⟨v 63 (by omega) (by omega), ?_⟩
    split
    · exact g142
    · exact itp rfl g142
  unfold w_Works_isWrittenAlike
  refine ⟨v 57 (by omega) (by omega), v' 57 (by omega) (by omega), ?_⟩
  rw [oN_tnc (k := m) (by omega), oN_tnc (k := m') (by omega), r57, r57', r60, r60', r61, r61', r63, r63', r65, r65']
  by_cases c1 : x.2.2.2.1 = y.2.2.2.1
  · refine itp c1 ⟨v 60 (by omega) (by omega), v' 60 (by omega) (by omega), ?_⟩
    by_cases c2 : x.2.2.2.2.1 = y.2.2.2.2.1
    · refine itp c2 ⟨v 61 (by omega) (by omega), v' 61 (by omega) (by omega), ?_⟩
      by_cases c3 : x.2.2.2.2.2.1 = y.2.2.2.2.2.1
      · refine itp c3 ⟨v 63 (by omega) (by omega), v' 63 (by omega) (by omega), ?_⟩
        by_cases c4 : (co x).length = (co y).length
        · refine itp (by rw [c4]) ⟨v 65 (by omega) (by omega), v' 65 (by omega) (by omega), ?_⟩
          by_cases c5 : (hs x).length = (hs y).length
          · refine itp (by rw [c5]) ?_
            unfold w_Works_isWrittenAlike_j85
            exact ⟨(co x).length + 1, c_wa90 hA hx hy ⟨c1, c2, c3, c5⟩ c4 hQ _ 0 true (Nat.zero_le _) (by omega) ⟨fun _ j hj => absurd hj (by omega), fun _ => rfl⟩⟩
          · exact itn (ne_oN c5 (by omega) (by omega)) (no (fun z => c5 (by show (x.2.2.2.2.2.2.2).length = (y.2.2.2.2.2.2.2).length; rw [z])))
        · exact itn (ne_oN c4 (by omega) (by omega)) (no (fun z => c4 (by show (x.2.2.2.2.2.2.1).length = (y.2.2.2.2.2.2.1).length; rw [z])))
      · exact itn c3 (no (fun z => c3 (by rw [z])))
    · exact itn c2 (no (fun z => c2 (by rw [z])))
  · exact itn c1 (no (fun z => c1 (by rw [z])))
end
