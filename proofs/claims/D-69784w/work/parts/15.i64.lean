/-! words of a text are of letters (the rest); DIFFER, works: members, instructions -/
theorem tks_w {p : Nat → Int32} {n : Nat} (hp : tend p n) : ∀ d a, n + 2 - a ≤ d → a ≤ n + 1 → ∀ t ∈ tks p n a, (t.1 = 2 ∨ t.1 = 3) → wcL t.2.1
  | 0, a, h1, h2 => absurd h1 (by omega)
  | d + 1, a, h1, h2 => by
    intro t ht
    rw [tks_eq hp h2] at ht
    have hl : ((lex p n a).1.1 = 2 ∨ (lex p n a).1.1 = 3) → wcL (lex p n a).1.2.1 := lex1_w hp
    split at ht
    · rw [List.mem_singleton.1 ht]; exact hl
    · rename_i c
      obtain ⟨-, hx⟩ := lex_ok hp h2
      obtain ⟨x1, x2⟩ := hx (by omega)
      rcases List.mem_cons.1 ht with e | e
      · rw [e]; exact hl
      · exact tks_w hp d _ (by omega) (by omega) t e
theorem lnsF_w {p : Nat → Int32} {n : Nat} (hp : tend p n) : ∀ f a, a ≤ n → ∀ l ∈ lnsF p n f a, okN l
  | 0, a, h => fun l hl => by cases hl
  | f + 1, a, h => by
    obtain ⟨n1, n2, n3, n4⟩ := nl_ok hp h
    have ho : okN (full (nl p n a) (tks p n a)) := fun t ht => by
      rcases full_mem ht with e | e
      · exact tks_w hp _ a (Nat.le_refl _) (by omega) t e
      · rw [e]; intro z; exact absurd z (by simp)
    have rest : ∀ l ∈ (if nl p n a + 1 < n then lnsF p n f (nl p n a + 1) else []), okN l := by
      split
      · exact lnsF_w hp f _ (by omega)
      · exact fun l hl => by cases hl
    unfold lnsF
    split
    · exact rest
    · intro l hl2
      rcases List.mem_cons.1 hl2 with e | e
      · rw [e]; exact ho
      · exact rest l e
theorem lns_w {p : Nat → Int32} {n : Nat} (hp : tend p n) : ∀ l ∈ lns p n 0, okN l := lnsF_w hp _ 0 (Nat.zero_le _)
def six : List Kd := [(0, []), (1, []), (-4, []), (-1, []), (-2, []), (-3, [])]
def kQ (κ : Kd) : Prop := κ ∈ six ∨ κ.1 = 2
theorem six_inj : ∀ a ∈ six, ∀ b ∈ six, Int32.ofInt a.1 = Int32.ofInt b.1 → a = b := by decide
theorem six_lt : ∀ a ∈ six, (Int32.ofInt a.1).toInt < 2 ∧ a.1 ≠ 2 := by decide
theorem kC_injQ {A : List Nm} {a b : Kd} (hA : A.length ≤ 200000) (ha : kQ a) (hb : kQ b) (ka : kok A a) (kb : kok A b) : kC A a = kC A b ↔ a = b := by
  refine ⟨fun h => ?_, fun h => by rw [h]⟩
  have sm : ∀ {κ : Kd}, κ ∈ six → kC A κ = Int32.ofInt κ.1 := fun hκ => by
    unfold kC; rw [if_neg (six_lt _ hκ).2]
  have bg : ∀ {κ : Kd}, κ.1 = 2 → kok A κ → kC A κ = Int32.ofNat (A.idxOf κ.2 + 2) ∧ A.idxOf κ.2 < A.length := fun h1 h2 => ⟨by unfold kC; rw [if_pos h1], List.idxOf_lt_length_iff.mpr (h2 h1)⟩
  rcases ha with ha | ha <;> rcases hb with hb | hb
  · rw [sm ha, sm hb] at h; exact six_inj a ha b hb h
  · obtain ⟨e, l⟩ := bg hb kb
    rw [sm ha, e] at h
    have := (six_lt a ha).1
    rw [h, oN_toInt (by omega)] at this
    omega
  · obtain ⟨e, l⟩ := bg ha ka
    rw [sm hb, e] at h
    have := (six_lt b hb).1
    rw [← h, oN_toInt (by omega)] at this
    omega
  · obtain ⟨e, l⟩ := bg ha ka
    obtain ⟨e', l'⟩ := bg hb kb
    rw [e, e'] at h
    have h := (oN_inj (by omega) (by omega)).1 h
    have h2 := idx_at (ka ha)
    have h3 := idx_at (kb hb)
    rw [show A.idxOf a.2 = A.idxOf b.2 by omega, h3] at h2
    injection h2 with h2
    exact Prod.ext (by rw [ha, hb]) h2.symm
theorem kNf_Q {κ : Kd} (h : kNf κ) : kQ κ := by
  by_cases e : κ.1 = 2
  · exact Or.inr e
  · exact Or.inl (kNf_6 h e)
theorem gk_extQ {a b : List Kd} (hl : a.length = b.length) (h : ∀ i, i < a.length → gk a i = gk b i) : a = b := by
  apply List.ext_getElem hl
  intro i h1 h2
  have := h i h1
  rw [show gk a i = a[i] by show a.getD i _ = _; rw [List.getD_eq_getElem?_getD, List.getElem?_eq_getElem h1]; rfl, show gk b i = b[i] by show b.getD i _ = _; rw [List.getD_eq_getElem?_getD, List.getElem?_eq_getElem h2]; rfl] at this
  exact this
section
variable {A : List Nm} {w w' r r' : Nat} {k k' m m' : Nm} {ks ks' : List Kd} {κ κ' : Kd} {M : Mem} {Q : Int32 → Mem → Prop}
theorem c_smL (hA : A.length ≤ 200000) (h : cRf A w r k m ks κ M) (h' : cRf A w' r' k' m' ks' κ' M) (hL : cRm w M) (hL' : cRm w' M) (hr : 4 * r + 3 < L76 w ∧ 6 * r + 6 ≤ L212 w) (hr' : 4 * r' + 3 < L76 w' ∧ 6 * r' + 6 ≤ L212 w') (hq : ∀ κ ∈ ks, kQ κ) (hq' : ∀ κ ∈ ks', kQ κ) (hl : ks.length = ks'.length) (h6 : ks.length ≤ 6) (hQ : Q (b2 (decide (ks = ks'))) M) : ∀ n j (b : Bool), j ≤ ks.length → ks.length - j < n → (b = true ↔ ∀ i, i < j → gk ks i = gk ks' i) → w_Works_isSameMember_L66 0 Q n w (Int32.ofNat r) w' (Int32.ofNat r') (b2 b) (Int32.ofNat j) M
  | 0, j, b, hj, hn, hb => absurd hn (by omega)
  | n + 1, j, b, hj, hn, hb => by
    have l1 := L_le w
    have l2 := L_le w'
    have bb : b2 b = 0 ∨ b2 b = 1 := by cases b <;> simp [b2]
    unfold w_Works_isSameMember_L66
    refine c_refArguments h hL hr.1 ?_
    by_cases e : j = ks.length
    · refine itp (by rw [e]; exact le_oN (Nat.le_refl _) (by omega)) ⟨bb, ?_⟩
      have eb : b = decide (ks = ks') := by
        by_cases z : ks = ks'
        · rw [decide_eq_true z]; exact hb.2 (fun i _ => by rw [z])
        · rw [decide_eq_false z]
          cases b with
          | false => rfl
          | true => exact absurd (gk_extQ hl (fun i hi => hb.1 rfl i (by omega))) z
      rw [eb]; exact hQ
    refine itn (nle_oN (by omega) (by omega)) ?_
    cases b with
    | false =>
      refine itp rfl ⟨Or.inl rfl, ?_⟩
      have : ks ≠ ks' := fun z => by
        have := hb.2 (fun i _ => by rw [z])
        cases this
      rw [decide_eq_false this] at hQ
      exact hQ
    | true =>
      refine itn (by decide) ?_
      obtain ⟨a1, a2⟩ := h.2.2.2.2 j (by omega) (by omega)
      obtain ⟨b1, b2'⟩ := h'.2.2.2.2 j (by omega) (by omega)
      rw [lit32 6, oN_mul, oN_mul, oN_add, oN_add, hL.2.2.2.2.2.1, hL'.2.2.2.2.2.1, oN_tnc (k := 6 * r + j) (by omega), oN_tnc (k := 6 * r' + j) (by omega), a1, b1]
      refine ⟨(vp_oN (by omega)).mpr (by omega), (vp_oN (by omega)).mpr (by omega), ?_⟩
      have key := kC_injQ hA (hq _ (gk_mem (ks := ks) (i := j) (by omega))) (hq' _ (gk_mem (ks := ks') (i := j) (by omega))) a2 b2'
      unfold w_Works_isSameMember_j114
      rw [lit32 1, oN_add]
      by_cases c : gk ks j = gk ks' j
      · refine itp (key.2 c) (c_smL hA h h' hL hL' hr hr' hq hq' hl h6 hQ n (j + 1) true (by omega) (by omega) ⟨fun _ i hi => ?_, fun _ => rfl⟩)
        by_cases ei : i = j
        · rw [ei]; exact c
        · exact hb.1 rfl i (by omega)
      · refine itn (fun z => c (key.1 z)) (c_smL hA h h' hL hL' hr hr' hq hq' hl h6 hQ n (j + 1) false (by omega) (by omega) ⟨fun z => (by cases z), fun z => absurd (z j (by omega)) c⟩)
theorem c_sameMember (hA : A.length ≤ 200000) (h : cRf A w r k m ks κ M) (h' : cRf A w' r' k' m' ks' κ' M) (hL : cRm w M) (hL' : cRm w' M) (hr : 4 * r + 3 < L76 w ∧ 6 * r + 6 ≤ L212 w) (hr' : 4 * r' + 3 < L76 w' ∧ 6 * r' + 6 ≤ L212 w') (hq : ∀ κ ∈ ks, kQ κ) (hq' : ∀ κ ∈ ks', kQ κ) (hk : kQ κ) (hk' : kQ κ') (h6 : ks.length ≤ 6) (h6' : ks'.length ≤ 6) (hQ : Q (b2 (decide (k = k' ∧ m = m' ∧ κ = κ' ∧ ks = ks'))) M) : w_Works_isSameMember 0 w (Int32.ofNat r) w' (Int32.ofNat r') Q M := by
  have no : ¬ (k = k' ∧ m = m' ∧ κ = κ' ∧ ks = ks') → w_Works_isSameMember_j60 0 Q w (Int32.ofNat r) w' (Int32.ofNat r') M := fun z => by
    rw [decide_eq_false z] at hQ
    unfold w_Works_isSameMember_j60 w_Works_isSameMember_j61
    refine ⟨1, ?_⟩
    unfold w_Works_isSameMember_L66
    refine c_refArguments h hL hr.1 ?_
    by_cases c : Int32.ofNat ks.length ≤ 0
    · exact itp c ⟨Or.inl rfl, hQ⟩
    · exact itn c (itp rfl ⟨Or.inl rfl, hQ⟩)
  have i1 := nc_inj (A := A) (by omega) h.1.2 h'.1.2
  have i2 := nc_inj (A := A) (by omega) h.2.1.2 h'.2.1.2
  have i3 := kC_injQ hA hk hk' h.2.2.1.2 h'.2.2.1.2
  unfold w_Works_isSameMember
  refine c_refClass h hL hr.1 (c_refClass h' hL' hr'.1 ?_)
  by_cases c1 : k = k'
  · refine itp (i1.2 c1) (c_refName h hL hr.1 (c_refName h' hL' hr'.1 ?_))
    by_cases c2 : m = m'
    · refine itp (i2.2 c2) (c_refType h hL hr.1 (c_refType h' hL' hr'.1 ?_))
      by_cases c3 : κ = κ'
      · refine itp (i3.2 c3) (c_refArguments h hL hr.1 (c_refArguments h' hL' hr'.1 ?_))
        by_cases c4 : ks.length = ks'.length
        · refine itp (by rw [c4]) ?_
          unfold w_Works_isSameMember_j61
          refine ⟨ks.length + 1, c_smL hA h h' hL hL' hr hr' hq hq' c4 h6 ?_ _ 0 true (Nat.zero_le _) (by omega) ⟨fun _ i hi => absurd hi (by omega), fun _ => rfl⟩⟩
          have : decide (k = k' ∧ m = m' ∧ κ = κ' ∧ ks = ks') = decide (ks = ks') := by simp [c1, c2, c3]
          rw [this] at hQ; exact hQ
        · exact itn (ne_oN c4 (by omega) (by omega)) (no (fun z => c4 (by rw [z.2.2.2])))
      · exact itn (fun z => c3 (i3.1 z)) (no (fun z => c3 z.2.2.1))
    · exact itn (fun z => c2 (i2.1 z)) (no (fun z => c2 z.2.1))
  · exact itn (fun z => c1 (i1.1 z)) (no (fun z => c1 z.1))
end
