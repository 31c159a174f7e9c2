/-! KINDS in the twin: what two kinds are together -/
theorem upC_W {W : List Cls} {c : Nat} (hB : BI W) : upC W c = upW W c := by
  unfold upC upW upN
  by_cases c0 : c = 0
  · rw [if_pos c0, if_pos c0]
  · rw [if_neg c0, if_neg c0]
    by_cases cf : isFc W c = true
    · rw [if_pos cf, if_pos cf]
      exact hB.fd (c := 0) (by omega)
    · rw [if_neg cf, if_neg cf]
/-- what the twin says of two kinds -/
def jt (A : List Nm) (W : List Cls) (a b : Kd) : Int32 := if a = b then kt A a else if rfK a = false ∨ rfK b = false then 0 else kt A (jnK W a b)
theorem rfK_kt {A : List Nm} {co : List Ins} {κ : Kd} (hκ : kwf A co κ) (hl : A.length ≤ 200000) (h : κ.1 ≠ -4) : kt A κ ≠ 0 := fun z => h ((kt_e (n := 0) (m := -4) hκ hl (Or.inl ⟨rfl, rfl⟩)).mp z)
theorem jnK_rf {W : List Cls} {a b : Kd} (hn : a ≠ b) (ha : rfK a = true) (hb : rfK b = true) : rfK (jnK W a b) = true := by
  unfold jnK
  rw [if_neg hn, ha, hb, if_neg (by decide)]
  by_cases c1 : a.1 = -1
  · rw [if_pos c1]; exact hb
  rw [if_neg c1]
  by_cases c2 : b.1 = -1
  · rw [if_pos c2]; exact ha
  rw [if_neg c2]
  split
  · rfl
  · split <;> rfl
theorem rfK_v {κ : Kd} (h : rfK κ = true) : κ.1 ≠ -4 ∧ κ.1 ≠ -2 := by
  unfold rfK at h
  rw [Bool.or_eq_true, Bool.or_eq_true, decide_eq_true_iff, decide_eq_true_iff, decide_eq_true_iff] at h
  omega
theorem jnK_ne {W : List Cls} {a b : Kd} (hn : a ≠ b) (h : rfK a = false ∨ rfK b = false) : jnK W a b = uns := by
  unfold jnK
  rw [if_neg hn, if_pos h]
section
variable {A : List Nm} {W : List Cls} {w : Nat} {M : Mem} {Q : Int32 → Mem → Prop} {co : List Ins} {a b : Kd}
theorem jt_loc (hw : kwf A co (jnK W a b)) (hwa : kwf A co a) (hl : A.length ≤ 200000) (ha : a.1 ≠ -4) : (if jt A W a b = 0 then 4 else jt A W a b) = kt A (jnK W a b) := by
  unfold jt
  by_cases c1 : a = b
  · have e : jnK W a b = a := by unfold jnK; rw [if_pos c1]
    rw [if_pos c1, e, if_neg (rfK_kt hwa hl ha)]
  · rw [if_neg c1]
    by_cases c2 : rfK a = false ∨ rfK b = false
    · rw [if_pos c2, if_pos rfl, jnK_ne c1 c2]; rfl
    · rw [if_neg c2]
      have hr := jnK_rf (W := W) c1 (by simpa using fun z => c2 (Or.inl z)) (by simpa using fun z => c2 (Or.inr z))
      rw [if_neg (rfK_kt hw hl (rfK_v hr).1)]
theorem jt_stk (hw : kwf A co (jnK W a b)) (hwa : kwf A co a) (hl : A.length ≤ 200000) (ha : a.1 ≠ -4 ∧ a.1 ≠ -2) : (jt A W a b = 0 ↔ jnK W a b = uns) ∧ (jt A W a b ≠ 0 → jt A W a b = kt A (jnK W a b)) := by
  unfold jt
  by_cases c1 : a = b
  · have e : jnK W a b = a := by unfold jnK; rw [if_pos c1]
    rw [if_pos c1, e]
    exact ⟨⟨fun z => absurd z (rfK_kt hwa hl ha.1), fun z => absurd (by rw [z]) ha.2⟩, fun _ => rfl⟩
  · rw [if_neg c1]
    by_cases c2 : rfK a = false ∨ rfK b = false
    · rw [if_pos c2, jnK_ne c1 c2]
      exact ⟨⟨fun _ => rfl, fun _ => rfl⟩, fun z => absurd rfl z⟩
    · rw [if_neg c2]
      have hr := jnK_rf (W := W) c1 (by simpa using fun z => c2 (Or.inl z)) (by simpa using fun z => c2 (Or.inr z))
      exact ⟨⟨fun z => absurd z (rfK_kt hw hl (rfK_v hr).1), fun z => absurd (by rw [z]) (rfK_v hr).2⟩, fun _ => rfl⟩
theorem ct_isUp {x y : Nat} (hw : mR M 11 0 45 = some (12, w)) (h : tCl A W w M) (hB : BI W) (hx : x < W.length) (hy : y < W.length) (hQ : Q (b2 (isUpB W x y)) M) : w_Model_isUp 0 (Int32.ofNat x) (Int32.ofNat y) Q M := by
  have hl := h.1.1.2.2.1
  unfold isUpB at hQ
  have loop : ∀ n j c, 51 - j < n → j ≤ 51 → c < W.length → Q (b2 (srch W (fun z => decide (z = x)) (51 - j) c).isSome) M → w_Model_isUp_L5 0 Q n (Int32.ofNat x) (Int32.ofNat c) (Int32.ofNat j) M := by
    intro n
    induction n with
    | zero => intro j c hn; exact absurd hn (by omega)
    | succ n ih =>
      intro j c hn hj hc hq
      unfold w_Model_isUp_L5
      refine itn (oN_nonneg (by omega)) ?_
      by_cases cj : 51 ≤ j
      · rw [show 51 - j = 0 by omega] at hq
        exact itp (le_oN (a := 51) cj (by omega)) hq
      refine itn (nle_oN (a := 51) (by omega) (by omega)) ?_
      rw [show 51 - j = (50 - j) + 1 by omega] at hq
      have hq : Q (b2 (if decide (c = x) = true then some c else match upC W c with | none => none | some y => srch W (fun z => decide (z = x)) (50 - j) y).isSome) M := hq
      by_cases c1 : c = x
      · rw [if_pos (decide_eq_true c1)] at hq
        exact itp (by rw [c1]) hq
      rw [if_neg (by simpa using c1), upC_W hB] at hq
      refine itn (ne_oN c1 (by omega) (by omega)) (ct_parentOf hw h hc ?_)
      rw [show Int32.ofNat j + (1 : Int32) = Int32.ofNat (j + 1) from oN_add j 1]
      cases e : upW W c with
      | none =>
        rw [e] at hq
        obtain ⟨n', en⟩ : ∃ n', n = n' + 1 := ⟨n - 1, by omega⟩
        rw [en]
        unfold w_Model_isUp_L5
        exact itp (show oC none < 0 by decide) hq
      | some y =>
        rw [e] at hq
        have hy : y < W.length := upC_lt ((upC_W hB).trans e)
        exact ih (j + 1) y (by omega) (by omega) hy (by rw [show 51 - (j + 1) = 50 - j by omega]; exact hq)
  unfold w_Model_isUp
  exact ⟨53, loop _ 0 y (by omega) (by omega) hy hQ⟩
theorem kt_sub {κ : Kd} (e : κ.1 = 2) : kt A κ - 16 = nc A κ.2 := by
  have e2 : kt A κ = Int32.ofNat (A.idxOf κ.2 + 16) := by unfold kt; rw [if_pos e]
  rw [e2, show Int32.ofNat (A.idxOf κ.2 + 16) - (16 : Int32) = Int32.ofNat (A.idxOf κ.2 + 16 - 16) from oN_sub (b := 16) (by omega), Nat.add_sub_cancel]
  rfl
theorem kt_cl2 {nm : Nm} : (16 : Int32) + nc A nm = kt A (2, nm) := by
  have e2 : kt A (2, nm) = Int32.ofNat (A.idxOf nm + 16) := by unfold kt; rw [if_pos rfl]
  rw [e2, Nat.add_comm]
  exact oN_add 16 _
theorem ct_joinedK (hw : mR M 11 0 45 = some (12, w)) (h : tCl A W w M) (hB : BI W) (hK : TKs A M) (hAl : A.length ≤ 200000) (ha : kwf A co a) (hb : kwf A co b) (hQ : kwf A co (jnK W a b) → Q (jt A W a b) M) : w_Model_joined 0 (kt A a) (kt A b) Q M := by
  have hl := h.1.1.2.2.1
  unfold w_Model_joined
  unfold jt at hQ
  by_cases c1 : a = b
  · have e : jnK W a b = a := by unfold jnK; rw [if_pos c1]
    rw [if_pos c1, e] at hQ
    exact itp (by rw [c1]) (hQ ha)
  rw [if_neg c1] at hQ
  refine itn (fun q => c1 ((kt_inw ha hb hAl).mp q)) (ct_isRef ha hAl ?_)
  cases e1 : rfK a with
  | false =>
    rw [e1, if_pos (Or.inl rfl), jnK_ne c1 (Or.inl e1)] at hQ
    exact itp rfl (hQ kwf_uns)
  | true =>
    refine itn (by decide) (ct_isRef hb hAl ?_)
    cases e2 : rfK b with
    | false =>
      rw [e2, if_pos (Or.inr rfl), jnK_ne c1 (Or.inr e2)] at hQ
      exact itp rfl (hQ kwf_uns)
    | true =>
      rw [e1, e2, if_neg (by decide)] at hQ
      refine itn (by decide) ?_
      unfold jnK at hQ
      rw [if_neg c1, e1, e2, if_neg (by decide)] at hQ
      have a3 := kt_e (n := 3) (m := -1) ha hAl (by omega)
      have b3 := kt_e (n := 3) (m := -1) hb hAl (by omega)
      have a2 := kt_e (n := 2) (m := 1) ha hAl (by omega)
      have b2' := kt_e (n := 2) (m := 1) hb hAl (by omega)
      unfold w_Model_joined_j33
      by_cases c2 : a.1 = -1
      · rw [if_pos c2] at hQ
        exact itp (a3.mpr c2) (itp (a3.mpr c2) (hQ hb))
      rw [if_neg c2] at hQ
      refine itn (fun q => c2 (a3.mp q)) ?_
      by_cases c3 : b.1 = -1
      · rw [if_pos c3] at hQ
        exact itp (b3.mpr c3) (itn (fun q => c2 (a3.mp q)) (hQ ha))
      rw [if_neg c3] at hQ
      refine itn (fun q => c3 (b3.mp q)) ?_
      have wT : kwf A co (2, nThing) := kwf_cls hK.thing.2
      rw [hK.thing.1, kt_cl2]
      by_cases c4 : a.1 = 1
      · rw [if_pos (Or.inl c4)] at hQ
        exact itp (a2.mpr c4) (hQ wT)
      refine itn (fun q => c4 (a2.mp q)) ?_
      by_cases c5 : b.1 = 1
      · rw [if_pos (Or.inr c5)] at hQ
        exact itp (b2'.mpr c5) (hQ wT)
      refine itn (fun q => c5 (b2'.mp q)) ?_
      rw [if_neg (fun q => q.elim c4 c5)] at hQ
      have rf : ∀ {κ : Kd}, rfK κ = true → κ.1 ≠ -1 → κ.1 ≠ 1 → κ.1 = 2 := fun {κ} q n1 n2 => by
        unfold rfK at q
        rw [Bool.or_eq_true, Bool.or_eq_true, decide_eq_true_iff, decide_eq_true_iff, decide_eq_true_iff] at q
        rcases q with q | q | q
        · exact absurd q n1
        · exact absurd q n2
        · exact q
      have a5 := rf e1 c2 c4
      have b5 := rf e2 c3 c5
      have am := ha.ok a5
      have bm := hb.ok b5
      rw [kt_sub a5, kt_sub b5]
      refine ct_classOf hw h.1 am (ct_classOf hw h.1 bm ?_)
      have no : ∀ (P : Prop), (kwf A co (2, nThing) → Q (kt A (2, nThing)) M) → Q ((16 : Int32) + mI M 11 0 8) M := fun _ q => by rw [hK.thing.1, kt_cl2]; exact q wT
      cases ea : fnd W a.2 with
      | none =>
        rw [ea] at hQ
        refine ⟨1, ?_⟩
        unfold w_Model_joined_L84
        exact itp (show oC none < 0 by decide) (no True hQ)
      | some x =>
        have hx := fnd_lt ea
        cases eb : fnd W b.2 with
        | none =>
          rw [ea, eb] at hQ
          refine ⟨1, ?_⟩
          unfold w_Model_joined_L84
          exact itn (show ¬ Int32.ofNat x < 0 from oN_nonneg (by omega)) (itp (show oC none < 0 by decide) (no True hQ))
        | some y =>
          have hy := fnd_lt eb
          rw [ea, eb] at hQ
          have hQ : kwf A co (2, jnC W x y) → Q (kt A (2, jnC W x y)) M := hQ
          unfold jnC at hQ
          have loop : ∀ n j z, 51 - j < n → j ≤ 51 → z < W.length → (kwf A co (2, match srch W (fun z => isUpB W z y) (51 - j) z with
            | some z => (gc W z).1
            | none => nThing) → Q (kt A (2, match srch W (fun z => isUpB W z y) (51 - j) z with
            | some z => (gc W z).1
            | none => nThing)) M) → w_Model_joined_L84 0 Q n (Int32.ofNat z) (Int32.ofNat y) (Int32.ofNat j) M := by
            intro n
            induction n with
            | zero => intro j z hn; exact absurd hn (by omega)
            | succ n ih =>
              intro j z hn hj hz hq
              unfold w_Model_joined_L84
              refine itn (oN_nonneg (by omega)) (itn (oN_nonneg (by omega)) ?_)
              by_cases cj : 51 ≤ j
              · rw [show 51 - j = 0 by omega] at hq
                exact itp (le_oN (a := 51) cj (by omega)) (no True hq)
              refine itn (nle_oN (a := 51) (by omega) (by omega)) (ct_isUp hw h hB hz hy ?_)
              rw [show 51 - j = (50 - j) + 1 by omega] at hq
              have es : srch W (fun z => isUpB W z y) ((50 - j) + 1) z = if isUpB W z y = true then some z else match upC W z with | none => none | some y' => srch W (fun z => isUpB W z y) (50 - j) y' := rfl
              rw [es] at hq
              cases e5 : isUpB W z y with
              | true =>
                rw [e5, if_pos rfl] at hq
                have hq : kwf A co (2, (gc W z).1) → Q (kt A (2, (gc W z).1)) M := hq
                obtain ⟨n1, n2⟩ := h.1.2 z hz
                refine itn (by decide) ⟨w, hw, ?_⟩
                rw [oN_tnc (k := z) (by omega), n1, kt_cl2]
                exact ⟨by rw [h.1.1.2.1]; exact (vp_oN (by omega)).mpr (by omega), hq (kwf_cls n2)⟩
              | false =>
                rw [e5, if_neg (by decide), upC_W hB] at hq
                refine itp rfl (ct_parentOf hw h hz ?_)
                rw [show Int32.ofNat j + (1 : Int32) = Int32.ofNat (j + 1) from oN_add j 1]
                cases e6 : upW W z with
                | none =>
                  rw [e6] at hq
                  obtain ⟨n', en⟩ : ∃ n', n = n' + 1 := ⟨n - 1, by omega⟩
                  rw [en]
                  unfold w_Model_joined_L84
                  exact itp (show oC none < 0 by decide) (no True hq)
                | some z' =>
                  rw [e6] at hq
                  exact ih (j + 1) z' (by omega) (by omega) (upC_lt ((upC_W hB).trans e6)) (by rw [show 51 - (j + 1) = 50 - j by omega]; exact hq)
          exact ⟨53, loop _ 0 x (by omega) (by omega) hx hQ⟩
end
