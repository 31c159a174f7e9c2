/-! KINDS in the works: what two kinds are together -/
/-- the search, from a name on -/
def uSr (W : List Cls) (P : Nat → Bool) (n : Nat) (z : Nm) : Option Nat := match fnd W z with
  | none => none
  | some c => srch W P n c
theorem uSr_0 {W : List Cls} {P : Nat → Bool} {z : Nm} : uSr W P 0 z = none := by
  unfold uSr
  cases fnd W z <;> rfl
theorem uSr_s {W : List Cls} {P : Nat → Bool} {n c : Nat} {z : Nm} (h : fnd W z = some c) : uSr W P (n + 1) z = if P c = true then some c else if c = 0 then none else uSr W P n (upN W c) := by
  unfold uSr
  rw [h]
  show (if P c = true then some c else _) = _
  by_cases c1 : P c = true
  · rw [if_pos c1, if_pos c1]
  · rw [if_neg c1, if_neg c1]
    unfold upC
    by_cases c2 : c = 0
    · rw [if_pos c2, if_pos c2]
    · rw [if_neg c2, if_neg c2]
      cases fnd W (upN W c) <;> rfl
theorem uSr_n {W : List Cls} {P : Nat → Bool} {n : Nat} {z : Nm} (h : fnd W z = none) : uSr W P n z = none := by unfold uSr; rw [h]
section
variable {A : List Nm} {W : List Cls} {w this : Nat} {M : Mem} {Q : Int32 → Mem → Prop}
theorem c_isUp {nm : Nm} {x y : Nat} (hr : mR M 4 this 4 = some (5, w)) (h : cCl A W w M) (hA : nA A) (hm : nm ∈ A) (hy : fnd W nm = some y) (hx : x < W.length) (hQ : Q (b2 (isUpB W x y)) M) : w_Checker_isUp this (nc A nm) (Int32.ofNat x) Q M := by
  have hl := h.1.1.2.2.1
  have hyl := fnd_lt hy
  have e1 : isUpB W x y = (uSr W (fun z => decide (z = x)) (W.length + 1 - 0) nm).isSome := by
    unfold isUpB uSr
    rw [hy]
    show (srch W _ 51 y).isSome = (srch W _ (W.length + 1 - 0) y).isSome
    rw [srch_eq hyl hl (show W.length ≤ W.length + 1 - 0 by omega)]
  rw [e1] at hQ
  have loop : ∀ n j z v, W.length + 1 - j < n → j ≤ W.length + 1 → ((v = nc A z ∧ z ∈ A) ∨ (v = pcC A z ∧ (z = [] ∨ z ∈ A))) → Q (b2 (uSr W (fun z => decide (z = x)) (W.length + 1 - j) z).isSome) M → w_Checker_isUp_L5 this Q n (Int32.ofNat x) v (Int32.ofNat j) M := by
    intro n
    induction n with
    | zero => intro j z v hn; exact absurd hn (by omega)
    | succ n ih =>
      intro j z v hn hj hv hq
      unfold w_Checker_isUp_L5
      refine ⟨w, hr, ?_⟩
      rw [h.1.1.1]
      by_cases cj : W.length < j
      · rw [show W.length + 1 - j = 0 by omega, uSr_0] at hq
        exact itp (lt_oN cj (by omega)) hq
      refine itn (nlt_oN (by omega) (by omega)) ⟨w, hr, ?_⟩
      rw [show W.length + 1 - j = (W.length - j) + 1 by omega] at hq
      have key : ∀ (R : Int32 → Mem → Prop), R (oC (fnd W z)) M → w_World_find w v R M := fun R hR => by
        rcases hv with ⟨e, m⟩ | ⟨e, m⟩
        · rw [e]; exact c_find h.1 m hR
        · rw [e]; exact c_findP h m hR
      refine key _ ?_
      cases e : fnd W z with
      | none =>
        rw [uSr_n e] at hq
        exact itn (fun q => absurd (show (0 : Int32) ≤ -2 from by rw [show (-2 : Int32) = Int32.ofNat x from q]; exact oN_zero_le (by omega)) (by decide)) (itn (by show ¬ (0 : Int32) < -2; decide) hq)
      | some c' =>
        have hc := fnd_lt e
        rw [uSr_s e] at hq
        by_cases c1 : c' = x
        · rw [if_pos (decide_eq_true c1)] at hq
          exact itp (by rw [c1]; rfl) hq
        rw [if_neg (by simpa using c1)] at hq
        refine itn (ne_oN c1 (by omega) (by omega)) ?_
        by_cases c2 : c' = 0
        · rw [if_pos c2] at hq
          exact itn (by rw [c2]; show ¬ (0 : Int32) < Int32.ofNat 0; decide) hq
        rw [if_neg c2] at hq
        refine itp (lt_oN (a := 0) (by omega) (by omega)) ⟨w, hr, c_upName h hA hc (fun v' hv' _ => ?_)⟩
        rw [show Int32.ofNat j + (1 : Int32) = Int32.ofNat (j + 1) from oN_add j 1]
        exact ih (j + 1) (upN W c') v' (by omega) (by omega) hv' (by rw [show W.length + 1 - (j + 1) = W.length - j by omega]; exact hq)
  unfold w_Checker_isUp
  exact ⟨W.length + 2, loop _ 0 nm _ (by omega) (by omega) (Or.inl ⟨rfl, hm⟩) hQ⟩
theorem kC_sub {κ : Kd} (e : κ.1 = 2) : kC A κ - 2 = nc A κ.2 := by
  unfold kC nc
  rw [if_pos e]
  exact oN_sub (b := 2) (by omega)
theorem c_joinedK {co : List Ins} {a b : Kd} (hr : mR M 4 this 4 = some (5, w)) (h : cCl A W w M) (hA : nA A) (ha : kwf A co a) (hb : kwf A co b) (hQ : kwf A co (jnK W a b) → Q (kC A (jnK W a b)) M) : w_Checker_joined this (kC A a) (kC A b) Q M := by
  have hl := h.1.1.2.2.1
  have hAl := hA.1
  have ra := ha.rg
  have rb := hb.rg
  unfold w_Checker_joined
  unfold jnK at hQ
  by_cases c1 : a = b
  · rw [if_pos c1] at hQ
    exact itp (by rw [c1]) (hQ ha)
  rw [if_neg c1] at hQ
  refine itn (fun q => c1 ((kC_inw ha hb hAl).mp q)) (c_isReference ha hAl ?_)
  cases e1 : rfK a with
  | false =>
    rw [e1, if_pos (Or.inl rfl)] at hQ
    exact itp rfl (hQ kwf_uns)
  | true =>
    refine itn (by decide) (c_isReference hb hAl ?_)
    cases e2 : rfK b with
    | false =>
      rw [e2, if_pos (Or.inr rfl)] at hQ
      exact itp rfl (hQ kwf_uns)
    | true =>
      rw [e1, e2, if_neg (by decide)] at hQ
      refine itn (by decide) ?_
      unfold w_Checker_joined_j34
      by_cases c2 : a.1 = -1
      · rw [if_pos c2] at hQ
        exact itp ((kC_eq (n := -1) ha hAl (by omega)).mpr c2) (itp ((kC_eq (n := -1) ha hAl (by omega)).mpr c2) (hQ hb))
      rw [if_neg c2] at hQ
      refine itn (fun q => c2 ((kC_eq (n := -1) ha hAl (by omega)).mp q)) ?_
      by_cases c3 : b.1 = -1
      · rw [if_pos c3] at hQ
        exact itp ((kC_eq (n := -1) hb hAl (by omega)).mpr c3) (itn (fun q => c2 ((kC_eq (n := -1) ha hAl (by omega)).mp q)) (hQ ha))
      rw [if_neg c3] at hQ
      refine itn (fun q => c3 ((kC_eq (n := -1) hb hAl (by omega)).mp q)) ?_
      unfold w_Works_kindOf
      have eT : (81 : Int32) + 2 = kC A (2, nThing) := by
        rw [← hA.thing.1]; exact oN_add _ 2
      have wT : kwf A co (2, nThing) := kwf_cls hA.thing.2
      rw [eT]
      by_cases c4 : a.1 = 1
      · rw [if_pos (Or.inl c4)] at hQ
        exact itp ((kC_eq (n := 1) ha hAl (by omega)).mpr c4) (hQ wT)
      refine itn (fun q => c4 ((kC_eq (n := 1) ha hAl (by omega)).mp q)) ?_
      by_cases c5 : b.1 = 1
      · rw [if_pos (Or.inr c5)] at hQ
        exact itp ((kC_eq (n := 1) hb hAl (by omega)).mpr c5) (hQ wT)
      refine itn (fun q => c5 ((kC_eq (n := 1) hb hAl (by omega)).mp q)) ?_
      rw [if_neg (fun q => q.elim c4 c5)] at hQ
      have rf : ∀ {κ : Kd}, rfK κ = true → κ.1 ≠ -1 → κ.1 ≠ 1 → κ.1 = 2 := fun {κ} q n1 n2 => by
        unfold rfK at q
        rw [Bool.or_eq_true, Bool.or_eq_true, decide_eq_true_iff, decide_eq_true_iff, decide_eq_true_iff] at q
        rcases q with q | q | q
        · exact absurd q n1
        · exact absurd q n2
        · exact q
      have a2 := rf e1 c2 c4
      have b2' := rf e2 c3 c5
      have am := ha.ok a2
      have bm := hb.ok b2'
      rw [kC_sub a2, kC_sub b2']
      refine ⟨w, hr, c_find h.1 am ?_⟩
      cases ea : fnd W a.2 with
      | none =>
        rw [ea] at hQ
        exact itp (show oC none < 0 by decide) (hQ wT)
      | some x =>
        have hx := fnd_lt ea
        refine itn (show ¬ Int32.ofNat x < 0 from nlt_oN (b := 0) (by omega) (by omega)) ⟨w, hr, c_find h.1 bm ?_⟩
        cases eb : fnd W b.2 with
        | none =>
          rw [ea, eb] at hQ
          exact itn (show ¬ 0 ≤ oC none by decide) (hQ wT)
        | some y =>
          have hy := fnd_lt eb
          rw [ea, eb] at hQ
          refine itp (show 0 ≤ Int32.ofNat y from oN_zero_le (by omega)) ⟨W.length + 2, ?_⟩
          have hQ : kwf A co (2, jnC W x y) → Q (kC A (2, jnC W x y)) M := hQ
          have e3 : jnC W x y = match uSr W (fun z => isUpB W z y) (W.length + 1 - 0) a.2 with
            | some z => (gc W z).1
            | none => nThing := by
            unfold jnC uSr
            rw [ea]
            show (match srch W _ 51 x with | some z => (gc W z).1 | none => nThing) = (match srch W _ (W.length + 1 - 0) x with | some z => (gc W z).1 | none => nThing)
            rw [srch_eq hx hl (show W.length ≤ W.length + 1 - 0 by omega)]
          rw [e3] at hQ
          clear e3
          have loop : ∀ n j z v, W.length + 1 - j < n → j ≤ W.length + 1 → ((v = nc A z ∧ z ∈ A) ∨ (v = pcC A z ∧ (z = [] ∨ z ∈ A))) → (kwf A co (2, match uSr W (fun z => isUpB W z y) (W.length + 1 - j) z with
            | some z => (gc W z).1
            | none => nThing) → Q (kC A (2, match uSr W (fun z => isUpB W z y) (W.length + 1 - j) z with
            | some z => (gc W z).1
            | none => nThing)) M) → w_Checker_joined_L97 this Q n (kC A b) (kC A (2, nThing)) v (Int32.ofNat j) M := by
            intro n
            induction n with
            | zero => intro j z v hn; exact absurd hn (by omega)
            | succ n ih =>
              intro j z v hn hj hv hq
              unfold w_Checker_joined_L97
              refine ⟨w, hr, ?_⟩
              rw [h.1.1.1]
              by_cases cj : W.length < j
              · rw [show W.length + 1 - j = 0 by omega, uSr_0] at hq
                exact itp (lt_oN cj (by omega)) (hq wT)
              refine itn (nlt_oN (by omega) (by omega)) ⟨w, hr, ?_⟩
              rw [show W.length + 1 - j = (W.length - j) + 1 by omega] at hq
              have key : ∀ (R : Int32 → Mem → Prop), R (oC (fnd W z)) M → w_World_find w v R M := fun R hR => by
                rcases hv with ⟨e, m⟩ | ⟨e, m⟩
                · rw [e]; exact c_find h.1 m hR
                · rw [e]; exact c_findP h m hR
              refine key _ ?_
              cases e : fnd W z with
              | none =>
                rw [uSr_n e] at hq
                exact itn (show ¬ 0 ≤ oC none by decide) (hq wT)
              | some c' =>
                have hc := fnd_lt e
                have ez := fnd_name e
                rw [uSr_s e] at hq
                rw [kC_sub b2']
                refine itp (show 0 ≤ Int32.ofNat c' from oN_zero_le (by omega)) (c_isUp hr h hA bm eb hc ?_)
                cases e5 : isUpB W c' y with
                | true =>
                  rw [e5, if_pos rfl] at hq
                  have hz : z ≠ [] := by rw [← ez]; exact (h.2.2 c' hc).1.2.2
                  have hzv : v = nc A z ∧ z ∈ A := by
                    rcases hv with q | ⟨q1, q2⟩
                    · exact q
                    · refine ⟨by rw [q1]; unfold pcC; rw [if_neg hz], q2.resolve_left hz⟩
                  have hq : kwf A co (2, (gc W c').1) → Q (kC A (2, (gc W c').1)) M := hq
                  rw [ez] at hq
                  unfold w_Works_kindOf
                  rw [hzv.1, show nc A z + 2 = kC A (2, z) from oN_add _ 2]
                  exact itn (by decide) (hq (kwf_cls hzv.2))
                | false =>
                  rw [e5, if_neg (by decide)] at hq
                  refine itp rfl ?_
                  by_cases c6 : c' = 0
                  · rw [if_pos c6] at hq
                    exact itp (by rw [c6]; rfl) (hq wT)
                  rw [if_neg c6] at hq
                  refine itn (show ¬ Int32.ofNat c' = 0 from ne_oN (b := 0) c6 (by omega) (by omega)) ⟨w, hr, c_upName h hA hc (fun v' hv' _ => ?_)⟩
                  rw [show Int32.ofNat j + (1 : Int32) = Int32.ofNat (j + 1) from oN_add j 1]
                  exact ih (j + 1) (upN W c') v' (by omega) (by omega) hv' (by rw [show W.length + 1 - (j + 1) = W.length - j by omega]; exact hq)
          exact loop _ 0 a.2 _ (by omega) (by omega) (Or.inl ⟨rfl, am⟩) hQ
end
