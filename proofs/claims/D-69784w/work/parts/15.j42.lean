/-! THE OPERATION least: SPEC, and whether a trial is needless, in the works -/
def oAny (p : Trl → Bool) (T : List Trl) (t n : Nat) : Bool := (List.range n).any (fun o => !(o == t) && p (gTr T o))
noncomputable def nlM (T : List Trl) (t n : Nat) : Bool := (metN (gTr T t) == 0) || oAny (fun L => metN L == metN (gTr T t)) T t n
noncomputable def nlB (T : List Trl) (t k : Nat) : Bool := nlM T t T.length && (List.range k).all (fun b => !fnB (gTr T t) (Int32.ofNat (2 ^ b)) || oAny (fun L => fnB L (Int32.ofNat (2 ^ b))) T t T.length)
noncomputable def neL (T : List Trl) (t : Nat) : Bool := nlB T t 8
noncomputable def leaF : Nat → List Trl → List Trl
  | 0, T => T
  | k + 1, T => leaF k (if neL T k = true then T.eraseIdx k else T)
section
variable {BB A : List Nm} {B F t b : Nat} {T : List Trl} {L : Trl} {M M' : Mem} {Q : Int32 → Mem → Prop} {X : Mem → Prop} {a c d v : Int32} {p : Trl → Bool}
theorem oAny_s {n : Nat} : oAny p T t (n + 1) = (oAny p T t n || (!(n == t) && p (gTr T n))) := by
  unfold oAny
  rw [List.range_succ, List.any_append, List.any_cons, List.any_nil, Bool.or_false]
theorem oAny_up {n m : Nat} (h : oAny p T t n = true) (hm : n ≤ m) : oAny p T t m = true := by
  unfold oAny at *
  rw [List.any_eq_true] at *
  obtain ⟨i, h1, h2⟩ := h
  exact ⟨i, List.mem_range.mpr (by have := List.mem_range.mp h1; omega), h2⟩
theorem oAny_t : (!(t == t) && p (gTr T t)) = false := by rw [beq_self_eq_true]; rfl
theorem oAny_o {o : Nat} (h : o ≠ t) : (!(o == t) && p (gTr T o)) = p (gTr T o) := by rw [beq_eq_false_iff_ne.mpr h]; rfl
theorem nlB_s {k : Nat} : nlB T t (k + 1) = (nlB T t k && (!fnB (gTr T t) (Int32.ofNat (2 ^ k)) || oAny (fun L => fnB L (Int32.ofNat (2 ^ k))) T t T.length)) := by
  unfold nlB
  rw [List.range_succ, List.all_append, List.all_cons, List.all_nil, Bool.and_true, Bool.and_assoc]
theorem nlB_dn {k m : Nat} (h : nlB T t k = false) (hm : k ≤ m) : nlB T t m = false := by
  induction m with
  | zero => rw [show 0 = k by omega]; exact h
  | succ m ih =>
    by_cases e : k = m + 1
    · rw [← e]; exact h
    · rw [nlB_s, ih (by omega), Bool.false_and]
theorem c_isNeedless (h : WkT BB A B F T M) (ht : t < T.length) (hF : F < 1000000) (hCF : 601 < F) (hQ : ∀ A' M', A <+: A' → WkT BB A' B F T M' → Q (b2 (neL T t)) M') : w_Works_isNeedless 0 (Int32.ofNat t) Q X M := by
  have h40 := h.n
  -- breaks
  have l63 : ∀ n k A1 M1, 8 - k < n → k ≤ 8 → A <+: A1 → WkT BB A1 B F T M1 → w_Works_isNeedless_L63 0 Q X n (Int32.ofNat t) (b2 (nlB T t k)) (Int32.ofNat k) M1 := by
    intro n
    induction n with
    | zero => intro k A1 M1 z; exact absurd z (by omega)
    | succ n ih =>
      intro k A1 M1 hn hk p1 p2
      unfold w_Works_isNeedless_L63
      have b01 : ∀ x : Bool, b2 x = 0 ∨ b2 x = 1 := fun x => by cases x; exact Or.inl rfl; exact Or.inr rfl
      by_cases e8 : k = 8
      · subst e8
        exact itp (by decide) ⟨b01 _, hQ A1 M1 p1 p2⟩
      refine itn (nle_oN (a := 8) (by omega) (by omega)) ?_
      cases eb : nlB T t k with
      | false =>
        refine itp rfl ⟨Or.inl rfl, ?_⟩
        have := hQ A1 M1 p1 p2
        rw [show neL T t = false from nlB_dn eb (by omega)] at this
        exact this
      | true =>
        refine itn (by decide) ?_
        have hp : 2 ^ k < 256 := by
          have : 2 ^ k ≤ 2 ^ 7 := Nat.pow_le_pow_right (by decide) (by omega)
          omega
        rw [shl_k k (by omega)]
        refine c_finds0 p2 ht hp hF hCF (fun A2 M2 p3 p4 => ?_)
        have j144 : ∀ x A3 M3, x = nlB T t (k + 1) → A <+: A3 → WkT BB A3 B F T M3 → w_Works_isNeedless_j144 0 Q X (w_Works_isNeedless_L63 0 Q X n) (Int32.ofNat t) (b2 x) (Int32.ofNat k) M3 := fun x A3 M3 ex g1 g2 => by
          unfold w_Works_isNeedless_j144
          rw [lit32 1, oN_add, ex]
          exact ih (k + 1) A3 M3 (by omega) (by omega) g1 g2
        cases ef : fnB (gTr T t) (Int32.ofNat (2 ^ k)) with
        | false =>
          exact itp rfl (j144 true A2 M2 (by rw [nlB_s, eb, ef]; rfl) (p1.trans p3) p4)
        | true =>
          refine itn (by decide) ⟨T.length + 1, ?_⟩
          have es : nlB T t (k + 1) = oAny (fun L => fnB L (Int32.ofNat (2 ^ k))) T t T.length := by rw [nlB_s, eb, ef]; rfl
          have l95 : ∀ m o A3 M3, T.length - o < m → o ≤ T.length → A <+: A3 → WkT BB A3 B F T M3 → w_Works_isNeedless_L95 0 Q X (w_Works_isNeedless_L63 0 Q X n) m (Int32.ofNat t) (Int32.ofNat k) (b2 (oAny (fun L => fnB L (Int32.ofNat (2 ^ k))) T t o)) (Int32.ofNat o) M3 := by
            intro m
            induction m with
            | zero => intro o A3 M3 z; exact absurd z (by omega)
            | succ m im =>
              intro o A3 M3 hm ho g1 g2
              unfold w_Works_isNeedless_L95
              rw [g2.n.1]
              by_cases eo : o = T.length
              · subst eo
                refine itp (le_oN (Nat.le_refl _) (by omega)) ?_
                unfold w_Works_isNeedless_j141
                exact j144 _ A3 M3 es.symm g1 g2
              refine itn (nle_oN (by omega) (by omega)) ?_
              cases ea : oAny (fun L => fnB L (Int32.ofNat (2 ^ k))) T t o with
              | true =>
                refine itn (by decide) ?_
                unfold w_Works_isNeedless_j141
                exact j144 true A3 M3 (by rw [es]; exact (oAny_up ea ho).symm) g1 g2
              | false =>
                refine itp rfl ?_
                have nx : ∀ x A4 M4, x = oAny (fun L => fnB L (Int32.ofNat (2 ^ k))) T t (o + 1) → A <+: A4 → WkT BB A4 B F T M4 → w_Works_isNeedless_j133 0 Q X (w_Works_isNeedless_L63 0 Q X n) (w_Works_isNeedless_L95 0 Q X (w_Works_isNeedless_L63 0 Q X n) m) (Int32.ofNat t) (Int32.ofNat k) (Int32.ofNat o) (b2 x) M4 := fun x A4 M4 ex g3 g4 => by
                  unfold w_Works_isNeedless_j133
                  rw [lit32 1, oN_add, ex]
                  exact im (o + 1) A4 M4 (by omega) (by omega) g3 g4
                rw [oAny_s, ea, Bool.false_or] at nx
                by_cases eot : o = t
                · refine itp (by rw [eot]) ?_
                  unfold w_Works_isNeedless_j132
                  exact nx false A3 M3 (by rw [eot, beq_self_eq_true]; rfl) g1 g2
                · refine itn (fun z => eot ((oN_inj (by omega) (by omega)).mp z)) ?_
                  rw [shl_k k (by omega)]
                  refine c_finds0 g2 (by omega) hp hF hCF (fun A4 M4 g3 g4 => ?_)
                  rw [beq_eq_false_iff_ne.mpr eot] at nx
                  cases e5 : fnB (gTr T o) (Int32.ofNat (2 ^ k)) with
                  | false =>
                    refine itp rfl ?_
                    unfold w_Works_isNeedless_j132
                    exact nx false A4 M4 (by rw [e5]; rfl) (g1.trans g3) g4
                  | true => exact itn (by decide) (nx true A4 M4 (by rw [e5]; rfl) (g1.trans g3) g4)
          exact l95 (T.length + 1) 0 A2 M2 (by omega) (Nat.zero_le _) (p1.trans p3) p4
  have j60 : ∀ A1 M1, A <+: A1 → WkT BB A1 B F T M1 → w_Works_isNeedless_j60 0 Q X (Int32.ofNat t) (b2 (nlM T t T.length)) M1 := fun A1 M1 p1 p2 => by
    unfold w_Works_isNeedless_j60
    refine ⟨9, ?_⟩
    have := l63 9 0 A1 M1 (by omega) (by omega) p1 p2
    rw [show nlB T t 0 = nlM T t T.length by unfold nlB; rw [List.range_zero, List.all_nil, Bool.and_true]] at this
    exact this
  have l19 : ∀ m o A3 M3, T.length - o < m → o ≤ T.length → A <+: A3 → WkT BB A3 B F T M3 → w_Works_isNeedless_L19 0 Q X m (Int32.ofNat t) (metN (gTr T t)) (b2 (nlM T t o)) (Int32.ofNat o) M3 := by
    intro m
    induction m with
    | zero => intro o A3 M3 z; exact absurd z (by omega)
    | succ m im =>
      intro o A3 M3 hm ho g1 g2
      unfold w_Works_isNeedless_L19
      rw [g2.n.1]
      by_cases eo : o = T.length
      · subst eo
        exact itp (le_oN (Nat.le_refl _) (by omega)) (j60 A3 M3 g1 g2)
      refine itn (nle_oN (by omega) (by omega)) ?_
      cases ea : nlM T t o with
      | true =>
        refine itn (by decide) ?_
        have e2 : nlM T t T.length = true := by
          unfold nlM at ea ⊢
          rw [Bool.or_eq_true] at ea ⊢
          exact ea.imp id (fun z => oAny_up z ho)
        have := j60 A3 M3 g1 g2
        rw [e2] at this
        exact this
      | false =>
        refine itp rfl ?_
        have nx : ∀ x A4 M4, x = nlM T t (o + 1) → A <+: A4 → WkT BB A4 B F T M4 → w_Works_isNeedless_j53 0 Q X (w_Works_isNeedless_L19 0 Q X m) (Int32.ofNat t) (metN (gTr T t)) (Int32.ofNat o) (b2 x) M4 := fun x A4 M4 ex g3 g4 => by
          unfold w_Works_isNeedless_j53
          rw [lit32 1, oN_add, ex]
          exact im (o + 1) A4 M4 (by omega) (by omega) g3 g4
        have es : nlM T t (o + 1) = (!(o == t) && (metN (gTr T o) == metN (gTr T t))) := by
          unfold nlM at ea ⊢
          rw [Bool.or_eq_false_iff] at ea
          rw [oAny_s, ea.1, ea.2, Bool.false_or, Bool.false_or]
        rw [es] at nx
        by_cases eot : o = t
        · refine itp (by rw [eot]) ?_
          unfold w_Works_isNeedless_j52
          exact nx false A3 M3 (by rw [eot, beq_self_eq_true]; rfl) g1 g2
        · refine itn (fun z => eot ((oN_inj (by omega) (by omega)).mp z)) (c_ruleMet g2 (by omega) hF hCF (fun A4 M4 g3 g4 => ?_))
          rw [beq_eq_false_iff_ne.mpr eot] at nx
          by_cases e5 : metN (gTr T o) = metN (gTr T t)
          · exact itp e5 (nx true A4 M4 (by rw [e5, beq_self_eq_true]; rfl) (g1.trans g3) g4)
          · refine itn e5 ?_
            unfold w_Works_isNeedless_j52
            exact nx false A4 M4 (by rw [beq_eq_false_iff_ne.mpr e5]; rfl) (g1.trans g3) g4
  unfold w_Works_isNeedless
  refine c_ruleMet h ht hF hCF (fun A1 M1 p1 p2 => ?_)
  have go := l19 (T.length + 1) 0 A1 M1 (by omega) (Nat.zero_le _) p1 p2
  have e0 : nlM T t 0 = (metN (gTr T t) == 0) := by
    unfold nlM oAny
    rw [List.range_zero, List.any_nil, Bool.or_false]
  rw [e0] at go
  by_cases c0 : metN (gTr T t) = 0
  · refine itp c0 ?_
    unfold w_Works_isNeedless_j15
    rw [c0, beq_self_eq_true] at go
    rw [c0]
    exact ⟨_, go⟩
  · refine itn c0 ?_
    unfold w_Works_isNeedless_j15
    rw [beq_eq_false_iff_ne.mpr c0] at go
    exact ⟨_, go⟩
end
