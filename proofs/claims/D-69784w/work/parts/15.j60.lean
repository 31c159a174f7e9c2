/-! where lines with words begin -/
def lsBg (p : Nat → Int32) (n : Nat) : Nat → Nat → List Nat
  | 0, _ => []
  | f + 1, a => if (hd (full (nl p n a) (tks p n a))).1 = 0 then (if nl p n a + 1 < n then lsBg p n f (nl p n a + 1) else []) else a :: (if nl p n a + 1 < n then lsBg p n f (nl p n a + 1) else [])
def stL (p : Nat → Int32) (n a : Nat) : List Nat := lsBg p n (n + 1 - a) a
def rsL (p : Nat → Int32) (n to : Nat) : List Nat := if to + 1 < n then stL p n (to + 1) else []
/-- a place where a line begins -/
def lnB (p : Nat → Int32) (a : Nat) : Prop := a = 0 ∨ p (a - 1) = 10
theorem lsBg_map {p : Nat → Int32} {n : Nat} : ∀ f a, lnsF p n f a = (lsBg p n f a).map (fun s => full (nl p n s) (tks p n s))
  | 0, _ => rfl
  | f + 1, a => by
    unfold lnsF lsBg
    by_cases c : (hd (full (nl p n a) (tks p n a))).1 = 0
    · rw [if_pos c, if_pos c]
      split
      · exact lsBg_map f _
      · rfl
    · rw [if_neg c, if_neg c, List.map_cons]
      split
      · rw [lsBg_map f _]
      · rfl
theorem lns_st {p : Nat → Int32} {n a : Nat} : lns p n a = (stL p n a).map (fun s => full (nl p n s) (tks p n s)) := lsBg_map _ _
theorem rln_st {p : Nat → Int32} {n to : Nat} : rln p n to = (rsL p n to).map (fun s => full (nl p n s) (tks p n s)) := by
  unfold rln rsL
  split
  · exact lns_st
  · rfl
theorem lsBg_more {p : Nat → Int32} {n : Nat} (hp : tend p n) : ∀ f g a, a ≤ n → n + 1 - a ≤ f → n + 1 - a ≤ g → lsBg p n f a = lsBg p n g a := by
  intro f
  induction f with
  | zero => intro g a h1 h2; omega
  | succ f ih =>
    intro g a h1 h2 h3
    obtain ⟨g, rfl⟩ : ∃ g', g = g' + 1 := ⟨g - 1, by omega⟩
    obtain ⟨x1, x2, x3, x4⟩ := nl_ok hp h1
    unfold lsBg
    by_cases c : nl p n a + 1 < n
    · rw [if_pos c, if_pos c, ih g _ (by omega) (by omega) (by omega)]
    · rw [if_neg c, if_neg c]
theorem stL_eq {p : Nat → Int32} {n a : Nat} (hp : tend p n) (ha : a ≤ n) : stL p n a = if (hd (full (nl p n a) (tks p n a))).1 = 0 then rsL p n (nl p n a) else a :: rsL p n (nl p n a) := by
  obtain ⟨x1, x2, x3, x4⟩ := nl_ok hp ha
  have e : (if nl p n a + 1 < n then lsBg p n (n - a) (nl p n a + 1) else []) = rsL p n (nl p n a) := by
    unfold rsL stL
    by_cases c : nl p n a + 1 < n
    · rw [if_pos c, if_pos c]; exact lsBg_more hp _ _ _ (by omega) (by omega) (by omega)
    · rw [if_neg c, if_neg c]
  unfold stL
  rw [show n + 1 - a = (n - a) + 1 by omega]
  unfold lsBg
  rw [e]
theorem c_begin2 {B : List Nm} {r n a : Nat} {p : Nat → Int32} {A : List Nm} {Q : Int32 → Mem → Prop} {M : Mem} (hT : BT B r n p A M) (hat : mI M 2 0 2 = Int32.ofNat a) (ha : a ≤ n) (hbg : lnB p a) (hB : ∀ l ∈ lns p n a, NB B l)
    (h0 : ∀ A' M', stL p n a = [] → A <+: A' → BT B r n p A' M' → Q 0 M')
    (h1 : ∀ A' s M', stL p n a = s :: rsL p n (nl p n s) → s ≤ n → lnB p s → A <+: A' → RS B r n p (nl p n s) A' (full (nl p n s) (tks p n s)) M' → mI M' 2 0 4 = Int32.ofNat (hd (full (nl p n s) (tks p n s))).2.2.2 → 1 ≤ (hd (full (nl p n s) (tks p n s))).1 → Q 1 M') : w_Reader_begin 0 Q M := by
  have hp := hT.2.1.2.2.2.2
  have hn := hT.2.2
  have main : ∀ d a A M, n + 1 - a ≤ d → BT B r n p A M → mI M 2 0 2 = Int32.ofNat a → a ≤ n → lnB p a → (∀ l ∈ lns p n a, NB B l) →
      (∀ A' M', stL p n a = [] → A <+: A' → BT B r n p A' M' → Q 0 M') →
      (∀ A' s M', stL p n a = s :: rsL p n (nl p n s) → s ≤ n → lnB p s → A <+: A' → RS B r n p (nl p n s) A' (full (nl p n s) (tks p n s)) M' → mI M' 2 0 4 = Int32.ofNat (hd (full (nl p n s) (tks p n s))).2.2.2 → 1 ≤ (hd (full (nl p n s) (tks p n s))).1 → Q 1 M') →
      w_Words_next 0 (fun M1 => w_Reader_begin_L7 0 Q d M1) M := by
    intro d
    induction d with
    | zero => intro a A M h; omega
    | succ d ih =>
      intro a A M hd' hT hat ha hbg hB h0 h1
      obtain ⟨x1, x2, x3, x4⟩ := nl_ok hp ha
      have hl := lns_eq hp ha
      have hs := stL_eq hp ha
      have hfh : hd (full (nl p n a) (tks p n a)) = (lex p n a).1 := by rw [full_hd (tks_ne hp (by omega)), tks_hd hp (by omega)]
      rw [hfh] at hl hs
      have hin := lex_in hp x1 x4 x3 x2
      have hok := lex_ok (a := a) hp (by omega)
      have hb : (lex p n a).1.1 = 2 → (lex p n a).1.2.1 ∈ B := fun e => by
        rw [if_neg (by omega)] at hl
        refine hB _ (by rw [hl]; exact List.mem_cons_self) (lex p n a).1 ?_ e
        rw [← hfh]
        have := tks_ne (p := p) (n := n) (a := a) hp (by omega)
        unfold full
        cases h : tks p n a with
        | nil => exact absurd h this
        | cons x y => split <;> simp
      refine c_next hT.1.1 hT.1.len hT.1.2.1.ms hT.2.1 hat (by omega) (fun M' k1 k2 k3 k4 => ?_)
      have hN' := hT.1.more hb k1
      unfold w_Reader_begin_L7
      refine ⟨k4.isK, ?_⟩
      by_cases c : (lex p n a).1.1 = 0
      · rw [if_pos c] at hl hs
        have hk := k4.2
        rw [if_pos c] at hk
        refine itp hk (c_line k1 k2 k3 (by omega) (fun M2 g1 g2 g3 => ?_))
        have es : scn (fun b => b != 10) p n (lex p n a).2 = nl p n a := scn_to hp hin.1 (fun i q1 q2 => x4 i (by omega) q2) x3
        rw [es] at g3 ⊢
        have hT2 : BT B r n p (insT A (lex p n a).1) M2 := ⟨⟨g1, hN'.2⟩, g2, hn⟩
        by_cases c2 : nl p n a + 1 < n
        · rw [decide_eq_true c2]
          have er : rln p n (nl p n a) = lns p n (nl p n a + 1) := if_pos c2
          have er2 : rsL p n (nl p n a) = stL p n (nl p n a + 1) := if_pos c2
          rw [er] at hl
          rw [er2] at hs
          rw [hl] at hB
          rw [hs] at h0 h1
          refine itn (by decide) (ih (nl p n a + 1) _ M2 (by omega) hT2 g3 (by omega) (Or.inr (by rw [Nat.add_sub_cancel]; exact x3)) hB (fun A' M' q1 q2 q3 => h0 A' M' q1 ((insT_pre A _).trans q2) q3) (fun A' s M' q1 q2 q3 q4 q5 q6 q7 => h1 A' s M' q1 q2 q3 ((insT_pre A _).trans q4) q5 q6 q7))
        · rw [decide_eq_false c2]
          have er2 : rsL p n (nl p n a) = [] := if_neg c2
          rw [er2] at hs
          exact itp rfl (h0 _ M2 hs (insT_pre A _) hT2)
      · rw [if_neg c] at hl hs
        refine itn (fun q => c ?_) ?_
        · have e := k4.kind.symm.trans q
          simp only [Option.some.injEq, Prod.mk.injEq, true_and] at e
          revert e
          repeat' split
          all_goals omega
        · have hm : full (nl p n a) (tks p n a) ∈ lns p n a := by rw [hl]; exact List.mem_cons_self
          have hRS : RS B r n p (nl p n a) (insT A (lex p n a).1) (full (nl p n a) (tks p n a)) M' :=
            ⟨hN', k2, hn, hB _ hm, ⟨x2, x3⟩, _, _, k4, hok.1, k3, hin.1, fun i q1 q2 => x4 i (by omega) q2, ⟨fun q => hin.2.2.1 q, fun q => lex_place hp (by omega) q⟩, by rw [tks_eq hp (by omega)]⟩
          have hpl := k4.1
          refine h1 _ a _ hs ha hbg (insT_pre A _) hRS.s3 ?_ (by rw [hfh]; omega)
          rw [hfh, ← hpl]; rfl
  unfold w_Reader_begin
  exact mf_w_Words_next (fun M' _ h => ⟨_, h⟩) (main (n + 1 - a) a A M (Nat.le_refl _) hT hat ha hbg hB h0 h1)
theorem c_nextLine2 {B : List Nm} {r n to : Nat} {p : Nat → Int32} {A : List Nm} {ts : List Tok} {Q : Int32 → Mem → Prop} {M : Mem} (hR : RS B r n p to A ts M) (hB : ∀ l ∈ rln p n to, NB B l)
    (h0 : ∀ A' M', rsL p n to = [] → A <+: A' → BT B r n p A' M' → Q 0 M')
    (h1 : ∀ A' s M', rsL p n to = s :: rsL p n (nl p n s) → s ≤ n → lnB p s → A <+: A' → RS B r n p (nl p n s) A' (full (nl p n s) (tks p n s)) M' → mI M' 2 0 4 = Int32.ofNat (hd (full (nl p n s) (tks p n s))).2.2.2 → 1 ≤ (hd (full (nl p n s) (tks p n s))).1 → Q 1 M') : w_Reader_nextLine 0 Q M := by
  obtain ⟨hN, hT, hn, -, hto, t, a, g1, g2, g3, g4, g5, g6, g7⟩ := hR
  have hp := hT.2.2.2.2
  unfold w_Reader_nextLine
  refine c_line hN.1 hT g3 (by omega) (fun M2 k1 k2 k3 => ?_)
  have es : scn (fun b => b != 10) p n a = to := scn_to hp g4 g5 hto.2
  rw [es] at k3 ⊢
  by_cases c : to + 1 < n
  · rw [decide_eq_true c]
    have er : rln p n to = lns p n (to + 1) := if_pos c
    have er2 : rsL p n to = stL p n (to + 1) := if_pos c
    rw [er] at hB
    rw [er2] at h0 h1
    refine itn (by decide) (c_begin2 ⟨⟨k1, hN.2⟩, k2, hn⟩ k3 (by omega) (Or.inr (by rw [Nat.add_sub_cancel]; exact hto.2)) hB (fun A' M' q1 q2 q3 => ⟨Or.inl rfl, h0 A' M' q1 q2 q3⟩) (fun A' s M' q1 q2 q3 q4 q5 q6 q7 => ⟨Or.inr rfl, h1 A' s M' q1 q2 q3 q4 q5 q6 q7⟩))
  · rw [decide_eq_false c]
    exact itp rfl (h0 A M2 (if_neg c) (List.prefix_refl _) ⟨⟨k1, hN.2⟩, k2, hn⟩)
