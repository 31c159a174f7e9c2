/-! THE OPERATIONS kinds, kind in the twin -/
def tKd (L : Tl) (M : Mem) : Prop := TLn M ∧ (mL M 519 0 = 80 ∧ mL M 114 0 = 80 ∧ mL M 115 0 = 1600 ∧ mL M 116 0 = 2240) ∧ (L.length ≤ 80 ∧ mI M 11 0 101 = Int32.ofNat L.length) ∧ ∃ rm, rm ≤ 20 ∧ mI M 11 0 102 = Int32.ofNat rm ∧ ∀ i, i < L.length → mI M 519 0 i = b2 (tlG L i).isSome ∧ ∀ l t, tlG L i = some (l, t) → (mI M 114 0 i = Int32.ofNat t.length ∧ l.length = rm ∧ t.length ≤ 20) ∧ (∀ k, k < l.length → mI M 115 0 (20 * i + k) = gi l k) ∧ ∀ k, k < t.length → mI M 116 0 (28 * i + k) = gi t k
/-- told so far -/
def tdT (A : List Nm) (W : List Cls) (R : Tr) (i j p : Nat) (M : Mem) : Prop := ∀ i' l t, i' < R.length → gR R i' = some (l, t) → (∀ k, k < l.length → mI M 115 0 (20 * i' + k) = if i' < i ∨ (i' = i ∧ k < j) then tlK W (gk l k) else kt A (gk l k)) ∧ ∀ k, k < t.length → mI M 116 0 (28 * i' + k) = if i' < i ∨ (i' = i ∧ k < p) then tlK W (gk t k) else kt A (gk t k)
section
variable {G : List Sl} {US : UST} {A : List Nm} {S : List Sg} {W : List Cls} {w c k : Nat} {br : Int32} {nq nl nf nk : Nat} {M M' : Mem} {Q : Int32 → Mem → Prop} {R : Tr}
theorem ct_toldKind {co : List Ins} {κ : Kd} (hw : mR M 11 0 45 = some (12, w)) (h : tCl A W w M) (hla : A.length ≤ 200000) (hκ : kwf A co κ) (h4 : κ.1 ≠ -4) (hQ : Q (tlK W κ) M) : w_Model_toldKind 0 (kt A κ) Q M := by
  have hl := h.1.1.2.2.1
  unfold w_Model_toldKind
  unfold tlK at hQ
  by_cases c2 : κ.1 = 2
  · rw [if_pos c2] at hQ
    refine itn (fun z => (kt_l16 hκ hla).mp z c2) ?_
    rw [kt_sub c2]
    refine ct_classOf hw h.1 (hκ.ok c2) ?_
    cases e : fnd W κ.2 with
    | none =>
      rw [e] at hQ
      exact itn (show ¬ (0 : Int32) ≤ oC none by decide) hQ
    | some c =>
      rw [e] at hQ
      have hc := fnd_lt e
      refine itp (show (0 : Int32) ≤ Int32.ofNat c from oN_zero_le (by omega)) ?_
      show Q ((100 : Int32) + Int32.ofNat c) M
      rw [show (100 : Int32) + Int32.ofNat c = Int32.ofNat (100 + c) from oN_add 100 c]
      exact hQ
  · rw [if_neg c2] at hQ
    refine itp ((kt_l16 hκ hla).mpr c2) ?_
    have e1 := kt_e (n := 1) (m := 0) hκ hla (by omega)
    have e2 := kt_e (n := 2) (m := 1) hκ hla (by omega)
    have e3 := kt_e (n := 3) (m := -1) hκ hla (by omega)
    have e4 := kt_e (n := 4) (m := -2) hκ hla (by omega)
    have e5 := kt_e (n := 5) (m := -3) hκ hla (by omega)
    have p0 : ∀ v : Nat, v < 10 → kt A κ = Int32.ofNat v → (0 : Int32) ≤ kt A κ := fun v hv z => by rw [z]; exact oN_zero_le (by omega)
    by_cases z0 : κ.1 = 0
    · rw [if_pos z0] at hQ
      have z := e1.mpr z0
      exact itp (p0 1 (by omega) z) (by rw [z]; exact hQ)
    rw [if_neg z0] at hQ
    by_cases z1 : κ.1 = 1
    · rw [if_pos z1] at hQ
      have z := e2.mpr z1
      exact itp (p0 2 (by omega) z) (by rw [z]; exact hQ)
    rw [if_neg z1] at hQ
    by_cases z2 : κ.1 = -1
    · rw [if_pos z2] at hQ
      have z := e3.mpr z2
      exact itp (p0 3 (by omega) z) (by rw [z]; exact hQ)
    rw [if_neg z2] at hQ
    by_cases z3 : κ.1 = -2
    · rw [if_pos z3] at hQ
      have z := e4.mpr z3
      exact itp (p0 4 (by omega) z) (by rw [z]; exact hQ)
    rw [if_neg z3] at hQ
    by_cases z4 : κ.1 = -3
    · rw [if_pos z4] at hQ
      have z := e5.mpr z4
      exact itp (p0 5 (by omega) z) (by rw [z]; exact hQ)
    rw [if_neg z4] at hQ
    refine itn (fun z => (kt_l0 hκ hla).mp z ?_) hQ
    rcases hκ.rg with q | q
    · exact absurd q c2
    · omega
theorem ct_tellT {r p : Nat} (h : TB G US A S W w br nq nl nf nk M) (hlc : c < W.length) (h80 : (co (gmt (gc W c) k)).length ≤ 80) (hlr : lr (gmt (gc W c) k) ≤ 20) (hsr : sr (gmt (gc W c) k) ≤ 20) (hT : TbT A (gmt (gc W c) k) R M) (hg : gdR R) (hln : TLn M) (h101 : mI M 11 0 101 = Int32.ofNat (co (gmt (gc W c) k)).length) (h102 : mI M 11 0 102 = Int32.ofNat (lr (gmt (gc W c) k))) (hr60 : r ≤ 60) (h74 : r ≠ 0 → mI M 11 0 74 = Int32.ofNat p)
    (hQ : ∀ M', Fr (124615124604835863084731911901282304) M M' → tKd (tlR W R) M' → Q (ansI r p) M') : w_Model_kinds_j157 0 Q (Int32.ofNat r) M := by
  have hla := h.2.2.1
  have hRl := hT.1
  obtain ⟨l1, l2, l3, l4⟩ := hT.2.1
  have loop : ∀ n i M1, R.length - i < n → i ≤ R.length → Fr (124615124604835863084731911901282304) M M1 → tdT A W R i 0 0 M1 → w_Model_kinds_L160 0 Q n (Int32.ofNat r) (Int32.ofNat i) M1 := by
    intro n
    induction n with
    | zero => intro i M1 hn; exact absurd hn (by omega)
    | succ n ih =>
      intro i M1 hn hi f1 hd
      have h1 := h.fr f1
      unfold w_Model_kinds_L160
      rw [(f1.I (f := 11) (k := 101) rfl 0).trans h101]
      by_cases ci : (co (gmt (gc W c) k)).length ≤ i
      · refine itp (le_oN ci (by omega)) ?_
        have el : (tlR W R).length = R.length := List.length_map _
        have ht : tKd (tlR W R) M1 := by
          refine ⟨hln.fr f1, ⟨(f1.L (f := 519) rfl 0).trans l1, (f1.L (f := 114) rfl 0).trans l2, (f1.L (f := 115) rfl 0).trans l3, (f1.L (f := 116) rfl 0).trans l4⟩, ⟨by rw [el, hRl]; exact h80, by rw [el, hRl]; exact (f1.I (f := 11) (k := 101) rfl 0).trans h101⟩, lr (gmt (gc W c) k), hlr, (f1.I (f := 11) (k := 102) rfl 0).trans h102, fun q hq => ?_⟩
          rw [el] at hq
          obtain ⟨x1, x2⟩ := hT.2.2 q hq
          rw [tlG_R]
          refine ⟨by rw [f1.Ia (f := 519) rfl rfl, x1, Option.isSome_map], fun l t e => ?_⟩
          cases e1 : gR R q with
          | none => rw [e1] at e; cases e
          | some y =>
            obtain ⟨l', t'⟩ := y
            rw [e1] at e
            have e2 : (l'.map (tlK W), t'.map (tlK W)) = (l, t) := Option.some.inj e
            obtain ⟨⟨y1, y2, y3⟩, -⟩ := x2 l' t' e1
            obtain ⟨d1, d2⟩ := hd q l' t' hq e1
            have el : l'.map (tlK W) = l := congrArg Prod.fst e2
            have et : t'.map (tlK W) = t := congrArg Prod.snd e2
            subst el et
            rw [List.length_map, List.length_map]
            exact ⟨⟨(f1.Ia (f := 114) rfl rfl 0 q).trans y1, y2, by omega⟩, fun k' hk' => by rw [gi_mapK hk', d1 k' hk', if_pos (by omega)], fun k' hk' => by rw [gi_mapK hk', d2 k' hk', if_pos (by omega)]⟩
        have hQ := hQ M1 f1 ht
        unfold ansI at hQ
        by_cases e : r = 0
        · rw [if_pos e] at hQ
          exact itp (by rw [e]; rfl) hQ
        · rw [if_neg e] at hQ
          refine itn (ne_oN (b := 0) e (by omega) (by omega)) ?_
          rw [(f1.I (f := 11) (k := 74) rfl 0).trans (h74 e)]
          exact hQ
      refine itn (nle_oN (by omega) (by omega)) ⟨lr (gmt (gc W c) k) + 1, ?_⟩
      obtain ⟨x1, x2⟩ := hT.2.2 i (by omega)
      have next : ∀ M2, Fr (124615124604835863084731911901282304) M M2 → tdT A W R (i + 1) 0 0 M2 → w_Model_kinds_j288 0 Q (w_Model_kinds_L160 0 Q n) (Int32.ofNat r) (Int32.ofNat i) M2 := fun M2 f2 d2 => by
        unfold w_Model_kinds_j288
        rw [show Int32.ofNat i + (1 : Int32) = Int32.ofNat (i + 1) from oN_add i 1]
        exact ih (i + 1) M2 (by omega) (by omega) f2 d2
      -- the stack
      have loopS : ∀ m q M2, 28 - q < m → q ≤ 28 → Fr (124615124604835863084731911901282304) M M2 → tdT A W R i 20 q M2 → w_Model_kinds_L230 0 Q (w_Model_kinds_L160 0 Q n) m (Int32.ofNat r) (Int32.ofNat i) (Int32.ofNat q) M2 := by
        intro m
        induction m with
        | zero => intro q M2 hm; exact absurd hm (by omega)
        | succ m im =>
          intro q M2 hm hq f2 d2
          have h2 := h.fr f2
          unfold w_Model_kinds_L230
          rw [f2.L (f := 519) rfl, l1, oN_tnc (k := i) (by omega), f2.Ia (f := 519) rfl rfl, x1]
          refine ⟨(vp_oN (by omega)).mpr (by omega), ?_⟩
          -- all is told here
          have fin : (∀ l t, gR R i = some (l, t) → l.length ≤ 20 ∧ t.length ≤ q) → w_Model_kinds_j288 0 Q (w_Model_kinds_L160 0 Q n) (Int32.ofNat r) (Int32.ofNat i) M2 := fun hz => next M2 f2 (fun i' l t hi' hR => by
            obtain ⟨d3, d4⟩ := d2 i' l t hi' hR
            refine ⟨fun k' hk' => ?_, fun k' hk' => ?_⟩
            · rw [d3 k' hk']
              by_cases z : i' < i + 1
              · rw [if_pos (Or.inl z), if_pos ?_]
                by_cases z2 : i' = i
                · subst z2
                  have := (hz l t hR).1
                  exact Or.inr ⟨rfl, by omega⟩
                · exact Or.inl (by omega)
              · rw [if_neg (by omega), if_neg (by omega)]
            · rw [d4 k' hk']
              by_cases z : i' < i + 1
              · rw [if_pos (Or.inl z), if_pos ?_]
                by_cases z2 : i' = i
                · subst z2
                  have := (hz l t hR).2
                  exact Or.inr ⟨rfl, by omega⟩
                · exact Or.inl (by omega)
              · rw [if_neg (by omega), if_neg (by omega)])
          cases e : gR R i with
          | none => exact itp rfl (fin (fun l t z => by rw [e] at z; cases z))
          | some y =>
            obtain ⟨l, t⟩ := y
            obtain ⟨⟨y1, y2, y3⟩, y4, y5⟩ := x2 l t e
            refine itn (by show ¬ (1 : Int32) = 0; decide) ?_
            rw [f2.L (f := 114) rfl, l2, f2.Ia (f := 114) rfl rfl, y1]
            refine ⟨(vp_oN (by omega)).mpr (by omega), ?_⟩
            by_cases cq : t.length ≤ q
            · exact itp (le_oN cq (by omega)) (fin (fun l' t' z => by rw [e] at z; cases z; exact ⟨by omega, cq⟩))
            have d4 := (d2 i l t (by omega) e).2 q (by omega)
            rw [if_neg (by omega)] at d4
            refine itn (nle_oN (by omega) (by omega)) ?_
            rw [show (28 : Int32) * Int32.ofNat i = Int32.ofNat (28 * i) from oN_mul 28 i, oN_add, oN_tnc (k := 28 * i + q) (by omega), f2.L (f := 116) rfl, l4, d4]
            refine ⟨(vp_oN (by omega)).mpr (by omega), ct_toldKind h2.r45 h2.cl hla (y5 q (by omega)).2 (((hg i l t e).2 _ (gk_me (show q < t.length by omega))).1) ?_⟩
            rw [show Int32.ofNat q + (1 : Int32) = Int32.ofNat (q + 1) from oN_add q 1]
            refine ⟨by rw [f2.L (f := 116) rfl, l4]; exact (vp_oN (by omega)).mpr (by omega), im (q + 1) _ (by omega) (by omega) (Fr.wIa rfl rfl f2) (fun i' l' t' hi' hR => ?_)⟩
            obtain ⟨d5, d6⟩ := d2 i' l' t' hi' hR
            obtain ⟨⟨-, z2, z3⟩, -⟩ := (hT.2.2 i' hi').2 l' t' hR
            refine ⟨fun k' hk' => by rw [mI_sI, if_neg (fun z => absurd z.1 (by decide))]; exact d5 k' hk', fun k' hk' => ?_⟩
            by_cases z1 : i' = i ∧ k' = q
            · obtain ⟨u1, u2⟩ := z1
              subst u1 u2
              rw [e] at hR
              cases hR
              rw [mI_sI, if_pos ⟨rfl, rfl, rfl⟩, if_pos (by omega)]
            · rw [mI_sI, if_neg (fun z => z1 (by omega)), d6 k' hk']
              by_cases z2 : i' < i ∨ (i' = i ∧ k' < q)
              · rw [if_pos z2, if_pos (by omega)]
              · rw [if_neg z2, if_neg (by omega)]
      -- the locals
      have loopL : ∀ m j M2, lr (gmt (gc W c) k) - j < m → j ≤ lr (gmt (gc W c) k) → Fr (124615124604835863084731911901282304) M M2 → tdT A W R i j 0 M2 → w_Model_kinds_L172 0 Q (w_Model_kinds_L160 0 Q n) m (Int32.ofNat r) (Int32.ofNat i) (Int32.ofNat j) M2 := by
        intro m
        induction m with
        | zero => intro j M2 hm; exact absurd hm (by omega)
        | succ m im =>
          intro j M2 hm hj f2 d2
          have h2 := h.fr f2
          have go : (∀ l t, gR R i = some (l, t) → l.length ≤ j) → w_Model_kinds_j227 0 Q (w_Model_kinds_L160 0 Q n) (Int32.ofNat r) (Int32.ofNat i) M2 := fun hz => ⟨29, loopS _ 0 M2 (by omega) (by omega) f2 (fun i' l t hi' hR => by
            obtain ⟨d3, d4⟩ := d2 i' l t hi' hR
            obtain ⟨⟨-, z2, z3⟩, -⟩ := (hT.2.2 i' hi').2 l t hR
            refine ⟨fun k' hk' => ?_, d4⟩
            rw [d3 k' hk']
            by_cases z : i' < i ∨ (i' = i ∧ k' < 20)
            · rw [if_pos z, if_pos ?_]
              rcases z with z | ⟨z, zk⟩
              · exact Or.inl z
              · subst z
                have := hz l t hR
                exact Or.inr ⟨rfl, by omega⟩
            · rw [if_neg z, if_neg (by omega)])⟩
          unfold w_Model_kinds_L172
          rw [(f2.I (f := 11) (k := 102) rfl 0).trans h102]
          by_cases cj : lr (gmt (gc W c) k) ≤ j
          · exact itp (le_oN cj (by omega)) (go (fun l t z => by have := (x2 l t z).1.2.1; omega))
          refine itn (nle_oN (by omega) (by omega)) ?_
          rw [f2.L (f := 519) rfl, l1, oN_tnc (k := i) (by omega), f2.Ia (f := 519) rfl rfl, x1]
          refine ⟨(vp_oN (by omega)).mpr (by omega), ?_⟩
          cases e : gR R i with
          | none => exact itp rfl (go (fun l t z => by rw [e] at z; cases z))
          | some y =>
            obtain ⟨l, t⟩ := y
            obtain ⟨⟨y1, y2, y3⟩, y4, y5⟩ := x2 l t e
            have d3 := (d2 i l t (by omega) e).1 j (by omega)
            rw [if_neg (by omega)] at d3
            refine itn (by show ¬ (1 : Int32) = 0; decide) ?_
            rw [show (20 : Int32) * Int32.ofNat i = Int32.ofNat (20 * i) from oN_mul 20 i, oN_add, oN_tnc (k := 20 * i + j) (by omega), f2.L (f := 115) rfl, l3, d3]
            refine ⟨(vp_oN (by omega)).mpr (by omega), ct_toldKind h2.r45 h2.cl hla (y4 j (by omega)).2 ((hg i l t e).1 _ (gk_me (show j < l.length by omega))) ?_⟩
            rw [show Int32.ofNat j + (1 : Int32) = Int32.ofNat (j + 1) from oN_add j 1]
            refine ⟨by rw [f2.L (f := 115) rfl, l3]; exact (vp_oN (by omega)).mpr (by omega), im (j + 1) _ (by omega) (by omega) (Fr.wIa rfl rfl f2) (fun i' l' t' hi' hR => ?_)⟩
            obtain ⟨d5, d6⟩ := d2 i' l' t' hi' hR
            obtain ⟨⟨-, z2, z3⟩, -⟩ := (hT.2.2 i' hi').2 l' t' hR
            refine ⟨fun k' hk' => ?_, fun k' hk' => by rw [mI_sI, if_neg (fun z => absurd z.1 (by decide))]; exact d6 k' hk'⟩
            by_cases z1 : i' = i ∧ k' = j
            · obtain ⟨u1, u2⟩ := z1
              subst u1 u2
              rw [e] at hR
              cases hR
              rw [mI_sI, if_pos ⟨rfl, rfl, rfl⟩, if_pos (by omega)]
            · rw [mI_sI, if_neg (fun z => z1 (by omega)), d5 k' hk']
              by_cases z2 : i' < i ∨ (i' = i ∧ k' < j)
              · rw [if_pos z2, if_pos (by omega)]
              · rw [if_neg z2, if_neg (by omega)]
      exact loopL _ 0 M1 (by omega) (by omega) f1 hd
  unfold w_Model_kinds_j157
  refine ⟨R.length + 1, loop _ 0 M (by omega) (by omega) (Fr.rf _ _) (fun i' l t hi' hR => ?_)⟩
  obtain ⟨-, y4, y5⟩ := (hT.2.2 i' hi').2 l t hR
  exact ⟨fun k' hk' => by rw [if_neg (by omega)]; exact (y4 k' hk').1, fun k' hk' => by rw [if_neg (by omega)]; exact (y5 k' hk').1⟩
theorem ct_wkind {L : Tl} {i j : Int32} (h : tKd L M) (hQ : Q (kndO L i j) M) : w_Model_kind 0 i j Q M := by
  obtain ⟨-, ⟨l1, l2, l3, l4⟩, ⟨h80, h101⟩, rm, hrm, h102, ht⟩ := h
  unfold w_Model_kind
  unfold kndO at hQ
  by_cases c0 : i < 0
  · rw [if_pos c0] at hQ; exact itp c0 hQ
  rw [if_neg c0] at hQ
  refine itn c0 ?_
  rw [h101]
  by_cases c1 : Int32.ofNat L.length ≤ i
  · have e : tlG L i.toNatClampNeg = none := by
      unfold tlG
      rw [List.getD_eq_getElem?_getD, List.getElem?_eq_none (tnc_ge c1 c0 (by omega))]; rfl
    rw [e] at hQ; exact itp c1 hQ
  refine itn c1 ?_
  have ha := idx_lt (by omega) c0 c1
  have ea := tnc_oN c0
  generalize i.toNatClampNeg = a at hQ ha ea ⊢
  obtain ⟨t1, t2⟩ := ht a ha
  rw [← ea, l1, t1]
  refine ⟨(vp_oN (by omega)).mpr (by omega), ?_⟩
  cases e : tlG L a with
  | none => rw [e] at hQ; exact itp rfl hQ
  | some y =>
    obtain ⟨l, t⟩ := y
    rw [e] at hQ
    obtain ⟨⟨y1, y2, y3⟩, y4, y5⟩ := t2 l t e
    refine itn (by show ¬ (1 : Int32) = 0; decide) ?_
    dsimp only at hQ
    by_cases cm : j = -1
    · rw [if_pos cm] at hQ
      subst cm
      refine itn (by decide) (itp (by decide) (itn (by decide) ⟨by rw [l2]; exact (vp_oN (by omega)).mpr (by omega), ?_⟩))
      rw [y1]; exact hQ
    rw [if_neg cm] at hQ
    by_cases cn : j < 0
    · rw [if_pos (Or.inl cn)] at hQ
      refine itp ?_ hQ
      rw [Int32.lt_iff_toInt_lt] at cn ⊢
      have e1 : (-1 : Int32).toInt = -1 := by decide
      have e2 : (0 : Int32).toInt = 0 := by decide
      have : j.toInt ≠ -1 := fun z => cm (Int32.toInt_inj.mp (z.trans e1.symm))
      omega
    have nm : ¬ j < -1 := fun z => cn (Int32.lt_trans z (by decide))
    refine itn nm ?_
    by_cases c39 : 39 < j
    · rw [if_pos (Or.inr c39)] at hQ
      refine itn (fun z => ?_) hQ
      rw [Int32.lt_iff_toInt_lt] at c39 z
      have e1 : (39 : Int32).toInt = 39 := by decide
      have e2 : (40 : Int32).toInt = 40 := by decide
      omega
    rw [if_neg (fun z => z.elim cn c39)] at hQ
    have j40 : j < 40 := by
      rw [Int32.lt_iff_toInt_lt] at c39 ⊢
      have e1 : (39 : Int32).toInt = 39 := by decide
      have e2 : (40 : Int32).toInt = 40 := by decide
      omega
    have j0 : (0 : Int32) ≤ j := Int32.not_lt.mp cn
    have eb := tnc_oN cn
    have hb : j.toNatClampNeg < 40 := by
      have := tnc_lt j
      rw [← eb] at j40
      exact (oN_lt (b := 40) (by omega) (by omega)).mp j40
    refine itp j40 (itp j0 ?_)
    generalize j.toNatClampNeg = b at hQ eb hb ⊢
    rw [← eb] at hQ ⊢
    by_cases c20 : 20 ≤ b
    · rw [if_neg (show ¬ Int32.ofNat b < 20 from nlt_oN (b := 20) c20 (by omega))] at hQ
      refine itp (le_oN (a := 20) c20 (by omega)) ⟨by rw [l2]; exact (vp_oN (by omega)).mpr (by omega), ?_⟩
      rw [y1, show Int32.ofNat b - (20 : Int32) = Int32.ofNat (b - 20) from oN_sub (b := 20) c20]
      by_cases ct : b - 20 < t.length
      · rw [if_pos ct] at hQ
        refine itn (nle_oN ct (by omega)) ?_
        rw [show (28 : Int32) * Int32.ofNat a = Int32.ofNat (28 * a) from oN_mul 28 a, oN_add, show Int32.ofNat (28 * a + b) - (20 : Int32) = Int32.ofNat (28 * a + b - 20) from oN_sub (b := 20) (by omega), oN_tnc (k := 28 * a + b - 20) (by omega), l4, show 28 * a + b - 20 = 28 * a + (b - 20) by omega, y5 _ ct]
        exact ⟨(vp_oN (by omega)).mpr (by omega), hQ⟩
      · rw [if_neg ct] at hQ
        exact itp (le_oN (by omega) (by omega)) hQ
    · rw [if_pos (show Int32.ofNat b < 20 from lt_oN (b := 20) (by omega) (by omega))] at hQ
      refine itn (nle_oN (a := 20) (by omega) (by omega)) ?_
      rw [h102]
      by_cases cl : b < l.length
      · rw [if_pos cl] at hQ
        refine itn (nle_oN (by omega) (by omega)) ?_
        rw [show (20 : Int32) * Int32.ofNat a = Int32.ofNat (20 * a) from oN_mul 20 a, oN_add, oN_tnc (k := 20 * a + b) (by omega), l3, y4 _ cl]
        exact ⟨(vp_oN (by omega)).mpr (by omega), hQ⟩
      · rw [if_neg cl] at hQ
        exact itp (le_oN (by omega) (by omega)) hQ
end
