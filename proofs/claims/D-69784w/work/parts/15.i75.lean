/-! THE OPERATION differ, twin -/
theorem pcT_inj {A : List Nm} {p q : Nm} (hA : A.length ≤ 200000) (hp : p = [] ∨ p ∈ A) (hq : q = [] ∨ q ∈ A) : pcT A p = pcT A q ↔ p = q := by
  refine ⟨fun h => ?_, fun h => by rw [h]⟩
  have neg : ∀ {z : Nm}, z ∈ A → nc A z ≠ -2 := fun hz e => by
    have hi := List.idxOf_lt_length_of_mem hz
    have := congrArg Int32.toInt e
    unfold nc at this
    rw [oN_toInt (by omega)] at this
    have z1 : (-2 : Int32).toInt = -2 := by decide
    rw [z1] at this
    omega
  unfold pcT at h
  by_cases c1 : p = [] <;> by_cases c2 : q = []
  · rw [c1, c2]
  · rw [if_pos c1, if_neg c2] at h; exact absurd h.symm (neg (hq.resolve_left c2))
  · rw [if_neg c1, if_pos c2] at h; exact absurd h (neg (hp.resolve_left c1))
  · rw [if_neg c1, if_neg c2] at h; exact (nc_inj (A := A) (by omega) (hp.resolve_left c1) (hq.resolve_left c2)).1 h
/-- methods of a world can be written and are told by it -/
def DfT (W : List Cls) : Prop := ∀ c, c < W.length → ∀ k, k < (gc W c).2.2.2.2.2.length → nwM (gmt (gc W c) k) ∧ (txM (gmt (gc W c) k)).length ≤ LPt
section
variable {G X : List Sl} {US : UST} {A : List Nm} {S : List Sg} {W V : List Cls} {w w' : Nat} {br br' x0 x1 : Int32} {nq nl nf nk nq' nl' nf' nk' B B' F F' : Nat} {P P' : List Int32} {M M1 M' : Mem} {Q : Int32 → Mem → Prop} {R k k' c d j i m f : Nat} {v a ca da : Int32} {x y : Mth} {p : Sl} {s s' : Ms} {on : Nat → Bool}
theorem ct_fieldLike (hA : A.length ≤ 200000) (h : tFl A W w M) (h' : tFl A V w' M) (h135 : mL M 135 w' = 51) (h51 : W.length ≤ 51) (h51' : V.length ≤ 51) (hc : c < W.length) (hf : f < (gc W c).2.2.2.2.1.length) (hd : d < V.length) (hty : tyOk (gfl (gc W c) f).2.1) (hty' : ∀ g, g < (gc V d).2.2.2.2.1.length → tyOk (gfl (gc V d) g).2.1) (h1 : gfl (gc W c) f ∈ (gc V d).2.2.2.2.1 → ∀ g, g < 8 → Q (Int32.ofNat (8 * d + g)) M) (h0 : gfl (gc W c) f ∉ (gc V d).2.2.2.2.1 → Q (-2) M) : w_Model_fieldLike w (Int32.ofNat (8 * c + f)) w' (Int32.ofNat d) Q M := by
  obtain ⟨⟨l1, l2, l3, l4, l5, -⟩, hf1⟩ := h
  obtain ⟨⟨l1', l2', l3', l4', l5', -⟩, hf2⟩ := h'
  obtain ⟨⟨-, h8⟩, hh⟩ := hf1 c hc
  obtain ⟨⟨e135, h8'⟩, hh'⟩ := hf2 d hd
  obtain ⟨⟨a1, a2⟩, ⟨a3, a4⟩, a5, a6, a7⟩ := hh f hf
  have tk : ∀ {κ : Kd}, tyOk κ → kdOk κ := fun z => by
    rcases z with z | z | z
    · exact Or.inl z
    · exact Or.inr (Or.inl z)
    · exact Or.inr (Or.inr (Or.inr z))
  have vc : ∀ {g : Nat}, g = 408 → vp_in (Int32.ofNat (8 * c + f)) g := fun e => by rw [e]; exact (vp_oN (by omega)).mpr (by omega)
  have loop : ∀ n g, g ≤ (gc V d).2.2.2.2.1.length → (gc V d).2.2.2.2.1.length - g < n → (∀ q, q < g → gfl (gc V d) q ≠ gfl (gc W c) f) → w_Model_fieldLike_L6 Q n w (Int32.ofNat (8 * c + f)) w' (Int32.ofNat d) (Int32.ofNat (8 * d + g)) M := by
    intro n
    induction n with
    | zero => intro g _ z; exact absurd z (by omega)
    | succ n ih =>
      intro g hg hn hno
      unfold w_Model_fieldLike_L6
      refine ⟨by rw [h135]; exact (vp_oN (by omega)).mpr (by omega), ?_⟩
      rw [oN_tnc (k := d) (by omega), e135, lit32 8, oN_mul, oN_add]
      by_cases e : g = (gc V d).2.2.2.2.1.length
      · refine itp (by rw [e]; exact le_oN (Nat.le_refl _) (by omega)) (h0 (fun z => ?_))
        obtain ⟨q, hq, eq⟩ := List.mem_iff_getElem.1 z
        refine hno q (by omega) ?_
        show (gc V d).2.2.2.2.1.getD q _ = _
        rw [List.getD_eq_getElem?_getD, List.getElem?_eq_getElem hq, eq]; rfl
      have hgl : g < (gc V d).2.2.2.2.1.length := by omega
      obtain ⟨⟨b1, b2'⟩, ⟨b3, b4⟩, b5, b6, b7⟩ := hh' g hgl
      have vd : ∀ {z : Nat}, z = 408 → vp_in (Int32.ofNat (8 * d + g)) z := fun e => by rw [e]; exact (vp_oN (by omega)).mpr (by omega)
      have next : gfl (gc V d) g ≠ gfl (gc W c) f → w_Model_fieldLike_j105 Q (w_Model_fieldLike_L6 Q n) w (Int32.ofNat (8 * c + f)) w' (Int32.ofNat d) (Int32.ofNat (8 * d + g)) M := fun z => by
        unfold w_Model_fieldLike_j105
        rw [lit32 1, oN_add]
        refine ih (g + 1) (by omega) (by omega) (fun q hq => ?_)
        by_cases eq : q = g
        · rw [eq]; exact z
        · exact hno q (by omega)
      refine itn (nle_oN (by omega) (by omega)) ⟨vd l1', vc l1, ?_⟩
      rw [oN_tnc (k := 8 * d + g) (by omega), oN_tnc (k := 8 * c + f) (by omega), a1, b1]
      have inj := nc_inj (A := A) (by omega) b2' a2
      by_cases c1 : (gfl (gc V d) g).1 = (gfl (gc W c) f).1
      · refine itp (inj.2 c1) ⟨vd l2', vc l2, ?_⟩
        rw [a3, b3]
        have kin := kt_inj (tk (hty' g hgl)) (tk hty) b4 a4 hA
        by_cases c2 : (gfl (gc V d) g).2.1 = (gfl (gc W c) f).2.1
        · refine itp (kin.2 c2) ⟨vd l3', vc l3, ?_⟩
          rw [a5, b5]
          by_cases c3 : (gfl (gc V d) g).2.2.1 = (gfl (gc W c) f).2.2.1
          · refine itp c3 ⟨vd l5', vc l5, ?_⟩
            rw [a7, b7]
            by_cases c4 : (gfl (gc V d) g).2.2.2.2 = (gfl (gc W c) f).2.2.2.2
            · refine itp (by rw [c4]) ⟨vd l4', vc l4, ?_⟩
              rw [a6, b6]
              by_cases c5 : (gfl (gc V d) g).2.2.2.1 = (gfl (gc W c) f).2.2.2.1
              · refine itp c5 (h1 ?_ g (by omega))
                have : gfl (gc V d) g = gfl (gc W c) f := Prod.ext c1 (Prod.ext c2 (Prod.ext c3 (Prod.ext c5 c4)))
                rw [← this]; exact getD_mem hgl
              · exact itn c5 (next (fun z => c5 (by rw [z])))
            · exact itn (fun z => c4 (b2_inj z)) (next (fun z => c4 (by rw [z])))
          · exact itn c3 (next (fun z => c3 (by rw [z])))
        · exact itn (fun z => c2 (kin.1 z)) (next (fun z => c2 (by rw [z])))
      · exact itn (fun z => c1 (inj.1 z)) (next (fun z => c1 (by rw [z])))
  unfold w_Model_fieldLike
  refine ⟨(gc V d).2.2.2.2.1.length + 1, ?_⟩
  rw [show (8 : Int32) * Int32.ofNat d = Int32.ofNat (8 * d + 0) from oN_mul 8 d]
  exact loop _ 0 (Nat.zero_le _) (by omega) (fun q hq => absurd hq (by omega))
theorem ct_df201 (hA : A.length ≤ 200000) (h : tFl A W w M) (h' : tFl A V w' M) (l135 : mL M 135 w = 51) (l135' : mL M 135 w' = 51) (h51 : W.length ≤ 51) (h51' : V.length ≤ 51) (hc : c < W.length) (hd : d < V.length) (hty : ∀ f, f < (gc W c).2.2.2.2.1.length → tyOk (gfl (gc W c) f).2.1) (hty' : ∀ g, g < (gc V d).2.2.2.2.1.length → tyOk (gfl (gc V d) g).2.1) (hQ : Q (difO (gc W c) (gc V d) 1) M) : ∀ n k, k ≤ (gc W c).2.2.2.2.1.length → (gc W c).2.2.2.2.1.length - k < n → w_Model_differ_L201 0 Q n (Int32.ofNat c) (Int32.ofNat d) w w' (Int32.ofNat (((gc W c).2.2.2.2.1.take k).countP (fun f => decide (f ∉ (gc V d).2.2.2.2.1)))) (Int32.ofNat (8 * c + k)) M
  | 0, k, hk, hn => absurd hn (by omega)
  | n + 1, k, hk, hn => by
    obtain ⟨-, hf1⟩ := id h
    obtain ⟨⟨e135, h8⟩, hh⟩ := hf1 c hc
    unfold w_Model_differ_L201
    refine ⟨by rw [l135]; exact (vp_oN (by omega)).mpr (by omega), ?_⟩
    rw [oN_tnc (k := c) (by omega), e135, lit32 8, oN_mul, oN_add]
    by_cases ek : k = (gc W c).2.2.2.2.1.length
    · refine itp (by rw [ek]; exact le_oN (Nat.le_refl _) (by omega)) ?_
      rw [ek, List.take_length]
      unfold difO at hQ
      rw [if_neg (by decide), if_pos rfl] at hQ
      exact hQ
    have hkl : k < (gc W c).2.2.2.2.1.length := by omega
    have hcl := cnt_leQ (p := fun f => decide (f ∉ (gc V d).2.2.2.2.1)) (l := (gc W c).2.2.2.2.1) (k := k)
    have hck := cnt_k (p := fun f => decide (f ∉ (gc V d).2.2.2.2.1)) (d := ([], (0, []), 0, 0, false)) hkl
    have hck : (((gc W c).2.2.2.2.1.take (k + 1)).countP (fun f => decide (f ∉ (gc V d).2.2.2.2.1))) = ((gc W c).2.2.2.2.1.take k).countP (fun f => decide (f ∉ (gc V d).2.2.2.2.1)) + (if decide (gfl (gc W c) k ∉ (gc V d).2.2.2.2.1) = true then 1 else 0) := hck
    have ih := ct_df201 hA h h' l135 l135' h51 h51' hc hd hty hty' hQ n (k + 1) (by omega) (by omega)
    rw [hck] at ih
    generalize ((gc W c).2.2.2.2.1.take k).countP (fun f => decide (f ∉ (gc V d).2.2.2.2.1)) = N at ih hcl ⊢
    refine itn (nle_oN (by omega) (by omega)) (ct_fieldLike hA h h' l135' h51 h51' hc hkl hd (hty k hkl) hty' (fun z g hg => ?_) (fun z => ?_))
    · refine itp (oN_zero_le (by omega)) ?_
      unfold w_Model_differ_j239
      rw [decide_eq_false (fun y => y z), if_neg (by decide)] at ih
      rw [lit32 1, lit32 0, oN_add, oN_add]
      exact ih
    · refine itn (by decide) ?_
      unfold w_Model_differ_j239
      rw [decide_eq_true z, if_pos rfl] at ih
      rw [lit32 1, oN_add, oN_add]
      exact ih
theorem ct_df117 (hA : A.length ≤ 200000) (hW : tCl A W w M) (hV : tCl A V w' M) (h51 : W.length ≤ 51) (h51' : V.length ≤ 51) (hc : c < W.length) (hd : d < V.length) (e : (gc W c).2.2.2.1 = (gc V d).2.2.2.1 ∧ (gc W c).2.1 = (gc V d).2.1) (el : (gc W c).2.2.1.length = (gc V d).2.2.1.length) (hQ : Q (difO (gc W c) (gc V d) 0) M) : ∀ n k (b : Bool), k ≤ (gc W c).2.2.1.length → (gc W c).2.2.1.length - k < n → ((b = true → ∀ i, i < k → gf (gc W c) i = gf (gc V d) i) ∧ ((∀ i, i < k → gf (gc W c) i = gf (gc V d) i) → b = true)) → w_Model_differ_L117 0 Q n (Int32.ofNat c) (Int32.ofNat d) w w' (b2 b) (Int32.ofNat k) M
  | 0, k, b, hk, hn, hb => absurd hn (by omega)
  | n + 1, k, b, hk, hn, hb => by
    obtain ⟨-, ⟨l131, l133, l134, l132⟩, hcl⟩ := id hW
    obtain ⟨-, ⟨e39, h4, hfc⟩, -⟩ := hcl c hc
    obtain ⟨-, ⟨l131', l133', l134', l132'⟩, hcl'⟩ := id hV
    obtain ⟨-, ⟨e39', h4', hfc'⟩, -⟩ := hcl' d hd
    have hQ' := hQ
    unfold difO at hQ
    rw [if_pos rfl] at hQ
    have fin : (b = true ↔ (gc W c).2.2.1 = (gc V d).2.2.1) → w_Model_differ_j175 0 Q (b2 b) M := fun hh => by
      unfold w_Model_differ_j175
      cases b with
      | false =>
        rw [if_neg (fun z => by have := hh.2 z.2.2; cases this)] at hQ
        exact itp rfl hQ
      | true =>
        rw [if_pos ⟨e.1, e.2, hh.1 rfl⟩] at hQ
        exact itn (by decide) hQ
    unfold w_Model_differ_L117
    refine ⟨by rw [l134]; exact (vp_oN (by omega)).mpr (by omega), ?_⟩
    rw [oN_tnc (k := c) (by omega), e39]
    by_cases ek : k = (gc W c).2.2.1.length
    · exact itp (by rw [ek]; exact le_oN (Nat.le_refl _) (by omega)) (fin ⟨fun z => gf_ext el (fun i hi => hb.1 z i (by omega)), fun z => hb.2 (fun i _ => by show (gc W c).2.2.1.getD i _ = (gc V d).2.2.1.getD i _; rw [z])⟩)
    refine itn (nle_oN (by omega) (by omega)) ?_
    cases b with
    | false => exact itp rfl (fin ⟨fun z => (by cases z), fun z => hb.2 (fun i _ => by show (gc W c).2.2.1.getD i _ = (gc V d).2.2.1.getD i _; rw [z])⟩)
    | true =>
      obtain ⟨a1, a2⟩ := hfc k (by omega)
      obtain ⟨a1', a2'⟩ := hfc' k (by omega)
      have inj := nc_inj (A := A) (by omega) a2 a2'
      refine itn (by decide) ?_
      rw [lit32 4, oN_mul, oN_mul, oN_add, oN_add, l133, l133', oN_tnc (k := 4 * c + k) (by omega), oN_tnc (k := 4 * d + k) (by omega), a1, a1']
      refine ⟨(vp_oN (by omega)).mpr (by omega), (vp_oN (by omega)).mpr (by omega), ?_⟩
      unfold w_Model_differ_j167
      rw [lit32 1, oN_add]
      by_cases cc : gf (gc W c) k = gf (gc V d) k
      · refine itp (inj.2 cc) (ct_df117 hA hW hV h51 h51' hc hd e el hQ' n (k + 1) true (by omega) (by omega) ⟨fun _ i hi => ?_, fun _ => rfl⟩)
        by_cases ei : i = k
        · rw [ei]; exact cc
        · exact hb.1 rfl i (by omega)
      · exact itn (fun z => cc (inj.1 z)) (ct_df117 hA hW hV h51 h51' hc hd e el hQ' n (k + 1) false (by omega) (by omega) ⟨fun z => (by cases z), fun z => absurd (z k (by omega)) cc⟩)
end
