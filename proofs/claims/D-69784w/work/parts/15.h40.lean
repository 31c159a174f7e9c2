/-! THE OPERATIONS value, fixed (printed by gen/va.py) -/
/-- how a value is shown -/
def shO (v : Vl) : Int32 := if v.2 = false then v.1 else if v.1 ≤ 800 then v.1 else 0
def vlO (W : List Cls) (s : Ms) (t : Nat) (lo : Bool) (a : Int32) : Int32 := if a < 0 then -1 else match topF (gU s t) with
  | none => -1
  | some f => if lo = true then (if a < (gmt (gc W f.1) f.2.1).2.2.2.2.2.1 then shO (lv f.2.2.2.1 a.toNatClampNeg) else -1) else (if a < Int32.ofNat f.2.2.2.2.length then shO (tv f.2.2.2.2 a.toNatClampNeg) else -1)
def valO (W : List Cls) (s : Ms) (b c a : Int32) : Int32 := if b < 0 ∨ 2 < b then -1 else vlO W s b.toNatClampNeg (decide (c = 0)) a
def fixO (W : List Cls) (s : Ms) (c f : Int32) : Int32 := if c < 0 ∨ Int32.ofNat W.length ≤ c then -1 else if f < 0 ∨ Int32.ofNat (gc W c.toNatClampNeg).2.2.2.2.1.length ≤ f then -1
  else if (gfl (gc W c.toNatClampNeg) f.toNatClampNeg).2.2.1 &&& 1 = 0 then -1 else shO (zS s c.toNatClampNeg f.toNatClampNeg, decide ((gfl (gc W c.toNatClampNeg) f.toNatClampNeg).2.1.1 ≠ 0))
section
variable {A : List Nm} {W : List Cls} {k C B F K t L : Nat} {br a b c d : Int32} {nq nk np nh nr : Nat} {s : Ms} {M M' : Mem} {Q : Int32 → Mem → Prop} {on : Nat → Bool} {U : List Un} {o : Option Kd} {v : Vl}
theorem c_shown {this : Nat} (hQ : Q (shO v) M) : w_Works_shown this v.1 (b2 v.2) Q M := by
  unfold w_Works_shown
  unfold shO at hQ
  cases hb : v.2 with
  | false => rw [if_pos hb] at hQ; exact itp rfl hQ
  | true =>
    rw [if_neg (by rw [hb]; decide)] at hQ
    refine itn (by decide) ?_
    by_cases c8 : v.1 ≤ 800
    · rw [if_pos c8] at hQ; exact itp c8 hQ
    · rw [if_neg c8] at hQ; exact itn c8 hQ
theorem ct_shown (hv : v.2 = true → vRf s v.1) (hQ : Q (shO v) M) : w_Model_shown (tr v.2 v.1) (b2 v.2) Q M := by
  unfold w_Model_shown
  unfold shO at hQ
  cases hb : v.2 with
  | false => rw [if_pos hb] at hQ; rw [tr_f]; exact itp rfl hQ
  | true =>
    rw [if_neg (by rw [hb]; decide)] at hQ
    refine itn (by decide) ?_
    obtain ⟨n, ⟨e1, e2, hn⟩, et, -⟩ := tr_ref (hv hb)
    rw [et]
    by_cases c8 : 800 < n
    · rw [if_pos c8]
      rw [if_neg (by rw [e1]; exact fun z => by have := (oN_le (b := 800) (by omega) (by omega)).mp z; omega)] at hQ
      exact itn (fun z => by have := (oN_lt (b := 1001) (by omega) (by omega)).mp z; omega) hQ
    · rw [if_neg c8]
      rw [if_pos (by rw [e1]; exact (oN_le (b := 800) (by omega) (by omega)).mpr (by omega))] at hQ
      rw [e1] at hQ
      exact itp ((oN_lt (b := 1001) (by omega) (by omega)).mpr (by omega)) hQ
theorem topF_st : ∀ {U : List Un} {o : Option Kd}, UO W s t o U → ∀ f, topF U = some f → ∀ j, j < f.2.2.2.2.length → (lv f.2.2.2.2 j).2 = true → vRf s (lv f.2.2.2.2 j).1
  | [], _, _, f, e => by cases e
  | .inl g :: U, o, h, f, e => by
    cases e
    intro j hj
    cases o with
    | none =>
      obtain ⟨-, h2, h3⟩ := h.2.1
      exact (h3 j (by rw [h2]; exact hj)).2
    | some κ =>
      obtain ⟨-, -, h2, h3⟩ := h.2.1
      exact (h3 j (by rw [h2]; exact hj)).2
  | .inr k :: U, o, h, f, e => topF_st h.2.2 f e
theorem topF_len : ∀ {U : List Un} {f : Fm}, stk U → topF U = some f → f.2.2.2.2.length ≤ 20
  | [], f, _, e => by cases e
  | .inl g :: U, f, h, e => by cases e; exact h.1
  | .inr k :: U, f, h, e => topF_len (U := U) h e
theorem topF_cl : ∀ {U : List Un} {f : Fm}, unT L M U → topF U = some f → mI M 175 L (frs U - 1) = Int32.ofNat f.2.2.2.2.length ∧ (∀ k, k < 20 → mI M 176 L (44 * (frs U - 1) + k) = tr (lv f.2.2.2.1 k).2 (lv f.2.2.2.1 k).1 ∧ mI M 525 L (44 * (frs U - 1) + k) = b2 (lv f.2.2.2.1 k).2) ∧ ∀ k, k < f.2.2.2.2.length → mI M 176 L (44 * (frs U - 1) + 20 + k) = tr (lv f.2.2.2.2 k).2 (lv f.2.2.2.2 k).1 ∧ mI M 525 L (44 * (frs U - 1) + 20 + k) = b2 (lv f.2.2.2.2 k).2
  | [], f, _, e => by cases e
  | .inl g :: U, f, h, e => by
    cases e
    exact ⟨h.1.2.2.2, h.2.1.1, h.2.1.2⟩
  | .inr k :: U, f, h, e => topF_cl (U := U) h.2 e
theorem lr_20 (hW : WO W) {f : Fm} (hF : FmO W s f) : ∃ l, (gmt (gc W f.1) f.2.1).2.2.2.2.2.1 = Int32.ofNat l ∧ l ≤ 20 := by
  have hm := hW.2.1 f.1 hF.1.1 hF.1.2.1 (gmt (gc W f.1) f.2.1) (getD_mem hF.2.1)
  obtain ⟨-, ⟨s1, l, -, e2, -, h2, -⟩, -⟩ := hm
  exact ⟨l, e2, h2⟩
theorem lo_vr {f : Fm} (hF : FmO W s f) (j : Nat) : (lv f.2.2.2.1 j).2 = true → vRf s (lv f.2.2.2.1 j).1 := fun hb => by
  by_cases hj : j < f.2.2.2.1.length
  · exact hF.2.2.2.2 _ (getD_mem hj) hb
  · have : lv f.2.2.2.1 j = (0, false) := by
      show List.getD _ j _ = _
      rw [List.getD_eq_getElem?_getD, List.getElem?_eq_none (by omega)]; rfl
    rw [this] at hb; cases hb
/-- value, in the works -/
theorem c_value (hk : k < 3) (hOn : cOn on M) (hon : on k = true) (hW : WO W) (hA : MA W s) (h : RA A W (k + 1) br nq nk np nh nr C B F s M) (hQ : Q (valO W s b c a) M) : w_Works_value 0 (Int32.ofNat k) b c a Q M := by
  unfold w_Works_value w_Works_isThread
  refine c_isWorld hOn (fun j hj e _ _ => ?_) (fun q => by rw [wOf_k hk, hon] at q; cases q)
  refine itn (by decide) ?_
  unfold valO at hQ
  unfold w_Works_isIn
  by_cases c0 : b < 0
  · rw [if_pos (Or.inl c0)] at hQ
    exact itp c0 (itp rfl (itp rfl hQ))
  refine itn c0 ?_
  by_cases c2 : 2 < b
  · rw [if_pos (Or.inr c2)] at hQ
    exact itp c2 (itp rfl (itp rfl hQ))
  rw [if_neg (fun z => z.elim c0 c2)] at hQ
  obtain ⟨t, hn, en, en2⟩ := i61 (m := 2) (by decide) c0 c2
  rw [en2] at hQ
  rw [en]
  have ht : t < 3 := by omega
  obtain ⟨a1, a2⟩ := hOn.at hk hon
  refine itn (by rw [← en]; exact c2) (itn (by decide) (itn (by decide) ⟨a1, k + 1, a2, by rw [h.2.2.2.2.1.1]; exact (vp_oN (by omega)).mpr ht, 3 * (k + 1) + t, ?_, ?_⟩))
  · rw [oN_tnc (k := t) (by omega)]; exact h.2.2.2.2.1.2 t ht
  obtain ⟨hL, ⟨u1, u2, hU⟩, -⟩ := h.2.2.2.2.2 t ht
  obtain ⟨⟨l89, l94, l514, -⟩, -⟩ := id hL
  have hlen := (hA.2.2.1 t ht).1.len hW
  have h51 := hW.2.2.2
  have hcw := h.1.1.1
  unfold w_Line_uppermost
  rw [u1]
  refine ⟨(gU s t).length + 1, c_upr hU (l89 92 (by omega) (by omega)) hlen (hA.sts51 hW ht) (fun r hr => ?_)⟩
  unfold vlO at hQ
  rcases hr with ⟨e, er⟩ | ⟨f, i, e, hi, hu, er⟩
  · rw [e] at hQ
    have hQ : Q (-1) M := by split at hQ <;> exact hQ
    exact itp (by rw [er]; decide) hQ
  rw [e] at hQ
  have hF := topF_ok (hA.2.2.1 t ht).1.1 _ e
  obtain ⟨l, el, hl⟩ := lr_20 hW hF
  have hc1 : f.1 < W.length := hF.1.2.1
  have hj1 : f.2.1 < (gc W f.1).2.2.2.2.2.length := hF.2.1
  obtain ⟨m1, -, m3, m4, -⟩ := hcw.mo (e := 0) hc1
  have hH := (hcw.2.1.2.2 f.1 hc1 f.2.1 hj1).1
  have hlo20 : f.2.2.2.1.length = 20 := hF.2.2.2.1
  obtain ⟨fc, fj, fa, flo, fst⟩ := f
  have hj1 : fj < (gc W fc).2.2.2.2.2.length := hj1
  have m3 : moff W fc + (gc W fc).2.2.2.2.2.length ≤ 381 := m3
  obtain ⟨⟨x89, x90, x91, -⟩, xlo, xst⟩ := hu
  have e61 : mI M 61 (k + 1) (moff W fc + fj) = Int32.ofNat l := (hH.2.2.2.2.2.2).trans el
  have hst20 : fst.length ≤ 20 := topF_len (UO.stk hW hA.1.1 (hA.2.2.1 t ht).1.1) e
  dsimp only at hQ el
  rw [er]
  refine itn (oN_nonneg (show i < 2147483648 by omega)) ?_
  by_cases a0 : a < 0
  · rw [if_pos a0] at hQ; exact itp a0 hQ
  rw [if_neg a0] at hQ
  refine itn a0 ?_
  have ea := (tnc_oN a0).symm
  have hab := tnc_lt a
  rw [oN_tnc (k := i) (by omega), x89, x91, oN_tnc (k := moff W fc + fj) (by omega)]
  rw [el] at hQ
  generalize a.toNatClampNeg = n at ea hQ hab
  subst ea
  have v91 : vp_in (Int32.ofNat i) (mL M 91 (3 * (k + 1) + t)) := by rw [l89 91 (by omega) (by omega)]; exact (vp_oN (by omega)).mpr hi
  -- a cell is shown
  have j114 : ∀ m v, m < 40 → mI M 94 (3 * (k + 1) + t) (40 * i + m) = v.1 → mI M 514 (3 * (k + 1) + t) (40 * i + m) = b2 v.2 → Q (shO v) M → w_Works_value_j114 0 Q (3 * (k + 1) + t) (Int32.ofNat m) ((40 : Int32) * Int32.ofNat i) M := fun m v hm e1 e2 hq => by
    unfold w_Works_value_j114
    rw [show (40 : Int32) * Int32.ofNat i = Int32.ofNat (40 * i) from oN_mul 40 _, oN_add, oN_tnc (k := 40 * i + m) (by omega), e1, e2]
    exact ⟨by rw [l94]; exact (vp_oN (by omega)).mpr (by omega), by rw [l514]; exact (vp_oN (by omega)).mpr (by omega), c_shown hq⟩
  unfold w_Works_value_j79
  by_cases cc : c = 0
  · rw [decide_eq_true cc, if_pos rfl] at hQ
    refine itp cc ⟨a1, k + 1, a2, by rw [l89 89 (by omega) (by omega)]; exact (vp_oN (by omega)).mpr hi, by rw [hcw.2.1.1.2.1 61 (by omega) (by omega)]; exact (vp_oN (by omega)).mpr (by omega), ?_⟩
    rw [e61]
    by_cases cl : Int32.ofNat n < Int32.ofNat l
    · rw [if_pos cl] at hQ
      have cl' := (oN_lt hab (by omega)).mp cl
      exact itp cl (itp cc (j114 n (lv flo n) (by omega) (xlo n (by omega)).1 (xlo n (by omega)).2 hQ))
    · rw [if_neg cl] at hQ
      exact itn cl hQ
  · rw [decide_eq_false cc, if_neg (by decide)] at hQ
    refine itn cc ⟨v91, ?_⟩
    by_cases cl : Int32.ofNat n < Int32.ofNat fst.length
    · rw [if_pos cl] at hQ
      have cl' := (oN_lt hab (by omega)).mp cl
      have x := xst (fst.length - 1 - n) (by omega)
      refine itp cl (itn cc ⟨v91, ?_⟩)
      rw [oN_tnc (k := i) (by omega), x91, show (20 : Int32) + Int32.ofNat fst.length = Int32.ofNat (20 + fst.length) from oN_add 20 _, show Int32.ofNat (20 + fst.length) - (1 : Int32) = Int32.ofNat (20 + fst.length - 1) from sub_n (n := 1) (by omega), sub_n (by omega)]
      refine j114 _ (tv fst n) (by omega) ?_ ?_ hQ
      · rw [show 40 * i + (20 + fst.length - 1 - n) = 40 * i + 20 + (fst.length - 1 - n) by omega]; exact x.1
      · rw [show 40 * i + (20 + fst.length - 1 - n) = 40 * i + 20 + (fst.length - 1 - n) by omega]; exact x.2
    · rw [if_neg cl] at hQ
      exact itn cl hQ
theorem RA.fld (hA : nA A) (h : RA A W (k + 1) br nq nk np nh nr C B F s M) (hW : W.length ≤ 51) {q : Nat × Nat} (h1 : q.1 < W.length) (h2 : q.2 < (gc W q.1).2.2.2.2.1.length) (hty : tyOk (gfl (gc W q.1) q.2).2.1) : (foff W q.1 + q.2 < 240 ∧ mL M 50 (k + 1) = 240 ∧ mL M 51 (k + 1) = 240 ∧ mL M 54 (k + 1) = 240) ∧ (mI M 50 (k + 1) (foff W q.1 + q.2) = 0 ↔ (gfl (gc W q.1) q.2).2.1.1 = 0) ∧ mI M 51 (k + 1) (foff W q.1 + q.2) = (gfl (gc W q.1) q.2).2.2.1 := by
  obtain ⟨⟨-, ⟨l1, l2, l3, l4, l5, l6, l7⟩, -⟩, fl2, fl3⟩ := h.1.1.1.1.2.1
  obtain ⟨g1, g2⟩ := gF1_at h1 h2
  have hfo := foff_le (W := W) (fun c hc => ⟨(fl2 c hc).2.1, (fl2 c hc).2.2⟩) W.length (Nat.le_refl _)
  rw [foff_all] at hfo
  obtain ⟨-, ⟨k1, k2⟩, k3, -⟩ := fl3 _ g1
  rw [g2] at k1 k2 k3
  refine ⟨⟨by omega, l2, l3, l7⟩, ?_, k3⟩
  rw [k1, kC_num hty k2 hA.1]
  constructor
  · intro z; rw [z]
  · intro z
    rcases hty with y | y | y
    · exact y
    · rw [y] at z; exact absurd z (by decide)
    · rw [y] at z; exact absurd z (by decide)
/-- fixed, in the works -/
theorem c_fixed (hk : k < 3) (hOn : cOn on M) (hon : on k = true) (hW : WO W) (hnA : nA A) (hty : ∀ c f, c < W.length → f < (gc W c).2.2.2.2.1.length → tyOk (gfl (gc W c) f).2.1) (h : RA A W (k + 1) br nq nk np nh nr C B F s M) (hQ : Q (fixO W s c d) M) : w_Works_fixed 0 (Int32.ofNat k) c d Q M := by
  unfold w_Works_fixed w_Works_isClass
  refine c_isWorld hOn (fun j hj e _ _ => ?_) (fun q => by rw [wOf_k hk, hon] at q; cases q)
  refine itn (by decide) ?_
  obtain ⟨a1, a2⟩ := hOn.at hk hon
  have h51 := hW.2.2.2
  have h21 := hW.1.1
  have hcw := h.1.1.1
  refine ⟨a1, k + 1, a2, ?_⟩
  rw [hcw.1.1.1.1.1, show Int32.ofNat W.length - (1 : Int32) = Int32.ofNat (W.length - 1) from sub_n (n := 1) (by omega)]
  unfold fixO at hQ
  unfold w_Works_isIn
  by_cases c0 : c < 0
  · rw [if_pos (Or.inl c0)] at hQ
    exact itp c0 (itp rfl (itp rfl hQ))
  refine itn c0 ?_
  by_cases c1 : Int32.ofNat W.length ≤ c
  · rw [if_pos (Or.inr c1)] at hQ
    refine itp ?_ (itp rfl (itp rfl hQ))
    rw [← tnc_oN c0] at c1 ⊢
    have := (oN_le (by omega) (tnc_lt c)).mp c1
    exact (oN_lt (by omega) (tnc_lt c)).mpr (by omega)
  rw [if_neg (fun z => z.elim c0 c1)] at hQ
  have hi := idx_lt (by omega) c0 c1
  have ec := (tnc_oN c0).symm
  generalize c.toNatClampNeg = i at hi ec hQ
  subst ec
  obtain ⟨⟨-, -, l41, l42⟩, fl2, -⟩ := hcw.1.2.1
  obtain ⟨⟨e41, e42⟩, h8, -⟩ := fl2 i hi
  refine itn (fun z => by have := (oN_lt (by omega) (by omega)).mp z; omega) (itn (by decide) (itn (by decide) ⟨a1, k + 1, a2, ?_⟩))
  unfold w_Works_isField w_Works_isIn
  rw [oN_tnc (k := i) (by omega), e42]
  refine ⟨by rw [l42]; exact (vp_oN (by omega)).mpr (by omega), ?_⟩
  by_cases d0 : d < 0
  · rw [if_pos (Or.inl d0)] at hQ
    exact itp d0 ⟨Or.inl rfl, itp rfl hQ⟩
  refine itn d0 ?_
  by_cases d1 : Int32.ofNat (gc W i).2.2.2.2.1.length ≤ d
  · rw [if_pos (Or.inr d1)] at hQ
    refine itp ?_ ⟨Or.inl rfl, itp rfl hQ⟩
    rw [← tnc_oN d0] at d1 ⊢
    have hdb := tnc_lt d
    have d1 := (oN_le (by omega) hdb).mp d1
    rcases Nat.eq_zero_or_pos (gc W i).2.2.2.2.1.length with z | z
    · rw [z]
      exact Int32.lt_of_lt_of_le (show Int32.ofNat 0 - 1 < 0 by decide) (oN_zero_le hdb)
    · rw [show Int32.ofNat (gc W i).2.2.2.2.1.length - (1 : Int32) = Int32.ofNat ((gc W i).2.2.2.2.1.length - 1) from sub_n (n := 1) z]
      exact (oN_lt (by omega) hdb).mpr (by omega)
  rw [if_neg (fun z => z.elim d0 d1)] at hQ
  have hj := idx_lt (by omega) d0 d1
  have ed := (tnc_oN d0).symm
  generalize d.toNatClampNeg = f at hj ed hQ
  subst ed
  obtain ⟨⟨fo, l50, l51, l54⟩, hk0, e51⟩ := h.fld hnA h51 (q := (i, f)) hi hj (hty i f hi hj)
  dsimp only at fo hk0 e51
  refine itn (fun z => ?_) ⟨Or.inr rfl, itn (by decide) ⟨a1, k + 1, a2, by rw [l41]; exact (vp_oN (by omega)).mpr (by omega), ?_⟩⟩
  · rw [show Int32.ofNat (gc W i).2.2.2.2.1.length - (1 : Int32) = Int32.ofNat ((gc W i).2.2.2.2.1.length - 1) from sub_n (n := 1) (by omega)] at z
    have := (oN_lt (by omega) (by omega)).mp z
    omega
  rw [e41, oN_add, oN_tnc (k := foff W i + f) (by omega), e51]
  refine ⟨by rw [l51]; exact (vp_oN (by omega)).mpr fo, ?_⟩
  by_cases c3 : (gfl (gc W i) f).2.2.1 &&& 1 = 0
  · rw [if_pos c3] at hQ
    exact itp c3 hQ
  rw [if_neg c3] at hQ
  refine itn c3 ⟨by rw [l54]; exact (vp_oN (by omega)).mpr fo, by rw [l50]; exact (vp_oN (by omega)).mpr fo, ?_⟩
  rw [h.2.1.2 i f hi hj c3]
  unfold w_Works_fixed_j87
  by_cases k0 : (gfl (gc W i) f).2.1.1 = 0
  · rw [decide_eq_false (fun z => z k0)] at hQ
    exact itp (hk0.mpr k0) (c_shown (v := (zS s i f, false)) hQ)
  · rw [decide_eq_true k0] at hQ
    exact itn (fun z => k0 (hk0.mp z)) (c_shown (v := (zS s i f, true)) hQ)
end
section
variable {G : List Sl} {US : UST} {A : List Nm} {S : List Sg} {W : List Cls} {k C B F K ud t : Nat} {br a b c d x : Int32} {nq nl nf nk : Nat} {s : Ms} {M M' : Mem} {Q : Int32 → Mem → Prop} {on : Nat → Bool}
/-- value, in the twin -/
theorem ct_value (hk : k < 3) (hOn : tOn on M) (hon : on k = true) (hW : WO W) (hA : MA W s) (hN : NTs s) (h : TAx G US A S W k br nq nl nf nk B F x s M) (hQ : Q (valO W s b c a) M) : w_Model_value 0 (Int32.ofNat k) b c a Q M := by
  unfold w_Model_value
  refine ct_isWorld hOn (fun j hj e _ _ => ?_) (fun q => by rw [wOf_k hk, hon] at q; cases q)
  refine itn (by decide) ?_
  unfold valO at hQ
  unfold w_Model_isThread
  by_cases c0 : b < 0
  · rw [if_pos (Or.inl c0)] at hQ
    exact itp c0 (itp rfl hQ)
  refine itn c0 ?_
  by_cases c2 : 2 < b
  · rw [if_pos (Or.inr c2)] at hQ
    refine itp ?_ (itp rfl hQ)
    rw [Int32.lt_iff_toInt_lt, show (2 : Int32).toInt = 2 from rfl] at c2
    rw [Int32.le_iff_toInt_le, show (3 : Int32).toInt = 3 from rfl]
    omega
  rw [if_neg (fun z => z.elim c0 c2)] at hQ
  obtain ⟨t, hn, en, en2⟩ := i61 (m := 2) (by decide) c0 c2
  rw [en2] at hQ
  rw [en]
  have ht : t < 3 := by omega
  refine itn (fun z => by have := (oN_le (a := 3) (b := t) (by omega) (by omega)).mp z; omega) (itn (by decide) ?_)
  unfold vlO at hQ
  by_cases a0 : a < 0
  · rw [if_pos a0] at hQ; exact itn (Int32.not_le.mpr a0) hQ
  rw [if_neg a0] at hQ
  obtain ⟨a1, a2⟩ := hOn.at hk
  have hT : TA G US A S W k br nq nl nf nk B F x s (sR M 11 0 45 (some (12, k))) := h
  have l704 : mL M 704 k = 3 := hT.2.2.2.2.1.1
  have r704 : ∀ t, t < 3 → mR M 704 k t = some (13, 3 * k + t) := fun t ht => by
    have := hT.2.2.2.2.1.2 t ht
    rw [mR_sR, if_neg (fun z => absurd z.1 (by decide))] at this
    exact this
  refine itp (Int32.not_lt.mp a0) ⟨a1, k, a2, by rw [l704]; exact (vp_oN (by omega)).mpr ht, 3 * k + t, ?_, ?_⟩
  · rw [oN_tnc (k := t) (by omega)]; exact r704 t ht
  have hX := hA.2.1 t ht
  obtain ⟨⟨hln, e0, hw, hp1⟩, hst⟩ := hT.2.2.2.2.2.2 t ht
  have e0 : mI M 13 (3 * k + t) 0 = (if (zN s t).1 = true then Int32.ofNat (lSt (zN s t)) else -2) := e0
  have l173 : mL M 173 (3 * k + t) = 40 := hln.2.2.2.1
  have l175 : mL M 175 (3 * k + t) = 40 := hln.2.2.2.2.2.1
  have l176 : mL M 176 (3 * k + t) = 1760 := hln.2.2.2.2.2.2.1
  have l525 : mL M 525 (3 * k + t) = 1760 := hln.2.2.2.2.2.2.2
  have none' : topF (gU s t) = none → ∀ z : Int32, z < 0 → w_Model_value_j60 0 Q c a k (3 * k + t) z M := fun ef z hz => by
    rw [ef] at hQ
    unfold w_Model_value_j60
    exact itp hz hQ
  cases hb : (zN s t).1 with
  | false =>
    rw [if_neg (by rw [hb]; decide)] at e0
    obtain ⟨-, -, h4⟩ := hN t ht hb
    exact itp e0 (none' (by rw [h4]; rfl) (-1) (by decide))
  | true =>
    rw [if_pos hb] at e0
    obtain ⟨-, ⟨u1, u2, hU⟩, -⟩ := hst hb
    have u2 : mI M 13 (3 * k + t) 22 = Int32.ofNat (frs (gU s t)) := u2
    have hst2 := hX.2.1.1
    have hf40 := (hA.2.2.1 t ht).1.2.2
    have ne2 : ¬ Int32.ofNat (lSt (zN s t)) = -2 := fun z => by
      have := oN_nonneg (show lSt (zN s t) < 2147483648 by omega)
      rw [z] at this
      exact absurd (by decide) this
    refine itn (by rw [e0]; exact ne2) ?_
    rw [u2]
    cases ef : topF (gU s t) with
    | none =>
      have z := topF_frs.mp ef
      exact none' ef _ (by rw [z]; decide)
    | some f =>
      rw [ef] at hQ
      have z : frs (gU s t) ≠ 0 := fun z => by rw [topF_frs.mpr z] at ef; cases ef
      obtain ⟨y1, -⟩ := topF_un hU ef
      obtain ⟨y3, ylo, yst⟩ := topF_cl hU ef
      have y1 : mI M 173 (3 * k + t) (frs (gU s t) - 1) = Int32.ofNat (12 * f.1 + f.2.1) := y1
      have y3 : mI M 175 (3 * k + t) (frs (gU s t) - 1) = Int32.ofNat f.2.2.2.2.length := y3
      have ylo : ∀ j, j < 20 → mI M 176 (3 * k + t) (44 * (frs (gU s t) - 1) + j) = tr (lv f.2.2.2.1 j).2 (lv f.2.2.2.1 j).1 ∧ mI M 525 (3 * k + t) (44 * (frs (gU s t) - 1) + j) = b2 (lv f.2.2.2.1 j).2 := ylo
      have yst : ∀ j, j < f.2.2.2.2.length → mI M 176 (3 * k + t) (44 * (frs (gU s t) - 1) + 20 + j) = tr (lv f.2.2.2.2 j).2 (lv f.2.2.2.2 j).1 ∧ mI M 525 (3 * k + t) (44 * (frs (gU s t) - 1) + 20 + j) = b2 (lv f.2.2.2.2 j).2 := yst
      have hF := topF_ok (hA.2.2.1 t ht).1.1 _ ef
      have hsv := topF_st (hA.2.2.1 t ht).1.1 _ ef
      obtain ⟨l, el, hl⟩ := lr_20 hW hF
      have hc1 : f.1 < W.length := hF.1.2.1
      have hj1 : f.2.1 < (gc W f.1).2.2.2.2.2.length := hF.2.1
      have h12 := (hT.1.1.mcn hc1).2
      have h51 := hW.2.2.2
      have e148 : mI M 148 k (12 * f.1 + f.2.1) = Int32.ofNat l := by
        have := (hT.1.1.hd hc1 hj1).2.2.2.2.2
        exact Eq.trans this el
      have l148 : mL M 148 k = 612 := hT.1.1.ml (f := 148) (by omega) (by omega)
      have hst20 : f.2.2.2.2.length ≤ 20 := topF_len (UO.stk hW hA.1.1 (hA.2.2.1 t ht).1.1) ef
      dsimp only at hQ
      rw [el] at hQ
      have ea := (tnc_oN a0).symm
      have hab := tnc_lt a
      generalize a.toNatClampNeg = n at ea hQ hab
      subst ea
      rw [show Int32.ofNat (frs (gU s t)) - (1 : Int32) = Int32.ofNat (frs (gU s t) - 1) from sub_n (n := 1) (by omega)]
      obtain ⟨i, hi⟩ : ∃ i, i = frs (gU s t) - 1 := ⟨_, rfl⟩
      rw [← hi] at y1 y3 ylo yst ⊢
      have hi40 : i < 40 := by omega
      -- a cell is shown
      have j133 : ∀ m v, m < 40 → mI M 176 (3 * k + t) (44 * i + m) = tr v.2 v.1 → mI M 525 (3 * k + t) (44 * i + m) = b2 v.2 → (v.2 = true → vRf s v.1) → Q (shO v) M → w_Model_value_j133 0 Q (3 * k + t) (Int32.ofNat m) ((44 : Int32) * Int32.ofNat i) M := fun m v hm e1 e2 hv hq => by
        unfold w_Model_value_j133
        rw [show (44 : Int32) * Int32.ofNat i = Int32.ofNat (44 * i) from oN_mul 44 _, oN_add, oN_tnc (k := 44 * i + m) (by omega), e1, e2]
        exact ⟨by rw [l176]; exact (vp_oN (by omega)).mpr (by omega), by rw [l525]; exact (vp_oN (by omega)).mpr (by omega), ct_shown hv hq⟩
      have v175 : vp_in (Int32.ofNat i) (mL M 175 (3 * k + t)) := by rw [l175]; exact (vp_oN (by omega)).mpr hi40
      unfold w_Model_value_j60
      refine itn (oN_nonneg (show i < 2147483648 by omega)) ?_
      rw [oN_tnc (k := i) (by omega), y1, y3, oN_tnc (k := 12 * f.1 + f.2.1) (by omega), e148]
      unfold w_Model_value_j98
      by_cases cc : c = 0
      · rw [decide_eq_true cc, if_pos rfl] at hQ
        refine itp cc ⟨by rw [l173]; exact (vp_oN (by omega)).mpr hi40, by rw [l148]; exact (vp_oN (by omega)).mpr (by omega), ?_⟩
        by_cases cl : Int32.ofNat n < Int32.ofNat l
        · rw [if_pos cl] at hQ
          have cl' := (oN_lt hab (by omega)).mp cl
          exact itp cl (itp cc (j133 n (lv f.2.2.2.1 n) (by omega) (ylo n (by omega)).1 (ylo n (by omega)).2 (lo_vr hF n) hQ))
        · rw [if_neg cl] at hQ
          exact itn cl hQ
      · rw [decide_eq_false cc, if_neg (by decide)] at hQ
        refine itn cc ⟨v175, ?_⟩
        by_cases cl : Int32.ofNat n < Int32.ofNat f.2.2.2.2.length
        · rw [if_pos cl] at hQ
          have cl' := (oN_lt hab (by omega)).mp cl
          have y := yst (f.2.2.2.2.length - 1 - n) (by omega)
          refine itp cl (itn cc ⟨v175, ?_⟩)
          rw [oN_tnc (k := i) (by omega), y3, show (20 : Int32) + Int32.ofNat f.2.2.2.2.length = Int32.ofNat (20 + f.2.2.2.2.length) from oN_add 20 _, show Int32.ofNat (20 + f.2.2.2.2.length) - (1 : Int32) = Int32.ofNat (20 + f.2.2.2.2.length - 1) from sub_n (n := 1) (by omega), sub_n (by omega)]
          refine j133 _ (tv f.2.2.2.2 n) (by omega) ?_ ?_ (hsv _ (by omega)) hQ
          · rw [show 44 * i + (20 + f.2.2.2.2.length - 1 - n) = 44 * i + 20 + (f.2.2.2.2.length - 1 - n) by omega]; exact y.1
          · rw [show 44 * i + (20 + f.2.2.2.2.length - 1 - n) = 44 * i + 20 + (f.2.2.2.2.length - 1 - n) by omega]; exact y.2
        · rw [if_neg cl] at hQ
          exact itn cl hQ
/-- fixed, in the twin -/
theorem ct_fixed (hk : k < 3) (hOn : tOn on M) (hon : on k = true) (hW : WO W) (hG : GL W s) (hty : ∀ c f, c < W.length → f < (gc W c).2.2.2.2.1.length → tyOk (gfl (gc W c) f).2.1) (h : TAx G US A S W k br nq nl nf nk B F x s M) (hQ : Q (fixO W s c d) M) : w_Model_fixed 0 (Int32.ofNat k) c d Q M := by
  unfold w_Model_fixed w_Model_isClass
  refine ct_isWorld hOn (fun j hj e _ _ => ?_) (fun q => by rw [wOf_k hk, hon] at q; cases q)
  refine itn (by decide) ?_
  obtain ⟨a1, a2⟩ := hOn.at hk
  have h51 := hW.2.2.2
  have hT : TA G US A S W k br nq nl nf nk B F x s (sR M 11 0 45 (some (12, k))) := h
  unfold fixO at hQ
  by_cases c0 : c < 0
  · rw [if_pos (Or.inl c0)] at hQ
    exact itp c0 (itp rfl hQ)
  refine itn c0 ⟨a1, k, a2, ?_⟩
  rw [show mI M 12 k 2 = Int32.ofNat W.length from hT.1.1.cl.1.1.1]
  by_cases c1 : Int32.ofNat W.length ≤ c
  · rw [if_pos (Or.inr c1)] at hQ
    exact itp c1 (itp rfl hQ)
  rw [if_neg (fun z => z.elim c0 c1)] at hQ
  have hi := idx_lt (by omega) c0 c1
  refine itn c1 (itn (by decide) ?_)
  have ec := (tnc_oN c0).symm
  generalize c.toNatClampNeg = i at hi ec hQ
  subst ec
  have hLA := hT.1.1.2.2.1
  obtain ⟨⟨-, l140, l141, -, -, l143⟩, hf⟩ := hT.1.1.1.1.1.2.1
  obtain ⟨⟨e135, h8⟩, hf⟩ := hf i hi
  have l140 : mL M 140 k = 408 := l140
  have l141 : mL M 141 k = 408 := l141
  have l143 : mL M 143 k = 408 := l143
  have l135 : mL M 135 k = 51 := hT.1.1.1.1.1.1.2.2.2.1
  have e135 : mI M 135 k i = Int32.ofNat (gc W i).2.2.2.2.1.length := e135
  by_cases d0 : d < 0
  · rw [if_pos (Or.inl d0)] at hQ
    exact itp d0 hQ
  refine itn d0 ⟨a1, k, a2, by rw [l135]; exact (vp_oN (by omega)).mpr (by omega), ?_⟩
  rw [e135]
  by_cases d1 : Int32.ofNat (gc W i).2.2.2.2.1.length ≤ d
  · rw [if_pos (Or.inr d1)] at hQ
    exact itn (Int32.not_lt.mpr d1) hQ
  rw [if_neg (fun z => z.elim d0 d1)] at hQ
  have hj := idx_lt (by omega) d0 d1
  refine itp (Int32.not_le.mp d1) ⟨a1, k, a2, ?_⟩
  have ed := (tnc_oN d0).symm
  generalize d.toNatClampNeg = f at hj ed hQ
  subst ed
  obtain ⟨-, ⟨e140, ko⟩, e141, -⟩ := hf f hj
  have e140 : mI M 140 k (8 * i + f) = kt A (gfl (gc W i) f).2.1 := e140
  have e141 : mI M 141 k (8 * i + f) = (gfl (gc W i) f).2.2.1 := e141
  have hk0 := kt_num (hty i f hi hj) ko (by omega)
  rw [show (8 : Int32) * Int32.ofNat i = Int32.ofNat (8 * i) from oN_mul 8 _, oN_add, oN_tnc (k := 8 * i + f) (by omega), e141, e140]
  refine ⟨by rw [l141]; exact (vp_oN (by omega)).mpr (by omega), ?_⟩
  by_cases c3 : (gfl (gc W i) f).2.2.1 &&& 1 = 0
  · rw [if_pos c3] at hQ
    exact itp c3 hQ
  rw [if_neg c3] at hQ
  refine itn c3 ⟨by rw [l143]; exact (vp_oN (by omega)).mpr (by omega), by rw [l140]; exact (vp_oN (by omega)).mpr (by omega), ?_⟩
  have e143 : mI M 143 k (8 * i + f) = tr (decide ((gfl (gc W i) f).2.1.1 ≠ 0)) (zS s i f) := hT.2.1.2 i f hi hj c3
  have hv := (hG.2.2.1.1 i f hi hj c3).2
  rw [e143]
  unfold w_Model_fixed_j88
  by_cases k0 : (gfl (gc W i) f).2.1.1 = 0
  · rw [decide_eq_false (fun z => z k0)] at hQ hv ⊢
    have k1 : (gfl (gc W i) f).2.1 = (0, []) := by
      rcases hty i f hi hj with y | y | y
      · exact y
      · rw [y] at k0; exact absurd k0 (by decide)
      · rw [y] at k0; exact absurd k0 (by decide)
    exact itp (hk0.mpr k1) (ct_shown (v := (zS s i f, false)) hv hQ)
  · rw [decide_eq_true k0] at hQ hv ⊢
    exact itn (fun z => k0 (by rw [hk0.mp z])) (ct_shown (v := (zS s i f, true)) hv hQ)
end
