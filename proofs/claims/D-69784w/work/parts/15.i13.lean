/-! collect in the works: the loops that mark -/
theorem LU.at {W : List Cls} {L : Nat} {M : Mem} {u : Un} {V : List Un} : ∀ {X : List Un}, LU W L M (X ++ u :: V) → unR W L V.length M u
  | [], h => h.1
  | _ :: X, h => LU.at (X := X) h.2
theorem stk_app {f : Fm} {V : List Un} : ∀ {X : List Un}, stk (X ++ .inl f :: V) → f.2.2.2.2.length ≤ 20
  | [], h => h.1
  | .inl _ :: X, h => stk_app (X := X) h.2
  | .inr _ :: X, h => stk_app (X := X) h
theorem sts_app {k : Nat × Bool} {V : List Un} : ∀ {X : List Un}, k.1 ∈ sts (X ++ .inr k :: V)
  | [] => List.mem_cons_self
  | .inl _ :: X => sts_app (X := X)
  | .inr _ :: X => List.mem_cons_of_mem _ (sts_app (X := X))
theorem selL_no {P : Nat → Bool} {g : Nat → Int32} : ∀ {n : Nat}, (∀ k, k < n → P k = false) → selL P g n = []
  | 0, _ => rfl
  | n + 1, h => by rw [selL_s, selL_no (fun k hk => h k (by omega)), h n (by omega)]; rfl
theorem mkL_sel {p : MP} {P : Nat → Bool} {g : Nat → Int32} {n : Nat} : mkL p (selL P g (n + 1)) = if P n = true then mkM (mkL p (selL P g n)) (g n) else mkL p (selL P g n) := by
  rw [selL_s, mkL_app]
  by_cases c : P n = true
  · rw [if_pos c, if_pos c, mkL_one]
  · rw [if_neg c, if_neg c, mkL_nil]
def rtN (W : List Cls) (s : Ms) : Nat → List Int32
  | 0 => fxA W s (W.length - 21)
  | t + 1 => rtN W s t ++ unV (gU s t)
theorem rtN_3 {W : List Cls} {s : Ms} : rtN W s 3 = rtA W s := rfl
theorem kC_z {A : List Nm} {κ : Kd} (hty : tyOk κ) (ko : kok A κ) (hA : nA A) : kC A κ = 0 ↔ κ.1 = 0 := by
  rw [kC_num hty ko hA.1]
  constructor
  · intro z; rw [z]
  · intro z
    rcases hty with y | y | y
    · exact y
    · rw [y] at z; exact absurd z (by decide)
    · rw [y] at z; exact absurd z (by decide)
/-- a world, and room for what moves -/
abbrev RC (A : List Nm) (W : List Cls) (w : Nat) (br : Int32) (nq nk np nh nr C B F : Nat) (s : Ms) (M : Mem) : Prop := RA A W w br nq nk np nh nr C B F s M ∧ mL M 83 w = 4000
theorem RC.mk {A : List Nm} {W : List Cls} {w : Nat} {br : Int32} {nq nk np nh nr C B F : Nat} {s : Ms} {M M' : Mem} (h : RC A W w br nq nk np nh nr C B F s M) (hf : Fr SMk M M') : RC A W w br nq nk np nh nr C B F s M' := ⟨h.1.mk hf, (hf.L rfl w).trans h.2⟩
section
variable {A : List Nm} {W : List Cls} {w k C B F K c t r : Nat} {br x v2 v3 : Int32} {nq nk np nh nr : Nat} {s : Ms} {M M' : Mem} {p p0 : MP} {Q : Int32 → Mem → Prop}
theorem c_cl37 {k16 : Int32 → Mem → Prop} (hW : WO W) (hnA : nA A) (hty : ∀ c f, c < W.length → f < (gc W c).2.2.2.2.1.length → tyOk (gfl (gc W c) f).2.1) (hc : c < W.length) (hp : okP p0) (hk : ∀ M', RC A W (k + 1) br nq nk np nh nr C B F s M' → cMk (k + 1) (mkL p0 (fxV W s c (gc W c).2.2.2.2.1.length)) M' → k16 (Int32.ofNat (c + 1)) M') : ∀ n f M, f ≤ (gc W c).2.2.2.2.1.length → (gc W c).2.2.2.2.1.length - f < n → RC A W (k + 1) br nq nk np nh nr C B F s M → cMk (k + 1) (mkL p0 (fxV W s c f)) M → w_Machine_collect_L37 (k + 1) Q k16 n (Int32.ofNat c) (Int32.ofNat (foff W c + f)) M
  | 0, f, M, hf, hn, h, hm => absurd hn (by omega)
  | n + 1, f, M, hf, hn, h, hm => by
    have h51 := hW.2.2.2
    obtain ⟨⟨-, -, l41, l42⟩, fl2, -⟩ := id h.1.1.1.1.1.2.1
    obtain ⟨⟨e41, e42⟩, h8, -⟩ := fl2 c hc
    have hfo := foff_le (W := W) (fun c hc => ⟨(fl2 c hc).2.1, (fl2 c hc).2.2⟩) c (by omega)
    unfold w_Machine_collect_L37
    rw [oN_tnc (k := c) (by omega), oN_tnc (k := foff W c + f) (by omega), e41, e42, oN_add, l41, l42]
    refine ⟨(vp_oN (by omega)).mpr (by omega), (vp_oN (by omega)).mpr (by omega), ?_⟩
    by_cases ef : f = (gc W c).2.2.2.2.1.length
    · refine itp (le_oN (by omega) (by omega)) ?_
      rw [lit32 1, oN_add]
      rw [ef] at hm
      exact hk M h hm
    refine itn (nle_oN (by omega) (by omega)) ?_
    obtain ⟨⟨fo, l50, l51, l54⟩, hk0, e51⟩ := h.1.fld hnA h51 (q := (c, f)) hc (by show f < (gc W c).2.2.2.2.1.length; omega) (hty c f hc (by omega))
    dsimp only at fo hk0 e51
    have go : ∀ M', RC A W (k + 1) br nq nk np nh nr C B F s M' → cMk (k + 1) (mkL p0 (fxV W s c (f + 1))) M' → w_Machine_collect_j99 (k + 1) Q k16 (w_Machine_collect_L37 (k + 1) Q k16 n) (Int32.ofNat c) (Int32.ofNat (foff W c + f)) M' := fun M' h' hm' => by
      unfold w_Machine_collect_j99
      rw [lit32 1, oN_add]
      exact c_cl37 hW hnA hty hc hp hk n (f + 1) M' (by omega) (by omega) h' hm'
    have es := mkL_sel (p := p0) (P := fun f => decide (¬ (gfl (gc W c) f).2.2.1 &&& 1 = 0 ∧ (gfl (gc W c) f).2.1.1 ≠ 0)) (g := fun f => zS s c f) (n := f)
    rw [e51, l51]
    refine ⟨(vp_oN (by omega)).mpr fo, ?_⟩
    by_cases c1 : (gfl (gc W c) f).2.2.1 &&& 1 = 0
    · refine itp c1 (go M h ?_)
      rw [if_neg (fun z => (of_decide_eq_true z).1 c1)] at es
      unfold fxV at hm ⊢
      rw [es]; exact hm
    refine itn c1 ⟨by rw [l50]; exact (vp_oN (by omega)).mpr fo, ?_⟩
    by_cases c2 : (gfl (gc W c) f).2.1.1 = 0
    · refine itp (hk0.mpr c2) (go M h ?_)
      rw [if_neg (fun z => (of_decide_eq_true z).2 c2)] at es
      unfold fxV at hm ⊢
      rw [es]; exact hm
    refine itn (fun z => c2 (hk0.mp z)) ⟨by rw [l54]; exact (vp_oN (by omega)).mpr fo, ?_⟩
    rw [h.1.2.1.2 c f hc (by omega) c1]
    refine c_reaches hm hp.mkl (fun M' hm' hf' => go M' (RC.mk h hf') ?_)
    rw [if_pos (decide_eq_true ⟨c1, c2⟩)] at es
    unfold fxV at hm' ⊢
    rw [es]; exact hm'
theorem c_cl16 (hW : WO W) (hnA : nA A) (hty : ∀ c f, c < W.length → f < (gc W c).2.2.2.2.1.length → tyOk (gfl (gc W c) f).2.1) (hE : ∀ M', RC A W (k + 1) br nq nk np nh nr C B F s M' → cMk (k + 1) (mkL mp0 (fxA W s (W.length - 21))) M' → ∃ n, w_Machine_collect_L121 (k + 1) Q n (Int32.ofNat (mL M' 700 (k + 1))) 0 M') : ∀ n c M, 21 ≤ c → c ≤ W.length → W.length - c < n → RC A W (k + 1) br nq nk np nh nr C B F s M → cMk (k + 1) (mkL mp0 (fxA W s (c - 21))) M → w_Machine_collect_L16 (k + 1) Q n (Int32.ofNat c) M
  | 0, c, M, h1, h2, hn, h, hm => absurd hn (by omega)
  | n + 1, c, M, h1, h2, hn, h, hm => by
    have h51 := hW.2.2.2
    unfold w_Machine_collect_L16
    rw [h.1.1.1.1.1.1.1.1.1]
    by_cases ec : c = W.length
    · refine itp (le_oN (by omega) (by omega)) ?_
      rw [ec] at hm
      exact hE M h hm
    refine itn (nle_oN (by omega) (by omega)) ?_
    obtain ⟨⟨-, -, l41, l42⟩, fl2, -⟩ := id h.1.1.1.1.1.2.1
    obtain ⟨⟨e41, e42⟩, h8, -⟩ := fl2 c (by omega)
    rw [oN_tnc (k := c) (by omega), e41, l41]
    refine ⟨(vp_oN (by omega)).mpr (by omega), (gc W c).2.2.2.2.1.length + 1, ?_⟩
    refine c_cl37 hW hnA hty (by omega) (p0 := mkL mp0 (fxA W s (c - 21))) okP.z.mkl (fun M' h' hm' => ?_) _ 0 M (Nat.zero_le _) (by omega) h hm
    refine c_cl16 hW hnA hty hE n (c + 1) M' (by omega) (by omega) (by omega) h' ?_
    rw [show c + 1 - 21 = (c - 21) + 1 by omega]
    unfold fxA
    rw [mkL_app, show 21 + (c - 21) = c by omega]
    exact hm'
theorem c_cl161 {k121 : Int32 → Int32 → Mem → Prop} {k134 : Int32 → Int32 → Nat → Int32 → Mem → Prop} {X V : List Un} {fc fj fa : Nat} {lo st : List Vl} (ht : t < 3) (hg : gU s t = X ++ .inl (fc, fj, fa, lo, st) :: V) (hv : V.length < 91) (hst : st.length ≤ 20) (hp : okP p0) (hk : ∀ M', RC A W (k + 1) br nq nk np nh nr C B F s M' → cMk (k + 1) (mkL p0 (frV lo st (20 + st.length))) M' → k134 v2 v3 (3 * (k + 1) + t) (Int32.ofNat (V.length + 1)) M') : ∀ n i M, i ≤ 20 + st.length → 20 + st.length - i < n → RC A W (k + 1) br nq nk np nh nr C B F s M → cMk (k + 1) (mkL p0 (frV lo st i)) M → w_Machine_collect_L161 (k + 1) Q k121 k134 n v2 v3 (3 * (k + 1) + t) (Int32.ofNat V.length) (Int32.ofNat i) M
  | 0, i, M, hi, hn, h, hm => absurd hn (by omega)
  | n + 1, i, M, hi, hn, h, hm => by
    obtain ⟨⟨⟨l89, l94, l514, -⟩, -⟩, ⟨u1, u2, hU⟩, -⟩ := id (h.1.2.2.2.2.2 t ht)
    have hU : LU W (3 * (k + 1) + t) M (gU s t) := hU
    rw [hg] at hU
    obtain ⟨⟨-, -, e91, -⟩, elo, est⟩ := hU.at
    unfold w_Machine_collect_L161
    rw [oN_tnc (k := V.length) (by omega), e91, l89 91 (by omega) (by omega), lit32 20, oN_add]
    refine ⟨(vp_oN (by omega)).mpr hv, ?_⟩
    by_cases ei : i = 20 + st.length
    · refine itp (le_oN (by omega) (by omega)) ?_
      unfold w_Machine_collect_j218
      rw [lit32 1, oN_add]
      rw [ei] at hm
      exact hk M h hm
    refine itn (nle_oN (by omega) (by omega)) ?_
    rw [lit32 40, oN_mul, oN_add, oN_tnc (k := 40 * V.length + i) (by omega), l514, l94]
    have er : mI M 94 (3 * (k + 1) + t) (40 * V.length + i) = (frK lo st i).1 ∧ mI M 514 (3 * (k + 1) + t) (40 * V.length + i) = b2 (frK lo st i).2 := by
      unfold frK
      by_cases c20 : i < 20
      · rw [if_pos c20]; exact elo i c20
      · rw [if_neg c20]
        have := est (i - 20) (by omega)
        rw [show 40 * V.length + 20 + (i - 20) = 40 * V.length + i by omega] at this
        exact this
    have go : ∀ M', RC A W (k + 1) br nq nk np nh nr C B F s M' → cMk (k + 1) (mkL p0 (frV lo st (i + 1))) M' → w_Machine_collect_j212 (k + 1) Q k121 k134 (w_Machine_collect_L161 (k + 1) Q k121 k134 n) v2 v3 (3 * (k + 1) + t) (Int32.ofNat V.length) (Int32.ofNat i) M' := fun M' h' hm' => by
      unfold w_Machine_collect_j212
      rw [lit32 1, oN_add]
      exact c_cl161 ht hg hv hst hp hk n (i + 1) M' (by omega) (by omega) h' hm'
    have es := mkL_sel (p := p0) (P := fun k => (frK lo st k).2) (g := fun k => (frK lo st k).1) (n := i)
    rw [er.1, er.2]
    refine ⟨(vp_oN (by omega)).mpr (by omega), ?_⟩
    cases e2 : (frK lo st i).2 with
    | false =>
      refine itp rfl (go M h ?_)
      rw [if_neg (by rw [e2]; decide)] at es
      unfold frV at hm ⊢
      rw [es]; exact hm
    | true =>
      refine itn (by decide) ⟨(vp_oN (by omega)).mpr (by omega), ?_⟩
      refine c_reaches hm hp.mkl (fun M' hm' hf' => go M' (RC.mk h hf') ?_)
      rw [if_pos e2] at es
      unfold frV at hm' ⊢
      rw [es]; exact hm'
theorem c_cl134 {k121 : Int32 → Int32 → Mem → Prop} (ht : t < 3) (hl : (gU s t).length ≤ 91) (hs : stk (gU s t)) (h51 : ∀ k ∈ sts (gU s t), k < 51) (hp : okP p0) (hk : ∀ M', RC A W (k + 1) br nq nk np nh nr C B F s M' → cMk (k + 1) (mkL p0 (unV (gU s t))) M' → k121 v2 (v3 + 1) M') : ∀ n X V M, gU s t = X ++ V → X.length < n → RC A W (k + 1) br nq nk np nh nr C B F s M → cMk (k + 1) (mkL p0 (unV V)) M → w_Machine_collect_L134 (k + 1) Q k121 n v2 v3 (3 * (k + 1) + t) (Int32.ofNat V.length) M
  | 0, X, V, M, hX, hn, h, hm => absurd hn (by omega)
  | n + 1, X, V, M, hX, hn, h, hm => by
    obtain ⟨⟨⟨l89, l94, l514, -⟩, -⟩, ⟨u1, u2, hU⟩, -⟩ := id (h.1.2.2.2.2.2 t ht)
    have hU : LU W (3 * (k + 1) + t) M (gU s t) := hU
    have u1 : mI M 7 (3 * (k + 1) + t) 1 = Int32.ofNat (gU s t).length := u1
    unfold w_Machine_collect_L134
    rw [u1]
    have hlen : (gU s t).length = X.length + V.length := by rw [hX, List.length_append]
    rcases List.eq_nil_or_concat X with eX | ⟨X', u, eX⟩
    · subst eX
      refine itp (le_oN (by rw [hX]; exact Nat.le_refl _) (by omega)) ?_
      rw [show gU s t = V from hX] at hk
      exact hk M h hm
    · rw [List.concat_eq_append] at eX
      subst eX
      rw [List.length_append, List.length_singleton] at hlen hn
      have hX2 : gU s t = X' ++ u :: V := by rw [hX, List.append_assoc]; rfl
      refine itn (nle_oN (by omega) (by omega)) ?_
      rw [oN_tnc (k := V.length) (by omega), l89 92 (by omega) (by omega)]
      refine ⟨(vp_oN (by omega)).mpr (by omega), ?_⟩
      have hU2 := hU
      rw [hX2] at hU2
      have hu := hU2.at
      have go : ∀ M', RC A W (k + 1) br nq nk np nh nr C B F s M' → cMk (k + 1) (mkL p0 (unV (u :: V))) M' → w_Machine_collect_L134 (k + 1) Q k121 n v2 v3 (3 * (k + 1) + t) (Int32.ofNat (V.length + 1)) M' := fun M' h' hm' => c_cl134 ht hl hs h51 hp hk n X' (u :: V) M' hX2 (by omega) h' hm'
      cases u with
      | inr kk =>
        obtain ⟨kk, own⟩ := kk
        have h92 : mI M 92 (3 * (k + 1) + t) V.length = Int32.ofNat kk := hu.1
        have hk51 : kk < 51 := h51 kk (by rw [hX2]; exact sts_app (k := (kk, own)))
        rw [h92]
        refine itn (oN_nonneg (by omega)) ?_
        unfold w_Machine_collect_j218
        rw [lit32 1, oN_add]
        exact go M h hm
      | inl f =>
        obtain ⟨fc, fj, fa, lo, st⟩ := f
        have h92 : mI M 92 (3 * (k + 1) + t) V.length = -1 := hu.1.2.2.2
        have hst : st.length ≤ 20 := by rw [hX2] at hs; exact stk_app (f := (fc, fj, fa, lo, st)) hs
        rw [h92]
        refine itp (by decide) ⟨20 + st.length + 1, ?_⟩
        refine c_cl161 ht hX2 (by omega) hst (p0 := mkL p0 (unV V)) hp.mkl (fun M' h' hm' => ?_) _ 0 M (Nat.zero_le _) (by omega) h hm
        refine go M' h' ?_
        unfold unV
        rw [mkL_app]; exact hm'
end
