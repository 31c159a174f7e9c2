/-! THE MACHINE IN THE WORKS: between acts; whose turn it is -/
def RA (A : List Nm) (W : List Cls) (w : Nat) (br : Int32) (nq nk np nh nr C B F : Nat) (s : Ms) (M : Mem) : Prop := (LKw A W w br nq nk np nh nr (zL s) M ∧ cSt w M) ∧ (rC W w s M ∧ rS W w s M) ∧ (rH w s M ∧ rFt w B F s M) ∧ (rE w s M ∧ rD w C s M ∧ rT w s M) ∧ (mL M 700 w = 3 ∧ ∀ t', t' < 3 → mR M 700 w t' = some (7, 3 * w + t')) ∧ ∀ t', t' < 3 → rN A W w t' (zN s t') M
abbrev STn : Nat := (5165929703249630822797145179580836077092231508666094213017199257674996042573276322820925679672862512839619776360237681670484426935660907171350621778655943391739364203897005549158386328961815791907644272588484933652442247858779910070095106420114876808233204244865733215811427564148628737784190373170829828208308937914778194668899938600152130306553727466117181802601033097369727541288764608773715319885439170554276704200521231101275481546382868847312482347720312965104027929478108373341845784041965980596662130705994236597380882378829697753757841818084056400063724917955004345803718869013244231172642249255434262829134961044699047391693334529884376468241903442198528)
section
variable {A : List Nm} {W : List Cls} {w C B F t : Nat} {br : Int32} {nq nk np nh nr : Nat} {s s' : Ms} {M M' : Mem} {Q : Int32 → Mem → Prop}
theorem RA.at (h : RA A W w br nq nk np nh nr C B F s M) (h2 : mR M 6 w 2 = some (7, 3 * w + t)) (ht : t < 3) : RM A W w br nq nk np nh nr C B F t s (gU s t) M :=
  ⟨⟨h.1, h.2.1, h.2.2.1, h.2.2.2.1, ⟨h2, h.2.2.2.2.1.1, h.2.2.2.2.1.2⟩, fun t' a _ => h.2.2.2.2.2 t' a⟩, (h.2.2.2.2.2 t ht).1, (h.2.2.2.2.2 t ht).2.1, (h.2.2.2.2.2 t ht).2.2⟩
theorem RM.al (h : RM A W w br nq nk np nh nr C B F t s (gU s t) M) : RA A W w br nq nk np nh nr C B F s M := by
  refine ⟨h.1.1, h.1.2.1, h.1.2.2.1, h.1.2.2.2.1, h.1.2.2.2.2.1.2, fun t' ht' => ?_⟩
  by_cases e : t' = t
  · rw [e]; exact ⟨h.2.1, h.2.2.1, h.2.2.2⟩
  · exact h.1.2.2.2.2.2 t' ht' e
theorem RA.tn {x : Nat × Nat × Nat} (h : RA A W w br nq nk np nh nr C B F s M) (hf : Fr STn M M') (hT : rT w (yT s x) M') : RA A W w br nq nk np nh nr C B F (yT s x) M' := by
  obtain ⟨⟨a1, a2⟩, ⟨b1, b2'⟩, ⟨c1, c2⟩, ⟨d1, d2, d3⟩, ⟨e2, e3⟩, g⟩ := h
  exact ⟨⟨(a1.fr hf).1, a2.fr hf⟩, ⟨b1.fr hf, b2'.fr hf⟩, ⟨c1.fr hf, c2.fr hf hf.ms⟩, ⟨d1.fr hf, d2.fr hf, hT⟩, ⟨(hf.L (f := 700) rfl w).trans e2, fun t' ht => (hf.Ra (f := 700) rfl rfl w t').trans (e3 t' ht)⟩, fun t' ht => (g t' ht).fr hf rfl⟩
/-- whether a thread can go on -/
theorem c_canGo (h : RA A W w br nq nk np nh nr C B F s M) (hX : LX W s t) (ht : t < 3) (hQ : Q (b2 (decide (canG s t))) M) : w_Machine_canGo w (3 * w + t) Q M := by
  have hN := h.2.2.2.2.2 t ht
  have e11 : mI M 7 (3 * w + t) 11 = Int32.ofNat (lSt (zN s t)) := hN.1.2.1.2.2.1
  have h2 := hX.2.1.1
  have l46 : mL M 46 w = 51 := h.1.1.1.2.2.2.1.2.2.2.2.2.2 46 (by omega) (by omega)
  have h51 : W.length ≤ 51 := h.1.1.1.1.1.1.1.2.2.1
  unfold w_Machine_canGo
  rw [e11]
  by_cases c1 : lSt (zN s t) = 1
  · refine itp (by rw [c1]; rfl) (c_waits h.2.2.1.1 h.2.2.1.2 h.2.1.1 l46 h51 hN.1 hX ?_)
    cases ew : waitS s t with
    | false =>
      rw [decide_eq_true ⟨c1, ew⟩] at hQ
      exact itp rfl hQ
    | true =>
      rw [decide_eq_false (fun z : canG s t => by have := z.2; rw [ew] at this; cases this)] at hQ
      exact itn (by decide) hQ
  · rw [decide_eq_false (fun z : canG s t => c1 z.1)] at hQ
    exact itn (ne_oN (b := 1) c1 (by omega) (by omega)) hQ
theorem c_hasTurn (h : RA A W w br nq nk np nh nr C B F s M) (hA : MA W s) (hl : (zT s).2.1 < 1000000) (hQ0 : turnS s = none → Q 0 M) (hQ1 : ∀ t s1 M', turnS s = some (t, s1) → RA A W w br nq nk np nh nr C B F s1 M' → mR M' 6 w 2 = some (7, 3 * w + t) → t < 3 → Fr STn M M' → Q 1 M') : w_Machine_hasTurn w Q M := by
  obtain ⟨e3, e4, e5⟩ := h.2.2.2.1.2.2
  have ht := hA.1.2.2
  have hX := hA.2.1
  have l7 := h.2.2.2.2.1.1
  have R7 := h.2.2.2.2.1.2
  have loop : ∀ n k, 4 - k < n → 1 ≤ k → k ≤ 4 → ¬ (0 < (zT s).2.1 ∧ canG s (zT s).1) → (∀ m, 1 ≤ m → m < k → ¬ canG s (((zT s).1 + m) % 3)) → w_Machine_hasTurn_L40 w Q n (Int32.ofNat k) M := by
    intro n
    induction n with
    | zero => intro k hn; exact absurd hn (by omega)
    | succ n ih =>
      intro k hn h1 h4 n0 nm
      unfold w_Machine_hasTurn_L40
      by_cases k4 : k = 4
      · refine itp (by rw [k4]; decide) (hQ0 ?_)
        unfold turnS
        rw [if_neg n0, if_neg (nm 1 (by omega) (by omega)), if_neg (nm 2 (by omega) (by omega)), if_neg (nm 3 (by omega) (by omega))]
      have hm3 : ((zT s).1 + k) % 3 < 3 := Nat.mod_lt _ (by omega)
      refine itn (fun z => by have := (oN_lt (a := 3) (b := k) (by omega) (by omega)).mp z; omega) ⟨by decide, Int32.ofNat (((zT s).1 + k) % 3), ?_, by rw [l7]; exact (vp_oN (by omega)).mpr hm3, ?_⟩
      · rw [e3, oN_add]; exact (oN_mod (b := 3) (by omega) (by omega)).symm
      rw [oN_tnc (k := ((zT s).1 + k) % 3) (by omega)]
      refine ⟨3 * w + ((zT s).1 + k) % 3, R7 _ hm3, c_canGo h (hX _ hm3) hm3 ?_⟩
      by_cases cg : canG s (((zT s).1 + k) % 3)
      · rw [decide_eq_true cg]
        refine itn (by decide) ⟨by show vp_in _ (mL M 700 w); rw [l7]; exact (vp_oN (by omega)).mpr hm3, 3 * w + ((zT s).1 + k) % 3, R7 _ hm3, _, rfl, ?_⟩
        have e5' : mI (sI M 6 w 3 (Int32.ofNat (((zT s).1 + k) % 3))) 6 w 5 = Int32.ofNat (zT s).2.2 := by rw [mI_sI, if_neg (fun z => absurd z.2.2 (by decide))]; exact e5
        rw [e5']
        have hf : Fr STn M (sR (sI (sI M 6 w 3 (Int32.ofNat (((zT s).1 + k) % 3))) 6 w 4 (Int32.ofNat (zT s).2.2)) 6 w 2 (some (7, 3 * w + ((zT s).1 + k) % 3))) := Fr.wR rfl (Fr.wI rfl (Fr.wI rfl (Fr.rf _ _)))
        refine hQ1 (((zT s).1 + k) % 3) (yT s (((zT s).1 + k) % 3, (zT s).2.2, (zT s).2.2)) _ ?_ (h.tn hf ⟨?_, ?_, ?_⟩) (by rw [mR_sR, if_pos ⟨rfl, rfl, rfl⟩]) hm3 hf
        · have hk : k = 1 ∨ k = 2 ∨ k = 3 := by omega
          unfold turnS
          rcases hk with z | z | z <;> subst z
          · rw [if_neg n0, if_pos cg]
          · rw [if_neg n0, if_neg (nm 1 (by omega) (by omega)), if_pos cg]
          · rw [if_neg n0, if_neg (nm 1 (by omega) (by omega)), if_neg (nm 2 (by omega) (by omega)), if_pos cg]
        · rw [mI_sR, mI_sI, if_neg (fun z => absurd z.2.2 (by decide)), mI_sI, if_pos ⟨rfl, rfl, rfl⟩]
        · rw [mI_sR, mI_sI, if_pos ⟨rfl, rfl, rfl⟩]
        · rw [mI_sR, mI_sI, if_neg (fun z => absurd z.2.2 (by decide))]; exact e5'
      · rw [decide_eq_false cg]
        refine itp rfl ?_
        rw [show Int32.ofNat k + (1 : Int32) = Int32.ofNat (k + 1) from oN_add k 1]
        refine ih (k + 1) (by omega) (by omega) (by omega) n0 (fun m m1 m2 => ?_)
        by_cases e : m = k
        · rw [e]; exact cg
        · exact nm m m1 (by omega)
  have l38 : ¬ (0 < (zT s).2.1 ∧ canG s (zT s).1) → w_Machine_hasTurn_j38 w Q M := fun n0 => ⟨5, loop 5 1 (by omega) (by omega) (by omega) n0 (fun m m1 m2 => absurd m2 (by omega))⟩
  unfold w_Machine_hasTurn
  rw [e4]
  by_cases c0 : (zT s).2.1 = 0
  · exact itp (by rw [c0]; decide) (l38 (fun z => by omega))
  refine itn (fun z => by have := (oN_le (a := (zT s).2.1) (b := 0) (by omega) (by omega)).mp z; omega) ?_
  rw [e3, oN_tnc (k := (zT s).1) (by omega)]
  refine ⟨by rw [l7]; exact (vp_oN (by omega)).mpr ht, 3 * w + (zT s).1, R7 _ ht, c_canGo h (hX _ ht) ht ?_⟩
  by_cases cg : canG s (zT s).1
  · rw [decide_eq_true cg]
    refine itn (by decide) ?_
    rw [e3, oN_tnc (k := (zT s).1) (by omega)]
    refine ⟨by rw [l7]; exact (vp_oN (by omega)).mpr ht, 3 * w + (zT s).1, R7 _ ht, ?_⟩
    have hf : Fr STn M (sR M 6 w 2 (some (7, 3 * w + (zT s).1))) := Fr.wR rfl (Fr.rf _ _)
    have hr : RA A W w br nq nk np nh nr C B F (yT s (zT s)) (sR M 6 w 2 (some (7, 3 * w + (zT s).1))) := h.tn hf ⟨e3, e4, e5⟩
    refine hQ1 (zT s).1 s _ ?_ hr (by rw [mR_sR, if_pos ⟨rfl, rfl, rfl⟩]) ht hf
    unfold turnS
    rw [if_pos ⟨by omega, cg⟩]
  · rw [decide_eq_false cg]
    exact itp rfl (l38 (fun z => cg z.2))
end
