/-! collect in the works: what is left moves together -/
abbrev SSw : Nat := (3058230384323781447095909946311854957638601053130327774106181960543597657203379583109988002366334607601054907605260707548926780745911257045439568092964318487909703608707027285101764706745394948809325409372383080722245810732397706761496303000708007070474056912960514063760365117975988212768240700917131258299318891245548691243988763651290061141479806659941371627139811593642878704442948648394039469372179988968131808886708568811955085075458658357608989549850425275341584534251040157018372704152843860513223981377961995873579424965366755095222848202433240754658317544807086134159523334485914131831006085857383987022537928796648322106736207924533720584636006216155267072)
theorem swK_gap {s : Ms} {m : Nat → Bool} {a : Nat} : ∀ {n : Nat}, (∀ r, a ≤ r → r < a + n → thr s r = false) → swK s m (a + n) = swK s m a
  | 0, _ => rfl
  | n + 1, h => by
    rw [show a + (n + 1) = (a + n) + 1 by omega, swK_s, swA_0 (h (a + n) (by omega) (by omega))]
    exact swK_gap (fun r h1 h2 => h r h1 (by omega))
section
variable {A : List Nm} {W : List Cls} {w k C B F K c t r d : Nat} {br x v2 v3 : Int32} {nq nk np nh nr : Nat} {s : Ms} {M M' M0 : Mem} {p p0 : MP} {Q : Int32 → Mem → Prop} {m : Nat → Bool}
theorem RA.hp {X : Hp} (h : RA A W w br nq nk np nh nr C B F s M) (hf : Fr SSw M M') (hH : rH w (yH s X) M') : RA A W w br nq nk np nh nr C B F (yH s X) M' := by
  obtain ⟨⟨a1, a2⟩, ⟨b1, b2'⟩, ⟨c1, c2⟩, ⟨d1, d2, d3⟩, ⟨e2, e3⟩, g⟩ := h
  exact ⟨⟨(a1.fr hf).1, a2.fr hf⟩, ⟨b1.fr hf, b2'.fr hf⟩, ⟨hH, c2.fr hf (hf.ms rfl)⟩, ⟨d1.fr hf, d2.fr hf, d3.fr hf⟩, ⟨(hf.L (f := 700) rfl w).trans e2, fun t' ht => (hf.Ra (f := 700) rfl rfl w t').trans (e3 t' ht)⟩, fun t' ht => (g t' ht).fr hf rfl⟩
/-- while what is left moves: all below r is done -/
def SwM (w : Nat) (s : Ms) (m : Nat → Bool) (r : Nat) (M0 M : Mem) : Prop := Fr SSw M0 M ∧ (∀ i, i < (zH s).2.1 → mI M 83 w i = gCell s i) ∧ (∀ j, j < 802 → mI M 512 w j = b2 (if j < r then kp s m j else thr s j)) ∧ (∀ j, thr s j = true → mI M 80 w j = Int32.ofNat ((swK s m r).2.2.1 j).2.1) ∧ (∀ i, i < (swK s m r).2.1 → mI M 84 w i = (swK s m r).2.2.2.1 i) ∧ mI M 6 w 6 = Int32.ofNat (zH s).1
theorem SwM.skip (h : SwM w s m r M0 M) (ht : thr s r = false) : SwM w s m (r + 1) M0 M := by
  obtain ⟨a, b, c, d, e, g⟩ := h
  have es : swK s m (r + 1) = swK s m r := by rw [swK_s, swA_0 ht]
  refine ⟨a, b, fun j hj => ?_, by rw [es]; exact d, by rw [es]; exact e, g⟩
  rw [c j hj]
  by_cases ej : j = r
  · subst ej
    rw [if_neg (Nat.lt_irrefl _), if_pos (Nat.lt_succ_self _)]
    unfold kp; rw [ht]; rfl
  · by_cases cj : j < r
    · rw [if_pos cj, if_pos (by omega)]
    · rw [if_neg cj, if_neg (by omega)]
theorem SwM.gone (h : SwM w s m r M0 M) (ht : thr s r = true) (hm : m r = false) : SwM w s m (r + 1) M0 (sI M 512 w r ((0 : Int32) &&& 1)) := by
  obtain ⟨a, b, c, d, e, g⟩ := h
  have es : swK s m (r + 1) = ((swK s m r).1 + 1, (swK s m r).2) := by rw [swK_s, swA_1 ht hm]
  refine ⟨Fr.wIa rfl rfl a, fun i hi => ?_, fun j hj => ?_, fun j hj => ?_, fun i hi => ?_, ?_⟩
  · rw [mI_sI, if_neg (fun z => absurd z.1 (by decide))]; exact b i hi
  · by_cases ej : j = r
    · subst ej
      rw [mI_sI, if_pos ⟨rfl, rfl, rfl⟩, if_pos (Nat.lt_succ_self _)]
      unfold kp; rw [ht, hm]; rfl
    · rw [mI_sI, if_neg (fun z => ej z.2.2), c j hj]
      by_cases cj : j < r
      · rw [if_pos cj, if_pos (by omega)]
      · rw [if_neg cj, if_neg (by omega)]
  · rw [mI_sI, if_neg (fun z => absurd z.1 (by decide)), es]; exact d j hj
  · rw [es] at hi ⊢
    rw [mI_sI, if_neg (fun z => absurd z.1 (by decide))]; exact e i hi
  · rw [mI_sI, if_neg (fun z => absurd z.1 (by decide))]; exact g
theorem SwM.keep (h : SwM w s m r M0 M) (ht : thr s r = true) (hm : m r = true) (hin : (gOb s r).2.1 + (gOb s r).2.2.1 ≤ (zH s).2.1) : SwM w s m (r + 1) M0 (sI (cpI M 83 w (gOb s r).2.1 84 w (swK s m r).2.1 (gOb s r).2.2.1) 80 w r (Int32.ofNat (swK s m r).2.1)) := by
  obtain ⟨a, b, c, d, e, g⟩ := h
  have es := swK_s (s := s) (m := m) (k := r)
  rw [swA_2 ht hm] at es
  generalize hz : swK s m r = z at *
  refine ⟨Fr.wIa rfl rfl (Fr.wcp rfl rfl a), fun i hi => ?_, fun j hj => ?_, fun j hj => ?_, fun i hi => ?_, ?_⟩
  · rw [mI_sI, if_neg (fun z => absurd z.1 (by decide)), mI_cpI, if_neg (fun z => absurd z.1 (by decide))]; exact b i hi
  · rw [mI_sI, if_neg (fun z => absurd z.1 (by decide)), mI_cpI, if_neg (fun z => absurd z.1 (by decide)), c j hj]
    by_cases ej : j = r
    · subst ej
      rw [if_neg (Nat.lt_irrefl _), if_pos (Nat.lt_succ_self _)]
      unfold kp; rw [ht, hm]; rfl
    · by_cases cj : j < r
      · rw [if_pos cj, if_pos (by omega)]
      · rw [if_neg cj, if_neg (by omega)]
  · rw [es]
    show _ = Int32.ofNat (up1 z.2.2.1 r ((gOb s r).1, z.2.1, (gOb s r).2.2) j).2.1
    by_cases ej : j = r
    · subst ej
      rw [mI_sI, if_pos ⟨rfl, rfl, rfl⟩, up1_s]
    · rw [mI_sI, if_neg (fun z => ej z.2.2), mI_cpI, if_neg (fun z => absurd z.1 (by decide)), up1_o ej]; exact d j hj
  · rw [es] at hi ⊢
    have hi : i < z.2.1 + (gOb s r).2.2.1 := hi
    show _ = if z.2.1 ≤ i ∧ i < z.2.1 + (gOb s r).2.2.1 then gCell s ((gOb s r).2.1 + (i - z.2.1)) else z.2.2.2.1 i
    rw [mI_sI, if_neg (fun z => absurd z.1 (by decide)), mI_cpI, if_pos ⟨rfl, rfl⟩]
    by_cases ci : z.2.1 ≤ i ∧ i < z.2.1 + (gOb s r).2.2.1
    · rw [if_pos ci, if_pos ci]
      exact b _ (by omega)
    · rw [if_neg ci, if_neg ci]
      exact e i (by omega)
  · rw [mI_sI, if_neg (fun z => absurd z.1 (by decide)), mI_cpI, if_neg (fun z => absurd z.1 (by decide))]; exact g
theorem c_swL (hG : GL W s) (hz : SzN s) (h : RC A W (k + 1) br nq nk np nh nr C B F s M0) (hmk : mL M0 513 (k + 1) = 801 ∧ ∀ n, n < 801 → mI M0 513 (k + 1) n = b2 (mrk W s n)) (hQ : ∀ M', RA A W (k + 1) br nq nk np nh nr C B F (colO W s).2 M' → Q (colO W s).1 M') {mo : Nat} (hmo : mI M0 6 (k + 1) 15 = Int32.ofNat mo ∧ mo ≤ 800 ∧ ∀ r, thr s r = true → r ≤ mo) : ∀ n r M, 1 ≤ r → r ≤ mo + 1 → mo + 1 - r < n → SwM (k + 1) s (mrk W s) r M0 M → w_Machine_sweep_L23 (k + 1) Q n (Int32.ofNat (swK s (mrk W s) r).1) (Int32.ofNat (swK s (mrk W s) r).2.1) (Int32.ofNat r) M
  | 0, r, M, h1, h2, hn, hS => absurd hn (by omega)
  | n + 1, r, M, h1, h2, hn, hS => by
    obtain ⟨m1, m2, m3⟩ := hmo
    obtain ⟨hf, s83, s512, s80, s84, s6⟩ := id hS
    have hz : szS (thr s) (gOb s) 801 ≤ (zH s).2.1 := hz
    have hc4 : (zH s).2.1 ≤ 4000 := hG.2.1.1.2.2
    have hk1 := sw_1 (s := s) (m := mrk W s) r
    have hmon := szS_mono (P := kp s (mrk W s)) (O := gOb s) (n := r) (k := 801) (by omega)
    have hle := szS_kp (s := s) (m := mrk W s) 801
    have h6 := sw_6 (s := s) (m := mrk W s) 801
    have hcnt : (zH s).1 = ((List.range 801).filter (thr s)).length := hG.2.1.1.2.1
    unfold w_Machine_sweep_L23
    rw [(hf.I (f := 6) (k := 15) rfl (k + 1)).trans m1]
    by_cases er : r = mo + 1
    · refine itp (lt_oN (by omega) (by omega)) ⟨_, rfl, ?_⟩
      have eg : swK s (mrk W s) 801 = swK s (mrk W s) r := by
        have := swK_gap (s := s) (m := mrk W s) (a := r) (n := 801 - r) (fun j h1 h2 => by
          cases e : thr s j with
          | false => rfl
          | true => have := m3 j e; omega)
        rw [← this, show r + (801 - r) = 801 by omega]
      rw [eg] at h6
      have hg : (swK s (mrk W s) r).1 ≤ (zH s).1 := by omega
      rw [s6, sub_n hg]
      have hres : Q (colO W s).1 (sI (sI (sI M 6 (k + 1) 6 (Int32.ofNat ((zH s).1 - (swK s (mrk W s) r).1))) 6 (k + 1) 7 (Int32.ofNat (swK s (mrk W s) r).2.1)) 6 (k + 1) 14 1) := by
        refine hQ _ ?_
        have hff : Fr SSw M0 (sI (sI (sI M 6 (k + 1) 6 (Int32.ofNat ((zH s).1 - (swK s (mrk W s) r).1))) 6 (k + 1) 7 (Int32.ofNat (swK s (mrk W s) r).2.1)) 6 (k + 1) 14 1) := Fr.wI rfl (Fr.wI rfl (Fr.wI rfl hf))
        refine h.1.hp hff ?_
        obtain ⟨⟨⟨l1, l2, l3, l4, l5⟩, l6, l7⟩, -, b1, b2', b3, -⟩ := h.1.2.2.1.1
        rw [eg]
        refine ⟨⟨⟨(hff.L rfl _).trans l1, (hff.L rfl _).trans l2, (hff.L rfl _).trans l3, (hff.L rfl _).trans l4, (hff.L rfl _).trans l5⟩, (hff.L rfl _).trans l6, (hff.L rfl _).trans l7⟩, ⟨?_, ?_⟩, fun j hj => ?_, fun j hj => ?_, fun i hi => ?_, 1, mo, ⟨?_, ?_⟩, ⟨Nat.le_refl _, by omega, m2⟩, fun j h1 h2 => absurd h2 (by omega), fun j hj => ?_⟩
        · simp only [mI_sI, Nat.reduceEqDiff, and_false, and_true, if_false, if_true]
        · simp only [mI_sI, Nat.reduceEqDiff, and_false, and_true, if_false, if_true]
        · simp only [mI_sI, Nat.reduceEqDiff, false_and, if_false]
          rw [s512 j hj]
          show b2 _ = b2 (kp s (mrk W s) j)
          by_cases cj : j < r
          · rw [if_pos cj]
          · rw [if_neg cj]
            have : thr s j = false := by
              cases e : thr s j with
              | false => rfl
              | true => have := m3 j e; omega
            unfold kp; rw [this]; rfl
        · have hj : kp s (mrk W s) j = true := hj
          have htj : thr s j = true := by
            have := hj
            unfold kp at this
            rw [Bool.and_eq_true] at this
            exact this.1
          obtain ⟨o1, o2, o3, o4, o5⟩ := b2' j htj
          obtain ⟨q1, q2⟩ := sw_2 (s := s) (m := mrk W s) j r
          refine ⟨?_, ?_, ?_, ?_, fun hne => ?_⟩
          · show _ = oCl ((swK s (mrk W s) r).2.2.1 j).1
            rw [q1]; exact (hff.Ia rfl rfl _ _).trans o1
          · show _ = Int32.ofNat ((swK s (mrk W s) r).2.2.1 j).2.1
            simp only [mI_sI, Nat.reduceEqDiff, false_and, if_false]
            exact s80 j htj
          · show _ = Int32.ofNat ((swK s (mrk W s) r).2.2.1 j).2.2.1
            rw [q2]; exact (hff.Ia rfl rfl _ _).trans o3
          · show _ = ((swK s (mrk W s) r).2.2.1 j).2.2.2.1
            rw [q2]; exact (hff.Ia rfl rfl _ _).trans o4
          · have hne : ((swK s (mrk W s) r).2.2.1 j).2.2.2.1 ≠ 0 := hne
            show _ = ((swK s (mrk W s) r).2.2.1 j).2.2.2.2
            rw [q2] at hne ⊢
            exact (hff.Ia rfl rfl _ _).trans (o5 hne)
        · simp only [mI_sI, Nat.reduceEqDiff, false_and, if_false]
          exact s84 i hi
        · rw [mI_sI, if_pos ⟨rfl, rfl, rfl⟩]; rfl
        · rw [show mI (sI (sI (sI M 6 (k + 1) 6 (Int32.ofNat ((zH s).1 - (swK s (mrk W s) r).1))) 6 (k + 1) 7 (Int32.ofNat (swK s (mrk W s) r).2.1)) 6 (k + 1) 14 1) 6 (k + 1) 15 = _ from hff.I rfl _]; exact m1
        · have hj : kp s (mrk W s) j = true := hj
          unfold kp at hj
          rw [Bool.and_eq_true] at hj
          exact m3 j hj.1
      unfold colO at hres
      rw [eg] at hres
      exact hres
    have hr8 : r < 801 := by omega
    refine itn (nlt_oN (by omega) (by omega)) ?_
    have l512 : mL M 512 (k + 1) = 802 := (hf.L rfl _).trans h.1.2.2.1.1.1.1.2.2.2.1
    have l513 : mL M 513 (k + 1) = 801 := (hf.L rfl _).trans hmk.1
    have l80 : mL M 80 (k + 1) = 801 := (hf.L rfl _).trans h.1.2.2.1.1.1.1.2.1
    have l81 : mL M 81 (k + 1) = 801 := (hf.L rfl _).trans h.1.2.2.1.1.1.1.2.2.1
    have l84 : mL M 84 (k + 1) = 4000 := (hf.L rfl _).trans h.1.2.2.1.1.1.1.2.2.2.2
    have l83 : mL M 83 (k + 1) = 4000 := (hf.L rfl _).trans h.2
    rw [oN_tnc (k := r) (by omega), l512, l513, s512 r (by omega), if_neg (Nat.lt_irrefl r), (hf.Ia (f := 513) rfl rfl (k + 1) r).trans (hmk.2 r hr8)]
    refine ⟨(vp_oN (by omega)).mpr (by omega), ?_⟩
    cases e1 : thr s r with
    | false =>
      refine itp rfl ?_
      unfold w_Machine_sweep_j105
      have es : swK s (mrk W s) (r + 1) = swK s (mrk W s) r := by rw [swK_s, swA_0 e1]
      have := c_swL hG hz h hmk hQ ⟨m1, m2, m3⟩ n (r + 1) M (by omega) (by omega) (by omega) (hS.skip e1)
      rw [es] at this
      rw [lit32 1, oN_add]
      exact this
    | true =>
      refine itn (by decide) ⟨(vp_oN (by omega)).mpr (by omega), ?_⟩
      cases e2 : mrk W s r with
      | false =>
        refine itp rfl ⟨(vp_oN (by omega)).mpr (by omega), ?_⟩
        unfold w_Machine_sweep_j105
        have es : swK s (mrk W s) (r + 1) = ((swK s (mrk W s) r).1 + 1, (swK s (mrk W s) r).2) := by rw [swK_s, swA_1 e1 e2]
        have := c_swL hG hz h hmk hQ ⟨m1, m2, m3⟩ n (r + 1) _ (by omega) (by omega) (by omega) (hS.gone e1 e2)
        rw [es] at this
        rw [lit32 1, oN_add, oN_add]
        exact this
      | true =>
        refine itn (by decide) ⟨by rw [l80]; exact (vp_oN (by omega)).mpr (by omega), by rw [l81]; exact (vp_oN (by omega)).mpr (by omega), ?_⟩
        obtain ⟨⟨b1, b2'⟩, -⟩ := ob_in hG e1
        have e80 : mI M 80 (k + 1) r = Int32.ofNat (gOb s r).2.1 := by
          rw [s80 r e1, (sw_3 (s := s) (m := mrk W s) r).1 r (Nat.le_refl _)]
        obtain ⟨-, -, o3, -⟩ := h.1.2.2.1.1.2.2.2.1 r e1
        have e81 : mI M 81 (k + 1) r = Int32.ofNat (gOb s r).2.2.1 := (hf.Ia rfl rfl _ _).trans o3
        have hkp : kp s (mrk W s) r = true := by unfold kp; rw [e1, e2]; rfl
        have hsl := sw_le (k := 801) hkp hr8
        have es := swK_s (s := s) (m := mrk W s) (k := r)
        rw [swA_2 e1 e2] at es
        rw [e80, e81, oN_tnc (k := (gOb s r).2.1) (by omega), oN_tnc (k := (gOb s r).2.2.1) (by omega), oN_tnc (k := (swK s (mrk W s) r).2.1) (by omega), l83, l84]
        refine ⟨oN_nonneg (by omega), oN_nonneg (by omega), oN_nonneg (by omega), by omega, by omega, _, rfl, by show vp_in _ (mL M 80 (k + 1)); rw [l80]; exact (vp_oN (by omega)).mpr (by omega), by show vp_in _ (mL M 81 (k + 1)); rw [l81]; exact (vp_oN (by omega)).mpr (by omega), _, rfl, ?_⟩
        unfold w_Machine_sweep_j105
        have e81' : mI (sI (cpI M 83 (k + 1) (gOb s r).2.1 84 (k + 1) (swK s (mrk W s) r).2.1 (gOb s r).2.2.1) 80 (k + 1) r (Int32.ofNat (swK s (mrk W s) r).2.1)) 81 (k + 1) r = Int32.ofNat (gOb s r).2.2.1 := by
          rw [mI_sI, if_neg (fun z => absurd z.1 (by decide)), mI_cpI, if_neg (fun z => absurd z.1 (by decide))]; exact e81
        have := c_swL hG hz h hmk hQ ⟨m1, m2, m3⟩ n (r + 1) _ (by omega) (by omega) (by omega) (hS.keep e1 e2 b2')
        rw [es] at this
        rw [e81', lit32 1, oN_add, oN_add]
        exact this
end
