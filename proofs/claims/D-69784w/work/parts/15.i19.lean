/-! collect in the twin: what is left moves together -/
abbrev SSt : Nat := (17883604017826375289199641096765419608817676297343493313768695760992762209339418235716522143188630705669177984651736285111136283419304953119905802152665038449419581542795594952600731084498496241194656998207069228077026259072311047224252273263571671026460385461118386541083694825535528414841795831639317533559743052371137775159406182670664278560903536857534181622439031825338308095331749785341842999380242133882462870227561724643114258063157040933999827409757997571496604927099158496695410758239438338512295814764609353157572810164197120296190787605522550005985251030061520681531632086114845446398111688591349765233204247225599864320965819534264869954969580232827421875427587962624798275307837875302097414438456718518708048941402639869989639344081175631349404403476553840169892139162979073416156448586282980734133374182783968845222642402216912120376124256338904032080988401838976541630118482511142435858585142185929504883366826934313588049144704318712902375348857265223258169432138805779593356704949167741676208177872050846169683860819804160)
theorem cnt_mono {P : Nat → Bool} {a : Nat} : ∀ {b : Nat}, a ≤ b → ((List.range a).filter P).length ≤ ((List.range b).filter P).length
  | 0, h => by rw [show a = 0 by omega]; exact Nat.le_refl _
  | b + 1, h => by
    by_cases e : a = b + 1
    · rw [e]; exact Nat.le_refl _
    · rw [cnt_succ]
      exact Nat.le_trans (cnt_mono (b := b) (by omega)) (Nat.le_add_right _ _)
section
variable {G : List Sl} {US : UST} {A : List Nm} {S : List Sg} {W : List Cls} {w k C B F K ud t c r d : Nat} {br a b x y v2 : Int32} {nq nl nf nk : Nat} {s : Ms} {M M' M0 : Mem} {Q : Int32 → Mem → Prop} {on : Nat → Bool} {p p0 : MP} {m : Nat → Bool}
theorem TA.hp {X : Hp} (h : TA G US A S W w br nq nl nf nk B F x s M) (hf : Fr SSt M M') (hH : uH w (yH s X) M') : TA G US A S W w br nq nl nf nk B F x (yH s X) M' := by
  have hg := h.ga
  obtain ⟨a1, ⟨b1, b2'⟩, ⟨c1, c2⟩, ⟨d1, d2, d3⟩, ⟨e3, e4⟩, ⟨m1, m2, m3⟩, g⟩ := h
  have hr := hf.rsl hg
  exact ⟨a1.mfr hf, ⟨b1.fr hf, b2'.fr hf⟩, ⟨hH, c2.fr hg hf⟩, ⟨d1.fr hf, d2.fr hf, d3.fr hf⟩, ⟨(hf.L (f := 704) rfl w).trans e3, fun t' ht => (hf.Ra (f := 704) rfl rfl w t').trans (e4 t' ht)⟩, ⟨by rw [hr.1, hr.2]; exact m1, by rw [hf.L (f := 110) rfl]; exact ⟨m2, m3⟩⟩, fun t' ht => (g t' ht).eq (fun f k hl h23 => unO_I (R := SSt) rfl hf hl h23 _) (fun f hl => unO_L (R := SSt) rfl hf hl _)⟩
def TwM (w : Nat) (s : Ms) (m : Nat → Bool) (r : Nat) (M0 M : Mem) : Prop := Fr SSt M0 M ∧ (∀ i, i < (zH s).2.1 → mI M 161 w i = tr (decide ((gKd s i).1 ≠ 0)) (gCell s i)) ∧ (∀ j, j < 801 → mI M 524 w j = b2 (if j < r then kp s m j else thr s j)) ∧ (∀ j, thr s j = true → mI M 158 w j = Int32.ofNat ((swK s m r).2.2.1 j).2.1) ∧ (∀ i, i < (swK s m r).2.1 → mI M 121 0 i = tr (decide (((swK s m r).2.2.2.2 i).1 ≠ 0)) ((swK s m r).2.2.2.1 i)) ∧ (∀ j, thr s j = true → m j = true → mI M 160 w j = (gOb s j).2.2.2.1) ∧ mI M 12 w 50 = Int32.ofNat ((zH s).1 - (swK s m r).1)
theorem TwM.skip (h : TwM w s m r M0 M) (ht : thr s r = false) : TwM w s m (r + 1) M0 M := by
  obtain ⟨a, b, c, d, e, f, g⟩ := h
  have es : swK s m (r + 1) = swK s m r := by rw [swK_s, swA_0 ht]
  refine ⟨a, b, fun j hj => ?_, by rw [es]; exact d, by rw [es]; exact e, f, by rw [es]; exact g⟩
  rw [c j hj]
  by_cases ej : j = r
  · subst ej
    rw [if_neg (Nat.lt_irrefl _), if_pos (Nat.lt_succ_self _)]
    unfold kp; rw [ht]; rfl
  · by_cases cj : j < r
    · rw [if_pos cj, if_pos (by omega)]
    · rw [if_neg cj, if_neg (by omega)]
theorem TwM.gone (h : TwM w s m r M0 M) (ht : thr s r = true) (hm : m r = false) : TwM w s m (r + 1) M0 (sI (sI (sI M 524 w r ((0 : Int32) &&& 1)) 160 w r 0) 12 w 50 (Int32.ofNat ((zH s).1 - (swK s m (r + 1)).1))) := by
  obtain ⟨a, b, c, d, e, f, g⟩ := h
  have es : swK s m (r + 1) = ((swK s m r).1 + 1, (swK s m r).2) := by rw [swK_s, swA_1 ht hm]
  refine ⟨Fr.wI rfl (Fr.wIa rfl rfl (Fr.wIa rfl rfl a)), fun i hi => ?_, fun j hj => ?_, fun j hj => ?_, fun i hi => ?_, fun j hj hmj => ?_, ?_⟩
  · simp only [mI_sI, Nat.reduceEqDiff, false_and, if_false]; exact b i hi
  · by_cases ej : j = r
    · subst ej
      simp only [mI_sI, Nat.reduceEqDiff, false_and, if_false, and_self, if_true]
      rw [if_pos (Nat.lt_succ_self _)]
      unfold kp; rw [ht, hm]; rfl
    · simp only [mI_sI, Nat.reduceEqDiff, false_and, and_false, if_false, ej]
      rw [c j hj]
      by_cases cj : j < r
      · rw [if_pos cj, if_pos (by omega)]
      · rw [if_neg cj, if_neg (by omega)]
  · simp only [mI_sI, Nat.reduceEqDiff, false_and, if_false]
    rw [es]; exact d j hj
  · rw [es] at hi ⊢
    simp only [mI_sI, Nat.reduceEqDiff, false_and, if_false]
    exact e i hi
  · have ej : j ≠ r := fun z => by rw [z, hm] at hmj; cases hmj
    simp only [mI_sI, Nat.reduceEqDiff, false_and, and_false, if_false, ej]
    exact f j hj hmj
  · rw [mI_sI, if_pos ⟨rfl, rfl, rfl⟩]
theorem TwM.keep (h : TwM w s m r M0 M) (ht : thr s r = true) (hm : m r = true) (hin : (gOb s r).2.1 + (gOb s r).2.2.1 ≤ (zH s).2.1) : TwM w s m (r + 1) M0 (sI (cpI M 161 w (gOb s r).2.1 121 0 (swK s m r).2.1 (gOb s r).2.2.1) 158 w r (Int32.ofNat (swK s m r).2.1)) := by
  obtain ⟨a, b, c, d, e, f, g⟩ := h
  have es := swK_s (s := s) (m := m) (k := r)
  rw [swA_2 ht hm] at es
  generalize hz : swK s m r = z at *
  refine ⟨Fr.wIa rfl rfl (Fr.wcp rfl rfl a), fun i hi => ?_, fun j hj => ?_, fun j hj => ?_, fun i hi => ?_, fun j hj hmj => ?_, ?_⟩
  · rw [mI_sI, if_neg (fun z => absurd z.1 (by decide)), mI_cpI, if_neg (fun z => absurd z.1 (by decide))]; exact b i hi
  · rw [mI_sI, if_neg (fun z => absurd z.1 (by decide)), mI_cpI, if_neg (fun z => absurd z.1 (by decide)), c j hj]
    by_cases ej : j = r
    · subst ej
      rw [if_neg (Nat.lt_irrefl _), if_pos (Nat.lt_succ_self _)]
      unfold kp; rw [ht, hm]; rfl
    · by_cases cj : j < r
      · rw [if_pos cj, if_pos (by omega)]
      · rw [if_neg cj, if_neg (by omega)]
  · rw [es]
    show _ = Int32.ofNat (up1 z.2.2.1 r ((gOb s r).1, z.2.1, (gOb s r).2.2) j).2.1
    by_cases ej : j = r
    · subst ej
      rw [mI_sI, if_pos ⟨rfl, rfl, rfl⟩, up1_s]
    · rw [mI_sI, if_neg (fun z => ej z.2.2), mI_cpI, if_neg (fun z => absurd z.1 (by decide)), up1_o ej]; exact d j hj
  · rw [es] at hi ⊢
    have hi : i < z.2.1 + (gOb s r).2.2.1 := hi
    show _ = tr (decide ((if z.2.1 ≤ i ∧ i < z.2.1 + (gOb s r).2.2.1 then gKd s ((gOb s r).2.1 + (i - z.2.1)) else z.2.2.2.2 i).1 ≠ 0)) (if z.2.1 ≤ i ∧ i < z.2.1 + (gOb s r).2.2.1 then gCell s ((gOb s r).2.1 + (i - z.2.1)) else z.2.2.2.1 i)
    rw [mI_sI, if_neg (fun z => absurd z.1 (by decide)), mI_cpI, if_pos ⟨rfl, rfl⟩]
    by_cases ci : z.2.1 ≤ i ∧ i < z.2.1 + (gOb s r).2.2.1
    · rw [if_pos ci, if_pos ci, if_pos ci]
      exact b _ (by omega)
    · rw [if_neg ci, if_neg ci, if_neg ci]
      exact e i (by omega)
  · rw [mI_sI, if_neg (fun z => absurd z.1 (by decide)), mI_cpI, if_neg (fun z => absurd z.1 (by decide))]; exact f j hj hmj
  · rw [mI_sI, if_neg (fun z => absurd z.1 (by decide)), mI_cpI, if_neg (fun z => absurd z.1 (by decide)), es]; exact g
theorem ct_swL (hG : GL W s) (hz : SzN s) (h : TC G US A S W k br nq nl nf nk B F x s M0) (hmk : mL M0 521 0 = 801 ∧ ∀ n, n < 801 → mI M0 521 0 n = b2 (mrk W s n)) (hQ : ∀ M', TA G US A S W k br nq nl nf nk B F x (colO W s).2 M' → Q (colO W s).1 M') : ∀ n r M, 1 ≤ r → r ≤ 801 → 801 - r < n → TwM k s (mrk W s) r M0 M → w_Model_collect_L350 0 Q n (Int32.ofNat (swK s (mrk W s) r).1) (Int32.ofNat (swK s (mrk W s) r).2.1) (Int32.ofNat r) M
  | 0, r, M, h1, h2, hn, hS => absurd hn (by omega)
  | n + 1, r, M, h1, h2, hn, hS => by
    obtain ⟨hf, s161, s524, s158, s121, s160, s50⟩ := id hS
    have hz : szS (thr s) (gOb s) 801 ≤ (zH s).2.1 := hz
    have hc4 : (zH s).2.1 ≤ 4000 := hG.2.1.1.2.2
    have hk1 := sw_1 (s := s) (m := mrk W s) r
    have hmon := szS_mono (P := kp s (mrk W s)) (O := gOb s) (n := r) (k := 801) (by omega)
    have hle := szS_kp (s := s) (m := mrk W s) 801
    have hcnt : (zH s).1 = ((List.range 801).filter (thr s)).length := hG.2.1.1.2.1
    have h45 : mR M 11 0 45 = some (12, k) := (hf.R (f := 11) (k := 45) rfl 0).trans h.1.r45
    obtain ⟨⟨q7, q8, q9, q0, q2, q4, q1⟩, -, -, b2', -⟩ := id h.1.2.2.1.1
    have l121 : mL M 121 0 = 4000 := (hf.L rfl _).trans h.2
    have l161 : mL M 161 k = 4000 := (hf.L rfl _).trans q1
    unfold w_Model_collect_L350
    by_cases er : r = 801
    · subst er
      refine itp (lt_oN (a := 800) (by omega) (by omega)) ⟨k, h45, by decide, by decide, oN_nonneg (by omega), ?_⟩
      rw [oN_tnc (k := (swK s (mrk W s) 801).2.1) (by omega), l121, l161]
      refine ⟨by show 0 + _ ≤ _; omega, by show 0 + _ ≤ _; omega, _, rfl, k, h45, ?_⟩
      refine hQ _ ?_
      have hff : Fr SSt M0 (sI (cpI M 121 0 (0 : Int32).toNatClampNeg 161 k (0 : Int32).toNatClampNeg (swK s (mrk W s) 801).2.1) 12 k 52 (Int32.ofNat (swK s (mrk W s) 801).2.1)) := Fr.wI rfl (Fr.wcp rfl rfl hf)
      refine h.1.hp hff ?_
      refine ⟨⟨(hff.L rfl _).trans q7, (hff.L rfl _).trans q8, (hff.L rfl _).trans q9, (hff.L rfl _).trans q0, (hff.L rfl _).trans q2, (hff.L rfl _).trans q4, (hff.L rfl _).trans q1⟩, ⟨?_, ?_⟩, fun j hj => ?_, fun j hj => ?_, fun i hi => ?_⟩
      · rw [mI_sI, if_neg (fun z => absurd z.2.2 (by decide)), mI_cpI, if_neg (fun z => absurd z.1 (by decide))]; exact s50
      · rw [mI_sI, if_pos ⟨rfl, rfl, rfl⟩]
      · rw [mI_sI, if_neg (fun z => absurd z.1 (by decide)), mI_cpI, if_neg (fun z => absurd z.1 (by decide)), s524 j hj, if_pos hj]
      · have hj : kp s (mrk W s) j = true := hj
        have hj2 := hj
        unfold kp at hj2
        rw [Bool.and_eq_true] at hj2
        obtain ⟨o1, o2, o3, o4, o5⟩ := b2' j hj2.1
        obtain ⟨q1, q2⟩ := sw_2 (s := s) (m := mrk W s) j 801
        refine ⟨?_, ?_, ?_, ?_, fun hne => ?_⟩
        · show _ = oCl ((swK s (mrk W s) 801).2.2.1 j).1
          rw [q1]; exact (hff.Ia rfl rfl _ _).trans o1
        · show _ = Int32.ofNat ((swK s (mrk W s) 801).2.2.1 j).2.1
          rw [mI_sI, if_neg (fun z => absurd z.1 (by decide)), mI_cpI, if_neg (fun z => absurd z.1 (by decide))]
          exact s158 j hj2.1
        · show _ = Int32.ofNat ((swK s (mrk W s) 801).2.2.1 j).2.2.1
          rw [q2]; exact (hff.Ia rfl rfl _ _).trans o3
        · show _ = ((swK s (mrk W s) 801).2.2.1 j).2.2.2.1
          rw [q2, mI_sI, if_neg (fun z => absurd z.1 (by decide)), mI_cpI, if_neg (fun z => absurd z.1 (by decide))]
          exact s160 j hj2.1 hj2.2
        · have hne : ((swK s (mrk W s) 801).2.2.1 j).2.2.2.1 ≠ 0 := hne
          show _ = ((swK s (mrk W s) 801).2.2.1 j).2.2.2.2
          rw [q2] at hne ⊢
          exact (hff.Ia rfl rfl _ _).trans (o5 hne)
      · have hi : i < (swK s (mrk W s) 801).2.1 := hi
        rw [mI_sI, if_neg (fun z => absurd z.1 (by decide)), mI_cpI, if_pos ⟨rfl, rfl⟩, if_pos ⟨Nat.zero_le _, by show i < 0 + _; omega⟩]
        show mI M 121 0 (0 + (i - 0)) = _
        rw [show 0 + (i - 0) = i by omega]
        exact s121 i hi
    have hr8 : r < 801 := by omega
    refine itn (nlt_oN (a := 800) (by omega) (by omega)) ⟨k, h45, ?_⟩
    have l524 : mL M 524 k = 801 := (hf.L rfl _).trans q4
    have l521 : mL M 521 0 = 801 := (hf.L rfl _).trans hmk.1
    have l158 : mL M 158 k = 801 := (hf.L rfl _).trans q8
    have l159 : mL M 159 k = 801 := (hf.L rfl _).trans q9
    have l160 : mL M 160 k = 801 := (hf.L rfl _).trans q0
    have e524 : mI M 524 k r = b2 (thr s r) := by rw [s524 r hr8, if_neg (Nat.lt_irrefl r)]
    have vr : ∀ {m : Nat}, m = 801 → vp_in (Int32.ofNat r) m := fun e => by rw [e]; exact (vp_oN (by omega)).mpr hr8
    rw [oN_tnc (k := r) (by omega), l521, e524, (hf.Ia (f := 521) rfl rfl 0 r).trans (hmk.2 r hr8)]
    refine ⟨vr l524, ?_⟩
    cases e1 : thr s r with
    | false =>
      refine itp rfl ?_
      unfold w_Model_collect_j422
      refine ⟨k, h45, vr l524, ?_⟩
      rw [oN_tnc (k := r) (by omega), e524, e1]
      refine itp rfl ?_
      unfold w_Model_collect_j494
      have es : swK s (mrk W s) (r + 1) = swK s (mrk W s) r := by rw [swK_s, swA_0 e1]
      have := ct_swL hG hz h hmk hQ n (r + 1) M (by omega) (by omega) (by omega) (hS.skip e1)
      rw [es] at this
      rw [lit32 1, oN_add]
      exact this
    | true =>
      refine itn (by decide) ⟨vr rfl, ?_⟩
      cases e2 : mrk W s r with
      | false =>
        have es : swK s (mrk W s) (r + 1) = ((swK s (mrk W s) r).1 + 1, (swK s (mrk W s) r).2) := by rw [swK_s, swA_1 e1 e2]
        have h6 := sw_6 (s := s) (m := mrk W s) (r + 1)
        have hcm := cnt_mono (P := thr s) (a := r + 1) (b := 801) (by omega)
        rw [es] at h6
        have h6 : (swK s (mrk W s) r).1 + 1 + ((List.range (r + 1)).filter (kp s (mrk W s))).length = ((List.range (r + 1)).filter (thr s)).length := h6
        refine itp rfl ⟨k, h45, vr l524, k, h45, vr l160, _, rfl, k, h45, ?_⟩
        unfold w_Model_collect_j494
        have e50 : mI (sI (sI M 524 k r ((0 : Int32) &&& 1)) 160 k r 0) 12 k 50 - (1 : Int32) = Int32.ofNat ((zH s).1 - (swK s (mrk W s) (r + 1)).1) := by
          simp only [mI_sI, Nat.reduceEqDiff, false_and, if_false]
          rw [s50, lit32 1, sub_n (by omega), es]
          show _ = Int32.ofNat ((zH s).1 - ((swK s (mrk W s) r).1 + 1))
          congr 1
        have := ct_swL hG hz h hmk hQ n (r + 1) _ (by omega) (by omega) (by omega) (hS.gone e1 e2)
        rw [e50]
        rw [es] at this ⊢
        rw [lit32 1, oN_add, oN_add]
        exact this
      | true =>
        refine itn (by decide) ?_
        unfold w_Model_collect_j422
        refine ⟨k, h45, vr l524, ?_⟩
        rw [oN_tnc (k := r) (by omega), e524, e1]
        obtain ⟨⟨b1, b2''⟩, -⟩ := ob_in hG e1
        have e158 : mI M 158 k r = Int32.ofNat (gOb s r).2.1 := by
          rw [s158 r e1, (sw_3 (s := s) (m := mrk W s) r).1 r (Nat.le_refl _)]
        obtain ⟨-, -, o3, -⟩ := b2' r e1
        have e159 : mI M 159 k r = Int32.ofNat (gOb s r).2.2.1 := (hf.Ia rfl rfl _ _).trans o3
        have hkp : kp s (mrk W s) r = true := by unfold kp; rw [e1, e2]; rfl
        have hsl := sw_le (k := 801) hkp hr8
        have es := swK_s (s := s) (m := mrk W s) (k := r)
        rw [swA_2 e1 e2] at es
        refine itn (by decide) ⟨k, h45, k, h45, vr l158, k, h45, vr l159, ?_⟩
        rw [e158, e159, oN_tnc (k := (gOb s r).2.1) (by omega), oN_tnc (k := (gOb s r).2.2.1) (by omega), oN_tnc (k := (swK s (mrk W s) r).2.1) (by omega), l121, l161]
        refine ⟨oN_nonneg (by omega), oN_nonneg (by omega), oN_nonneg (by omega), by omega, by omega, _, rfl, k, h45, vr l158, k, h45, vr l159, _, rfl, ?_⟩
        unfold w_Model_collect_j494
        have e159' : mI (sI (cpI M 161 k (gOb s r).2.1 121 0 (swK s (mrk W s) r).2.1 (gOb s r).2.2.1) 158 k r (Int32.ofNat (swK s (mrk W s) r).2.1)) 159 k r = Int32.ofNat (gOb s r).2.2.1 := by
          rw [mI_sI, if_neg (fun z => absurd z.1 (by decide)), mI_cpI, if_neg (fun z => absurd z.1 (by decide))]; exact e159
        have := ct_swL hG hz h hmk hQ n (r + 1) _ (by omega) (by omega) (by omega) (hS.keep e1 e2 b2'')
        rw [es] at this
        rw [e159', lit32 1, oN_add, oN_add]
        exact this
end
