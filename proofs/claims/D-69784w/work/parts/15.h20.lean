/-! THE MACHINE IN THE TWIN: things are made; rows -/
section
variable {G : List Sl} {US : UST} {A : List Nm} {S : List Sg} {W : List Cls} {w c j a k t L q n : Nat} {br x r v : Int32} {bb : Bool} {nq nl nf nk B F op : Nat} {M M' : Mem} {s s' : Ms} {U V : List Un} {lo st lo' st' : List Vl} {o : Option Kd} {Q : Int32 → Mem → Prop} {i : Ins} {p : Nat × Nat}
abbrev STp : Nat := (17883604017826375289199641096765419608817676297343493313768695760992762209339418235716522143188630705669177984651736285111136283419304953119905802152665038449419581542795594952600731084498496241194656998207069228077026259072311047224252273263571671026460385461118386541083694825535528414841795831639317533559743052371137775159406182670664278560903536857534181622439031825338308095331749785341842999380242133882462870227561724643114258063157040933999827409757997571496604927099158496695410758239438338512295814764609353157572810164197120296190787605522550005985251030061520681531632086114845446398111688591349765233204247225599864320965819534264869954969580232827421875427587962624798275307837875302097414438456718518708048941402639869989639344081175631349404403476553840169892139162979073416156448586282980734133374182783968845222642402216912120376124256338904032080988401838976541630118482511142435858585142185929504883366826934313588049144704318712902375348857265223258169432138805779593363464394240394443748878344570413171035648947126272)
/-- objects have changed -/
theorem TM.hp {H : Nat × Nat × (Nat → Bool) × (Nat → Ob) × (Nat → Int32) × (Nat → Kd)} (h : TM G US A S W w br nq nl nf nk B F x bb t s U M) (hf : Fr STp M M') (hH : uH w (yH s H) M') : TM G US A S W w br nq nl nf nk B F x bb t (yH s H) U M' := by
  have hg := h.1.ga
  obtain ⟨⟨a1, ⟨b1, b2'⟩, ⟨c1, c2⟩, ⟨d1, d2, d3⟩, ⟨e1, e2, e3, e4⟩, ⟨m1, m2, m3⟩, g⟩, hl, hu, h4⟩ := h
  have hr := hf.rsl hg
  have tI : ∀ i g k, tnF g = true → (g = 13 → k < 23) → mI M' g i k = mI M g i k := fun i g k hg h23 => unO_I (R := STp) rfl hf hg h23 i
  have tL : ∀ i g, tnF g = true → mL M' g i = mL M g i := fun i g hg => unO_L (R := STp) rfl hf hg i
  exact ⟨⟨a1.mfr hf, ⟨b1.fr hf, b2'.fr hf⟩, ⟨hH, c2.fr hg hf⟩, ⟨d1.fr hf, d2.fr hf, d3.fr hf⟩, ⟨(hf.R (f := 11) (k := 46) rfl 0).trans e1, (hf.I (f := 11) (k := 47) rfl 0).trans e2, (hf.L (f := 704) rfl w).trans e3, fun t' ht => (hf.Ra (f := 704) rfl rfl w t').trans (e4 t' ht)⟩, ⟨by rw [hr.1, hr.2]; exact m1, by rw [hf.L (f := 110) rfl]; exact ⟨m2, m3⟩⟩, fun t' ht hne => (g t' ht hne).eq (tI _) (tL _)⟩, hl.eq (tI _) (tL _), hu.eq (tI _), fun z => by rw [tI _ 13 4 rfl (by omega)]; exact h4 z⟩
theorem TM.uh (h : TM G US A S W w br nq nl nf nk B F x bb t s U M) : uH w s M := h.1.2.2.1.1
/-- an object, or a row, is made -/
theorem ct_newThing {cl : Option Nat} {ks : List Kd} (h : TM G US A S W w br nq nl nf nk B F x bb t s U M) (hO : HO W s) (hn : n ≤ 4000) (hQ0 : fulS s n → Q (-1) M) (hQ1 : ¬ fulS s n → ∀ M', TM G US A S W w br nq nl nf nk B F x bb t (mkOb s cl n ks) U M' → Q (Int32.ofNat (lfree s)) M') : w_Model_newThing 0 (oCl cl) (Int32.ofNat n) Q M := by
  have R5 := h.r45
  obtain ⟨⟨l7, l8, l9, l0, l2, l4, l1⟩, ⟨e50, e52⟩, hT, hOb, hC⟩ := h.uh
  obtain ⟨⟨ht0, ht8⟩, hcnt, h4000⟩ := hO.1
  have h800 : (zH s).1 ≤ 801 := by
    rw [hcnt]
    have := List.length_filter_le (thr s) (List.range 801)
    rw [List.length_range] at this; exact this
  unfold w_Model_newThing
  refine ⟨w, R5, ?_⟩
  rw [e50]
  by_cases c1 : (zH s).1 = 800
  · exact itp (by rw [c1]; rfl) (hQ0 (Or.inl c1))
  refine itn (fun z => c1 ((oN_inj (a := (zH s).1) (b := 800) (by omega) (by omega)).mp z)) ⟨w, R5, ?_⟩
  rw [e52, oN_add]
  by_cases c2 : 4000 < (zH s).2.1 + n
  · exact itn (fun z => by have := (oN_le (a := (zH s).2.1 + n) (b := 4000) (by omega) (by omega)).mp z; omega) (hQ0 (Or.inr c2))
  have hfu : ¬ fulS s n := fun z => z.elim c1 c2
  obtain ⟨f1, f2, f3⟩ := lfree_ok hO c1
  refine itp ((oN_le (a := (zH s).2.1 + n) (b := 4000) (by omega) (by omega)).mpr (by omega)) ⟨w, R5, 801, ?_⟩
  rw [e50, show Int32.ofNat (zH s).1 + (1 : Int32) = Int32.ofNat ((zH s).1 + 1) from oN_add _ 1]
  -- clearing of cells
  have cells : ∀ m k M1, n - k < m → k ≤ n → Fr STp M M1 → (∀ f i, mL M1 f i = mL M f i) → mI M1 12 w 50 = Int32.ofNat ((zH s).1 + 1) → mI M1 12 w 52 = Int32.ofNat (zH s).2.1 → (∀ r, mI M1 524 w r = if r = lfree s then 1 else mI M 524 w r) → (∀ r, mI M1 157 w r = if r = lfree s then oCl cl else mI M 157 w r) → (∀ r, mI M1 158 w r = if r = lfree s then Int32.ofNat (zH s).2.1 else mI M 158 w r) → (∀ r, mI M1 159 w r = if r = lfree s then Int32.ofNat n else mI M 159 w r) → (∀ r, mI M1 160 w r = if r = lfree s then 0 else mI M 160 w r) → (∀ r, mI M1 162 w r = mI M 162 w r) → (∀ i, mI M1 161 w i = if (zH s).2.1 ≤ i ∧ i < (zH s).2.1 + k then 0 else mI M 161 w i) → w_Model_newThing_L122 0 Q m (Int32.ofNat n) (Int32.ofNat (lfree s)) (Int32.ofNat k) M1 := by
    intro m
    induction m with
    | zero => intro k M1 hm; exact absurd hm (by omega)
    | succ m ih =>
      intro k M1 hm hk hf hL g50 g52 g4 g7 g8 g9 g0 g2 g1
      have R51 : mR M1 11 0 45 = some (12, w) := (hf.R (f := 11) (k := 45) rfl 0).trans R5
      unfold w_Model_newThing_L122
      by_cases ck : n ≤ k
      · have ek : k = n := by omega
        subst ek
        refine itp ((oN_le (by omega) (by omega)).mpr (Nat.le_refl _)) ⟨w, R51, ?_⟩
        rw [g52, oN_add]
        refine hQ1 hfu _ (h.hp (M' := sI M1 12 w 52 (Int32.ofNat ((zH s).2.1 + k))) (Fr.wI rfl hf) ?_)
        have hL' : ∀ f i, mL (sI M1 12 w 52 (Int32.ofNat ((zH s).2.1 + k))) f i = mL M f i := fun f i => hL f i
        have hI' : ∀ f i k', f ≠ 12 → mI (sI M1 12 w 52 (Int32.ofNat ((zH s).2.1 + k))) f i k' = mI M1 f i k' := fun f i k' hf => by rw [mI_sI, if_neg (fun z => hf z.1)]
        refine ⟨⟨(hL' _ _).trans l7, (hL' _ _).trans l8, (hL' _ _).trans l9, (hL' _ _).trans l0, (hL' _ _).trans l2, (hL' _ _).trans l4, (hL' _ _).trans l1⟩, ⟨?_, ?_⟩, fun r hr => ?_, fun r hr => ?_, fun i hi => ?_⟩
        · rw [mI_sI, if_neg (fun z => absurd z.2.2 (by decide))]; exact g50
        · rw [mI_sI, if_pos ⟨rfl, rfl, rfl⟩]
        · rw [hI' 524 w r (by omega), g4]
          show _ = b2 (up1 (zH s).2.2.1 (lfree s) true r)
          by_cases e : r = lfree s
          · rw [if_pos e, e, up1_s]; rfl
          · rw [if_neg e, up1_o e]; exact hT r hr
        · have hr : up1 (zH s).2.2.1 (lfree s) true r = true := hr
          show mI _ 157 w r = oCl (up1 (zH s).2.2.2.1 (lfree s) _ r).1 ∧ mI _ 158 w r = Int32.ofNat (up1 (zH s).2.2.2.1 (lfree s) _ r).2.1 ∧ mI _ 159 w r = Int32.ofNat (up1 (zH s).2.2.2.1 (lfree s) _ r).2.2.1 ∧ mI _ 160 w r = (up1 (zH s).2.2.2.1 (lfree s) _ r).2.2.2.1 ∧ ((up1 (zH s).2.2.2.1 (lfree s) _ r).2.2.2.1 ≠ 0 → mI _ 162 w r = (up1 (zH s).2.2.2.1 (lfree s) _ r).2.2.2.2)
          rw [hI' 157 w r (by omega), hI' 158 w r (by omega), hI' 159 w r (by omega), hI' 160 w r (by omega), hI' 162 w r (by omega), g7, g8, g9, g0, g2]
          by_cases e : r = lfree s
          · rw [if_pos e, if_pos e, if_pos e, if_pos e, e, up1_s]
            exact ⟨rfl, rfl, rfl, rfl, fun z => absurd rfl z⟩
          · rw [up1_o e] at hr
            rw [if_neg e, if_neg e, if_neg e, if_neg e, up1_o e]
            exact hOb r hr
        · have hi : i < (zH s).2.1 + k := hi
          rw [hI' 161 w i (by omega), g1]
          show _ = tr (decide ((if (zH s).2.1 ≤ i ∧ i < (zH s).2.1 + k then ks.getD (i - (zH s).2.1) (0, []) else (zH s).2.2.2.2.2 i).1 ≠ 0)) (if (zH s).2.1 ≤ i ∧ i < (zH s).2.1 + k then 0 else (zH s).2.2.2.2.1 i)
          by_cases e : (zH s).2.1 ≤ i ∧ i < (zH s).2.1 + k
          · rw [if_pos e, if_pos e, if_pos e, tr_0]
          · rw [if_neg e, if_neg e, if_neg e]; exact hC i (by omega)
      · refine itn (fun z => by have := (oN_le (a := n) (b := k) (by omega) (by omega)).mp z; omega) ⟨w, R51, w, R51, ?_⟩
        rw [g52, oN_add, oN_tnc (k := (zH s).2.1 + k) (by omega), show Int32.ofNat k + (1 : Int32) = Int32.ofNat (k + 1) from oN_add k 1]
        refine ⟨by rw [hL, l1]; exact (vp_oN (by omega)).mpr (by omega), ?_⟩
        have rd : ∀ f i k' , f ≠ 161 → mI (sI M1 161 w ((zH s).2.1 + k) 0) f i k' = mI M1 f i k' := fun f i k' hf => by rw [mI_sI, if_neg (fun z => hf z.1)]
        refine ih (k + 1) _ (by omega) (by omega) (Fr.wIa rfl rfl hf) (fun f i => hL f i) ((rd 12 w 50 (by omega)).trans g50) ((rd 12 w 52 (by omega)).trans g52) (fun r => (rd 524 w r (by omega)).trans (g4 r)) (fun r => (rd 157 w r (by omega)).trans (g7 r)) (fun r => (rd 158 w r (by omega)).trans (g8 r)) (fun r => (rd 159 w r (by omega)).trans (g9 r)) (fun r => (rd 160 w r (by omega)).trans (g0 r)) (fun r => (rd 162 w r (by omega)).trans (g2 r)) (fun i => ?_)
        rw [mI_sI]
        by_cases e : i = (zH s).2.1 + k
        · rw [if_pos ⟨rfl, rfl, e⟩, if_pos ⟨by omega, by omega⟩]
        · rw [if_neg (fun z => e z.2.2), g1 i]
          by_cases e2 : (zH s).2.1 ≤ i ∧ i < (zH s).2.1 + k
          · rw [if_pos e2, if_pos ⟨by omega, by omega⟩]
          · rw [if_neg e2, if_neg (by omega)]
  -- the least free one
  have find : ∀ m r, lfree s - r < m → r ≤ lfree s → 1 ≤ r → w_Model_newThing_L45 0 Q m (oCl cl) (Int32.ofNat n) (Int32.ofNat r) (sI M 12 w 50 (Int32.ofNat ((zH s).1 + 1))) := by
    intro m
    induction m with
    | zero => intro r hm; exact absurd hm (by omega)
    | succ m ih =>
      intro r hm hr h1
      have v : ∀ f, mL M f w = 801 → vp_in (Int32.ofNat r) (mL M f w) := fun f e => by rw [e]; exact (vp_oN (by omega)).mpr (by omega)
      have e4 : mI (sI M 12 w 50 (Int32.ofNat ((zH s).1 + 1))) 524 w r = b2 (thr s r) := by rw [mI_sI, if_neg (fun z => absurd z.1 (by decide))]; exact hT r (by omega)
      unfold w_Model_newThing_L45
      refine ⟨w, R5, v 524 l4, ?_⟩
      rw [oN_tnc (k := r) (by omega), e4]
      by_cases e : r = lfree s
      · subst e
        rw [f1]
        have e52' : ∀ v1 v2, mI (sI (sI (sI M 12 w 50 (Int32.ofNat ((zH s).1 + 1))) 524 w (lfree s) v1) 157 w (lfree s) v2) 12 w 52 = Int32.ofNat (zH s).2.1 := fun v1 v2 => by
          simp only [mI_sI, Nat.reduceEqDiff, false_and, if_false, and_false]; exact e52
        refine itp rfl ⟨w, R5, v 524 l4, w, R5, v 157 l7, _, rfl, w, R5, w, R5, v 158 l8, w, R5, v 159 l9, _, rfl, w, R5, v 160 l0, n + 1, ?_⟩
        rw [e52']
        refine cells (n + 1) 0 _ (by omega) (by omega) (Fr.wIa rfl rfl (Fr.wIa rfl rfl (Fr.wIa rfl rfl (Fr.wIa rfl rfl (Fr.wIa rfl rfl (Fr.wI rfl (Fr.rf _ _))))))) (fun _ _ => rfl) ?_ ?_ (fun r => ?_) (fun r => ?_) (fun r => ?_) (fun r => ?_) (fun r => ?_) (fun r => ?_) (fun i => ?_)
        · simp only [mI_sI, Nat.reduceEqDiff, false_and, if_false, and_self, if_true]
        · simp only [mI_sI, Nat.reduceEqDiff, false_and, if_false, and_false]; exact e52
        · simp only [mI_sI, Nat.reduceEqDiff, false_and, if_false, true_and]; rfl
        · simp only [mI_sI, Nat.reduceEqDiff, false_and, if_false, true_and]
        · simp only [mI_sI, Nat.reduceEqDiff, false_and, if_false, true_and]
        · simp only [mI_sI, Nat.reduceEqDiff, false_and, if_false, true_and]
        · simp only [mI_sI, Nat.reduceEqDiff, false_and, if_false, true_and]
        · simp only [mI_sI, Nat.reduceEqDiff, false_and, if_false, true_and]
        · rw [if_neg (by omega)]
          simp only [mI_sI, Nat.reduceEqDiff, false_and, if_false, true_and]
      · have ht : thr s r = true := lfr_all 801 1 r h1 (by show r < lfree s; omega)
        rw [ht]
        refine itn (by decide) ?_
        rw [show Int32.ofNat r + (1 : Int32) = Int32.ofNat (r + 1) from oN_add r 1]
        exact ih (r + 1) (by omega) (by omega) (by omega)
  exact find 801 1 (by omega) f2 (Nat.le_refl _)
end
