/-! THE MACHINE IN THE TWIN: starts of classes -/
section
variable {G : List Sl} {US : UST} {A : List Nm} {S : List Sg} {W : List Cls} {w c j a k t L : Nat} {br x r : Int32} {bb : Bool} {nq nl nf nk B F : Nat} {M M' : Mem} {s s' : Ms} {U V : List Un} {lo st lo' st' : List Vl} {o : Option Kd} {Q : Int32 → Mem → Prop} {R : Nat} {L' : LkS}
/-- all but links is as it was -/
def tmO (R : Nat) : Bool := (okF R [137, 163, 164, 5163, 5164, cd 12 60] && (!R.testBit 143 && (okF R [157, 158, 159, 160, 161, 162, 524, 5157, 5158, 5159, 5160, 5161, 5162, 5524, cd 12 50, cd 12 52] && (sOk R && (!R.testBit (cd 12 56) && (okF R [165, 166, 167, 168, 5165, 5166, 5167, 5168, cd 12 70] && (okF R [169, 5169] && (okF R [cd 12 63, cd 12 64, cd 12 65] && unO R)))))))) && okF R [cd 11 46, cd 11 47, 5704, 704, 5110]
theorem unO_L (hS : unO R = true) (hf : Fr R M M') {g : Nat} (hg : tnF g = true) (i : Nat) : mL M' g i = mL M g i := by
  unfold unO at hS
  rw [Bool.and_eq_true] at hS
  have o := fun {b : Nat} (hb : b ∈ unL) => okF_in hS.1 hb
  rcases tnF_in hg with z | z | z | z | z | z | z | z | z <;> subst z
  · exact hf.L (f := 13) (o (by simp)) i
  · exact hf.L (f := 170) (o (by simp)) i
  · exact hf.L (f := 171) (o (by simp)) i
  · exact hf.L (f := 172) (o (by simp)) i
  · exact hf.L (f := 173) (o (by simp)) i
  · exact hf.L (f := 174) (o (by simp)) i
  · exact hf.L (f := 175) (o (by simp)) i
  · exact hf.L (f := 176) (o (by simp)) i
  · exact hf.L (f := 525) (o (by simp)) i
theorem TM.lk (h : TM G US A S W w br nq nl nf nk B F x bb t s U M) (hf : Fr R M M') (hL : LKt G US A S W w br nq nl nf nk L' M') (hR : tmO R = true := by rfl) : TM G US A S W w br nq nl nf nk B F x bb t (yL s L') U M' := by
  have hg := h.1.ga
  unfold tmO at hR
  simp only [Bool.and_eq_true, Bool.not_eq_true'] at hR
  obtain ⟨⟨r1, r2, r3, r4, r5, r6, r7, r8, r9⟩, r10⟩ := hR
  have o := fun {b : Nat} (hb : b ∈ [cd 11 46, cd 11 47, 5704, 704, 5110]) => okF_in r10 hb
  obtain ⟨⟨a1, ⟨b1, b2'⟩, ⟨c1, c2⟩, ⟨d1, d2, d3⟩, ⟨e1, e2, e3, e4⟩, ⟨m1, m2, m3⟩, g⟩, hl, hu, h4⟩ := h
  have hr := hf.rsl hg r4
  have tI : ∀ i g k, tnF g = true → (g = 13 → k < 23) → mI M' g i k = mI M g i k := fun i g k hg h23 => unO_I r9 hf hg h23 i
  have tL : ∀ i g, tnF g = true → mL M' g i = mL M g i := fun i g hg => unO_L r9 hf hg i
  exact ⟨⟨hL, ⟨b1.fr hf r1, b2'.fr hf r2⟩, ⟨c1.fr hf r3, c2.fr hg hf r4 r5⟩, ⟨d1.fr hf r6, d2.fr hf r7, d3.fr hf r8⟩, ⟨(hf.R (f := 11) (k := 46) (o (by simp)) 0).trans e1, (hf.I (f := 11) (k := 47) (o (by simp)) 0).trans e2, (hf.L (f := 704) (o (by simp)) w).trans e3, fun t' ht => (hf.Ra (f := 704) rfl (o (by simp)) w t').trans (e4 t' ht)⟩, ⟨by rw [hr.1, hr.2]; exact m1, by rw [hf.L (f := 110) (o (by simp))]; exact ⟨m2, m3⟩⟩, fun t' ht hne => (g t' ht hne).eq (tI _) (tL _)⟩, hl.eq (tI _) (tL _), hu.eq (tI _), fun z => by rw [tI _ 13 4 rfl (by omega)]; exact h4 z⟩
/-- only what a thread keeps for itself -/
theorem TM.w11 {i : Nat} {v : Int32} (h : TM G US A S W w br nq nl nf nk B F x bb t s U M) (hi : i = 80 ∨ i = 81) : TM G US A S W w br nq nl nf nk B F x bb t s U (sI M 11 0 i v) := by
  have ag : AgU w t M (sI M 11 0 i v) := by rcases hi with z | z <;> subst z <;> exact AgU.rf.w11
  have tI : ∀ i' g k, tnF g = true → (g = 13 → k < 23) → mI (sI M 11 0 i v) g i' k = mI M g i' k := fun i' g k hg _ => by rw [mI_sI, if_neg (fun z => by rw [z.1] at hg; cases hg)]
  exact ⟨h.1.ag ag, h.2.1.eq (tI _) (fun _ _ => rfl), h.2.2.1.eq (tI _), fun z => by rw [tI _ 13 4 rfl (by omega)]; exact h.2.2.2 z⟩
theorem TM.w2 {v : Int32} (h : TM G US A S W w br nq nl nf nk B F x bb t s U M) (hw : lWt (zN s t) = none) : TM G US A S W w br nq nl nf nk B F x bb t s U (sI M 13 (3 * w + t) 2 v) := by
  have ag : AgU w t M (sI M 13 (3 * w + t) 2 v) := AgU.rf.w13
  have rd : ∀ i, i ≠ 2 → mI (sI M 13 (3 * w + t) 2 v) 13 (3 * w + t) i = mI M 13 (3 * w + t) i := fun i hi => by rw [mI_sI, if_neg (fun z => hi z.2.2)]
  have ra : ∀ g i, g ≠ 13 → mI (sI M 13 (3 * w + t) 2 v) g (3 * w + t) i = mI M g (3 * w + t) i := fun g i hg => by rw [mI_sI, if_neg (fun z => hg z.1)]
  obtain ⟨hln, ⟨b1, b2'⟩, ⟨c1, c2, c3, c4⟩, d, e⟩ := h.2.1
  refine ⟨h.1.ag ag, ⟨hln, ⟨(rd 0 (by omega)).trans b1, (rd 3 (by omega)).trans b2'⟩, ⟨(rd 10 (by omega)).trans c1, (rd 11 (by omega)).trans c2, (rd 12 (by omega)).trans c3, (rd 13 (by omega)).trans c4⟩, ?_, fun z => ?_⟩, ⟨(rd 16 (by omega)).trans h.2.2.1.1, (rd 22 (by omega)).trans h.2.2.1.2.1, unT.eq' (fun g i hg => ra g i (by omega)) h.2.2.1.2.2⟩, fun z => by rw [rd 4 (by omega)]; exact h.2.2.2 z⟩
  · have d' : uW (zN s t) (3 * w + t) M := d
    unfold uW at d' ⊢
    rw [hw] at d' ⊢
    exact (rd 1 (by omega)).trans d'
  · obtain ⟨e1, e2, e3, e4, e5, e6⟩ := e z
    rw [rd 5 (by omega), rd 6 (by omega), rd 7 (by omega)]
    exact ⟨e1, e2, e3, e4, e5, fun k hk => (ra 170 k (by omega)).trans (e6 k hk)⟩
/-- a start begins -/
theorem TM.bg (h : TM G US A S W w br nq nl nf nk B F x bb t s U M) (hk : k < W.length) (hB : (zB s).length < 51) : TM G US A S W w br nq nl nf nk B F x bb t (yB (yO (yC s (up1 (zC s) k 1)) (up1 (zO s) k (Int32.ofNat t))) (zB s ++ [k])) U (sI (sI (sI (sI M 137 w k 1) 164 w k (Int32.ofNat t)) 163 w (zB s).length (Int32.ofNat k)) 12 w 60 (Int32.ofNat ((zB s).length + 1))) := by
  have hf : Fr (3662562102850841659228086496617557935885860105695947430659828891851317700472712854674743734925031568521047651256675591190760710844273654398956708280865799874441130299964537846292629726105292030196665753232807777910174977858009302471526865564379478226219086942437045563613940700269676219359599786319732230873035377125609016352646386210952044249273044348423000396275513717829285497923942356038009446273073589019128395822604641206909800051334561983283164653518437902642504689069907660123220123287436971727318182863791995526670911521627570236659873301611018241225779410956599435577678251236320347422333273823508431919760229831802852212933799840617445366777770031683056000087570014745558686783045196861869550476995935952631408423199260645373878137667824769300358021831998226466793910100578114235628840670470754454350515032634156819501597163974023602253030247698207545770186424696622395714600980731923979906811890850463407952939283360392631249712946512942808454792726292120121557839974884548858441931671901407647430053055249871713477524461161807872) M (sI (sI (sI (sI M 137 w k 1) 164 w k (Int32.ofNat t)) 163 w (zB s).length (Int32.ofNat k)) 12 w 60 (Int32.ofNat ((zB s).length + 1))) := Fr.wI rfl (Fr.wIa rfl rfl (Fr.wIa rfl rfl (Fr.wIa rfl rfl (Fr.rf _ _))))
  have hg := h.1.ga
  obtain ⟨⟨a1, ⟨⟨b0, b1, b2', b3⟩, b4⟩, ⟨c1, c2⟩, ⟨d1, d2, d3⟩, ⟨e1, e2, e3, e4⟩, ⟨m1, m2, m3⟩, g⟩, hl, hu, h4⟩ := h
  have hr := hf.rsl hg
  have tI : ∀ i g k', tnF g = true → (g = 13 → k' < 23) → mI (sI (sI (sI (sI M 137 w k 1) 164 w k (Int32.ofNat t)) 163 w (zB s).length (Int32.ofNat k)) 12 w 60 (Int32.ofNat ((zB s).length + 1))) g i k' = mI M g i k' := fun i g k' hg h23 => unO_I (R := (3662562102850841659228086496617557935885860105695947430659828891851317700472712854674743734925031568521047651256675591190760710844273654398956708280865799874441130299964537846292629726105292030196665753232807777910174977858009302471526865564379478226219086942437045563613940700269676219359599786319732230873035377125609016352646386210952044249273044348423000396275513717829285497923942356038009446273073589019128395822604641206909800051334561983283164653518437902642504689069907660123220123287436971727318182863791995526670911521627570236659873301611018241225779410956599435577678251236320347422333273823508431919760229831802852212933799840617445366777770031683056000087570014745558686783045196861869550476995935952631408423199260645373878137667824769300358021831998226466793910100578114235628840670470754454350515032634156819501597163974023602253030247698207545770186424696622395714600980731923979906811890850463407952939283360392631249712946512942808454792726292120121557839974884548858441931671901407647430053055249871713477524461161807872)) rfl hf hg h23 i
  refine ⟨⟨a1.mfr hf, ⟨⟨b0, fun k' hk' => ?_, ?_, fun i hi => ?_⟩, b4.fr hf⟩, ⟨c1.fr hf, c2.fr hg hf⟩, ⟨d1.fr hf, d2.fr hf, d3.fr hf⟩, ⟨e1, e2, e3, e4⟩, ⟨by rw [hr.1, hr.2]; exact m1, m2, m3⟩, fun t' ht hne => (g t' ht hne).eq (tI _) (fun _ _ => rfl)⟩, hl.eq (tI _) (fun _ _ => rfl), hu.eq (tI _), fun z => by rw [tI _ 13 4 rfl (by omega)]; exact h4 z⟩
  · show mI _ 137 w k' = up1 (zC s) k 1 k' ∧ (up1 (zC s) k 1 k' = 1 → mI _ 164 w k' = up1 (zO s) k (Int32.ofNat t) k')
    simp only [mI_sI, Nat.reduceEqDiff, false_and, if_false, true_and]
    by_cases e : k' = k
    · rw [if_pos e, if_pos e, e, up1_s, up1_s]; exact ⟨rfl, fun _ => rfl⟩
    · rw [if_neg e, if_neg e, up1_o e, up1_o e]; exact b1 k' hk'
  · show _ = Int32.ofNat (zB s ++ [k]).length
    rw [List.length_append, List.length_singleton, mI_sI, if_pos ⟨rfl, rfl, rfl⟩]
  · have hi : i < (zB s ++ [k]).length := hi
    rw [List.length_append, List.length_singleton] at hi
    show _ = Int32.ofNat ((zB s ++ [k]).getD i 0)
    simp only [mI_sI, Nat.reduceEqDiff, false_and, if_false, true_and]
    by_cases e : i = (zB s).length
    · rw [if_pos e, e, List.getD_eq_getElem?_getD, List.getElem?_append_right (Nat.le_refl _), Nat.sub_self]; rfl
    · rw [if_neg e, List.getD_eq_getElem?_getD, List.getElem?_append_left (by omega), ← List.getD_eq_getElem?_getD]
      exact b3 i (by omega)
theorem TM.s143 {i : Nat} {v : Int32} {X : Nat → Nat → Int32} (h : TM G US A S W w br nq nl nf nk B F x bb t s U M) (hX : uS W w (yS s X) (sI M 143 w i v)) : TM G US A S W w br nq nl nf nk B F x bb t (yS s X) U (sI M 143 w i v) := by
  have hf : Fr (11150372599265311570767859136324180752990208) M (sI M 143 w i v) := Fr.wIa rfl rfl (Fr.rf _ _)
  have hg := h.1.ga
  obtain ⟨⟨a1, ⟨b1, -⟩, ⟨c1, c2⟩, ⟨d1, d2, d3⟩, ⟨e1, e2, e3, e4⟩, ⟨m1, m2, m3⟩, g⟩, hl, hu, h4⟩ := h
  have hr := hf.rsl hg
  have tI : ∀ i' g k', tnF g = true → (g = 13 → k' < 23) → mI (sI M 143 w i v) g i' k' = mI M g i' k' := fun i g k' hg h23 => unO_I (R := (11150372599265311570767859136324180752990208)) rfl hf hg h23 i
  exact ⟨⟨a1.mfr hf, ⟨b1.fr hf, hX⟩, ⟨c1.fr hf, c2.fr hg hf⟩, ⟨d1.fr hf, d2.fr hf, d3.fr hf⟩, ⟨e1, e2, e3, e4⟩, ⟨by rw [hr.1, hr.2]; exact m1, m2, m3⟩, fun t' ht hne => (g t' ht hne).eq (tI _) (fun _ _ => rfl)⟩, hl.eq (tI _) (fun _ _ => rfl), hu.eq (tI _), fun z => by rw [tI _ 13 4 rfl (by omega)]; exact h4 z⟩
/-- a start unit comes -/
theorem TM.pushS (h : TM G US A S W w br nq nl nf nk B F x bb t s U M) (hst : stk U) {y : Int32} (hy : (-1 : Int32) - Int32.ofNat k = y) : TM G US A S W w br nq nl nf nk B F x bb t (sU s t (.inr (k, false) :: U)) (.inr (k, false) :: U) (sI (sI (sI M 171 (3 * w + t) U.length y) 172 (3 * w + t) U.length 1) 13 (3 * w + t) 16 (Int32.ofNat (U.length + 1))) := by
  have ag : AgU w t M (sI (sI (sI M 171 (3 * w + t) U.length y) 172 (3 * w + t) U.length 1) 13 (3 * w + t) 16 (Int32.ofNat (U.length + 1))) := AgU.rf.wa.wa.w13
  have eN : zN (sU s t (.inr (k, false) :: U)) t = qU (zN s t) (.inr (k, false) :: U) := up1_s
  have r13 : ∀ i, i ≠ 16 → mI (sI (sI (sI M 171 (3 * w + t) U.length y) 172 (3 * w + t) U.length 1) 13 (3 * w + t) 16 (Int32.ofNat (U.length + 1))) 13 (3 * w + t) i = mI M 13 (3 * w + t) i := fun i hi => by
    simp only [mI_sI, Nat.reduceEqDiff, false_and, if_false, true_and, hi]
  have ra : ∀ g i, g ≠ 13 → g ≠ 171 → g ≠ 172 → mI (sI (sI (sI M 171 (3 * w + t) U.length y) 172 (3 * w + t) U.length 1) 13 (3 * w + t) 16 (Int32.ofNat (U.length + 1))) g (3 * w + t) i = mI M g (3 * w + t) i := fun g i h1 h2 h3 => by
    simp only [mI_sI, h1, h2, h3, false_and, if_false]
  refine ⟨(h.1.ag ag).su, ?_, ⟨?_, ?_, ⟨?_, ?_⟩, ?_⟩, fun z => ?_⟩
  · rw [eN]; exact h.2.1.g (fun i hi => r13 i (by omega)) (fun i => ra 170 i (by omega) (by omega) (by omega)) (fun _ => rfl)
  · simp only [mI_sI, and_self, if_true]; rfl
  · exact (r13 22 (by omega)).trans h.2.2.1.2.1
  · show _ = (-1 : Int32) - Int32.ofNat k
    rw [hy]
    simp only [mI_sI, Nat.reduceEqDiff, false_and, if_false, and_self, if_true]
  · simp only [mI_sI, Nat.reduceEqDiff, false_and, if_false, and_self, if_true]; rfl
  · refine unT.kp h.2.2.1.2.2 hst (fun g i hg hi => ?_) (fun g i hg hi => ra g i (by omega) (by omega) (by omega)) (fun i hi => ⟨ra 176 i (by omega) (by omega) (by omega), ra 525 i (by omega) (by omega) (by omega)⟩)
    have hne : ¬ i = U.length := by omega
    rcases hg with z | z <;> subst z <;> simp only [mI_sI, Nat.reduceEqDiff, false_and, if_false, true_and, hne]
  · rw [eN] at z
    rw [r13 4 (by omega)]; exact h.2.2.2 z
/-- what a class's start asks for -/
theorem ct_startOf (hq : TQc W F s) (h : TM G US A S W w br nq nl nf nk B F x bb t s (gU s t) M) (hM : MO W s t none (gU s t)) (hon : lSt (zN s t) = 1) (hw0 : lWt (zN s t) = none) (hk : k < W.length)
    (hQ0 : (mustS br W t s k).1 = 0 → Q 0 M)
    (hQ1 : ∀ M', (mustS br W t s k).1 = 1 → TM G US A S W w br nq nl nf nk B F x bb t (mustS br W t s k).2.2 (gU (mustS br W t s k).2.2 t) M' → Q 1 M')
    (hQ2 : ∀ M', (mustS br W t s k).1 = 3 → (mustS br W t s k).2.2 = sWt s t (some (.inr k)) → TM G US A S W w br nq nl nf nk B F x bb t s (gU s t) M' → mI M' 13 (3 * w + t) 2 = (-1 : Int32) - Int32.ofNat k → Q 2 M')
    (hQ3 : ∀ M', (mustS br W t s k).1 = 2 → TM G US A S W w br nq nl nf nk B F x bb t (mustS br W t s k).2.2 (gU (mustS br W t s k).2.2 t) M' → tThr (mustS br W t s k).2.1 M' → Q 3 M') : w_Model_startOf 0 (Int32.ofNat k) Q M := by
  obtain ⟨hW, hFb, hF⟩ := hq
  have h51 := h.1.l5
  have R5 := h.1.1.1.r45
  have R6 : mR M 11 0 46 = some (13, 3 * w + t) := h.1.2.2.2.2.1.1
  have e47 := h.1.2.2.2.2.1.2.1
  obtain ⟨⟨l164, l163⟩, hc1, e60, hb3⟩ := h.1.2.1.1
  obtain ⟨c1, c2⟩ := hc1 k hk
  have l137 : mL M 137 w = 51 := h.1.1.1.1.1.1.1.2.2.2.2.2.1
  have hC := hM.1.1.2.2.2.2
  have ht := hM.2.1.1
  have v51 : vp_in (Int32.ofNat k) 51 := (vp_oN (by omega)).mpr (by omega)
  unfold w_Model_startOf
  refine ⟨w, R5, by rw [l137]; exact v51, ?_⟩
  rw [oN_tnc (k := k) (by omega), c1]
  unfold mustS at hQ0 hQ1 hQ2 hQ3
  by_cases e1 : zC s k = 1
  · rw [if_neg (by rw [e1]; decide), if_pos e1] at hQ0 hQ2
    refine itp e1 ⟨w, R5, by rw [l164]; exact v51, ?_⟩
    rw [c2 e1, e47]
    by_cases eo : zO s k = Int32.ofNat t
    · rw [if_pos eo] at hQ0
      exact itp eo (hQ0 rfl)
    · rw [if_neg eo] at hQ2
      exact itn eo ⟨3 * w + t, R6, hQ2 _ rfl rfl (h.w2 hw0) (by rw [mI_sI, if_pos ⟨rfl, rfl, rfl⟩])⟩
  refine itn e1 ?_
  by_cases e2 : zC s k = 2
  · rw [if_pos e2] at hQ0
    exact itp e2 (hQ0 rfl)
  refine itn e2 ?_
  rw [if_neg e2, if_neg e1] at hQ1 hQ3
  by_cases e3 : zC s k = 3
  · rw [if_pos e3] at hQ3
    refine itp e3 (hQ3 _ rfl ((h.w11 (Or.inr rfl)).w11 (Or.inl rfl)) ⟨?_, ?_⟩)
    · rw [mI_sI, if_neg (fun z => absurd z.2.2 (by decide)), mI_sI, if_pos ⟨rfl, rfl, rfl⟩]
      show (0 : Int32) = Int32.ofNat ((11 : Int32).toNatClampNeg / 100)
      rw [show (11 : Int32).toNatClampNeg = 11 from oN_tnc (k := 11) (by omega)]; rfl
    · rw [mI_sI, if_pos ⟨rfl, rfl, rfl⟩]
      show (11 : Int32) = Int32.ofNat ((11 : Int32).toNatClampNeg % 100)
      rw [show (11 : Int32).toNatClampNeg = 11 from oN_tnc (k := 11) (by omega)]; rfl
  refine itn e3 ?_
  rw [if_neg e3] at hQ1 hQ3
  have e0 : zC s k = 0 := by rcases (hC.2.1 k).1 with z | z | z | z; exact z; exact absurd z e1; exact absurd z e2; exact absurd z e3
  refine ct_isLinked hW.2.1 h.1.1 hM.1.1.1.1 hk (fun M1 k1 i1 lo1 f1 => ?_)
  have h1 := h.lk f1 k1
  have hm := lkN_M (br := br) hW.2.2.2 hM.1.1.1 hk
  have R51 := h1.1.1.1.r45
  have l38 : mL M1 138 w = 51 := k1.1.1.1.1.1.2.2.2.2.2.2
  by_cases el : (lkN br W 60 (zL s) k).1 = 1
  · rw [if_pos el] at hQ1
    rw [decide_eq_true el]
    refine itn (by decide) ?_
    generalize (lkN br W 60 (zL s) k).2 = L0 at h1 k1 hQ1 hm
    have l137' : mL M1 137 w = 51 := h1.1.1.1.1.1.1.1.2.2.2.2.2.1
    obtain ⟨⟨m164, m163⟩, -, f60, -⟩ := h1.1.2.1.1
    have f60 : mI M1 12 w 60 = Int32.ofNat (zB s).length := f60
    have f47 : mI M1 11 0 47 = Int32.ofNat t := h1.1.2.2.2.2.1.2.1
    have hBl : (zB s).length < 51 := by
      have hn : (k :: zB s).Nodup := List.nodup_cons.mpr ⟨fun z => (hC.2.2.2 k z).2 e0, hC.2.2.1⟩
      have := nodup_len (n := W.length) hn (fun y hy => by
        rcases List.mem_cons.mp hy with z | z
        · rw [z]; exact hk
        · exact (hC.2.2.2 y z).1.2)
      rw [List.length_cons] at this; omega
    refine ⟨w, R51, by rw [l137']; exact v51, w, R51, by show vp_in _ (mL M1 164 w); rw [m164]; exact v51, _, rfl, w, R51, w, R51, ?_⟩
    rw [show ∀ v, mI (sI M1 137 w k v) 11 0 47 = Int32.ofNat t from fun v => by rw [mI_sI, if_neg (fun z => absurd z.1 (by decide))]; exact f47]
    rw [show ∀ v v', mI (sI (sI M1 137 w k v) 164 w k v') 12 w 60 = Int32.ofNat (zB s).length from fun v v' => by simp only [mI_sI, Nat.reduceEqDiff, false_and, if_false]; exact f60, oN_tnc (k := (zB s).length) (by omega)]
    refine ⟨by show vp_in _ (mL M1 163 w); rw [m163]; exact (vp_oN (by omega)).mpr hBl, w, R51, _, rfl, ?_⟩
    rw [show ∀ v v' v'', mI (sI (sI (sI M1 137 w k v) 164 w k v') 163 w (zB s).length v'') 12 w 60 = Int32.ofNat (zB s).length from fun v v' v'' => by simp only [mI_sI, Nat.reduceEqDiff, false_and, if_false]; exact f60, show Int32.ofNat (zB s).length + (1 : Int32) = Int32.ofNat ((zB s).length + 1) from oN_add _ 1]
    have h2 := h1.bg (k := k) hk hBl
    have h2 : TM G US A S W w br nq nl nf nk B F x bb t (yB (yO (yC (yL s L0) (up1 (zC s) k 1)) (up1 (zO s) k (Int32.ofNat t))) (zB s ++ [k])) (gU s t) (sI (sI (sI (sI M1 137 w k 1) 164 w k (Int32.ofNat t)) 163 w (zB s).length (Int32.ofNat k)) 12 w 60 (Int32.ofNat ((zB s).length + 1))) := h2
    generalize sI (sI (sI (sI M1 137 w k 1) 164 w k (Int32.ofNat t)) 163 w (zB s).length (Int32.ofNat k)) 12 w 60 (Int32.ofNat ((zB s).length + 1)) = M2 at h2 ⊢
    generalize hs2 : yB (yO (yC (yL s L0) (up1 (zC s) k 1)) (up1 (zO s) k (Int32.ofNat t))) (zB s ++ [k]) = s2 at h2
    have z2 : zS s2 = zS s := by rw [← hs2]
    have n2 : zN s2 = zN s := by rw [← hs2]
    have eE2 : zE s2 = zE s := by rw [← hs2]
    have hS0 := hM.1.1.2.2.1.2
    refine ⟨(gc W k).2.2.2.2.1.length + 1, ?_⟩
    rw [show (8 : Int32) * Int32.ofNat k = Int32.ofNat (8 * k + 0) from oN_mul 8 k]
    have loop : ∀ n i M3, (gc W k).2.2.2.2.1.length - i < n → i ≤ (gc W k).2.2.2.2.1.length → TM G US A S W w br nq nl nf nk B F x bb t (yS s2 (up1 (zS s) k (fun f => if f < i then (gfl (gc W k) f).2.2.2.1 else 0))) (gU s t) M3 → w_Model_startOf_L180 0 Q n (Int32.ofNat k) (Int32.ofNat (8 * k + i)) M3 := by
      intro n
      induction n with
      | zero => intro i M3 hn; exact absurd hn (by omega)
      | succ n ih =>
        intro i M3 hn hi h3
        have R53 := h3.1.1.1.r45
        have R63 : mR M3 11 0 46 = some (13, 3 * w + t) := h3.1.2.2.2.2.1.1
        have hfl := h3.1.1.1.fl
        obtain ⟨⟨e35, h8⟩, hg⟩ := hfl.2 k hk
        have l35 : mL M3 135 w = 51 := h3.1.1.1.1.1.1.1.2.2.2.1
        unfold w_Model_startOf_L180
        refine ⟨w, R53, by rw [l35]; exact v51, ?_⟩
        rw [oN_tnc (k := k) (by omega), e35, show (8 : Int32) * Int32.ofNat k = Int32.ofNat (8 * k) from oN_mul 8 k, oN_add]
        by_cases ci : (gc W k).2.2.2.2.1.length ≤ i
        · have hlen := hM.2.2.2.1.len hW
          obtain ⟨⟨m0, m1, m2, -⟩, -⟩ := h3.2.1
          have e16 : mI M3 13 (3 * w + t) 16 = Int32.ofNat (gU s t).length := h3.2.2.1.1
          refine itp (le_oN (by omega) (by omega)) ⟨3 * w + t, R63, 3 * w + t, R63, ?_⟩
          rw [e16, oN_tnc (k := (gU s t).length) (by omega)]
          refine ⟨by rw [m1]; exact (vp_oN (by omega)).mpr (by omega), 3 * w + t, R63, 3 * w + t, R63, ?_⟩
          rw [show ∀ v, mI (sI M3 171 (3 * w + t) (gU s t).length v) 13 (3 * w + t) 16 = Int32.ofNat (gU s t).length from fun v => by rw [mI_sI, if_neg (fun z => absurd z.1 (by decide))]; exact e16, oN_tnc (k := (gU s t).length) (by omega)]
          refine ⟨by show vp_in _ (mL M3 172 _); rw [m2]; exact (vp_oN (by omega)).mpr (by omega), _, rfl, 3 * w + t, R63, ?_⟩
          rw [show ∀ v v', mI (sI (sI M3 171 (3 * w + t) (gU s t).length v) 172 (3 * w + t) (gU s t).length v') 13 (3 * w + t) 16 = Int32.ofNat (gU s t).length from fun v v' => by simp only [mI_sI, Nat.reduceEqDiff, false_and, if_false]; exact e16, show Int32.ofNat (gU s t).length + (1 : Int32) = Int32.ofNat ((gU s t).length + 1) from oN_add _ 1]
          generalize hy : (-1 : Int32) - Int32.ofNat k = y
          have h4 := h3.pushS (k := k) (UO.stk hW hM.1.1 hM.2.2.2.1.1) hy
          generalize sI (sI (sI M3 171 (3 * w + t) (gU s t).length y) 172 (3 * w + t) (gU s t).length 1) 13 (3 * w + t) 16 (Int32.ofNat ((gU s t).length + 1)) = M3' at h4 ⊢
          rw [show y = oJt k none from hy.symm]
          refine k_note (what := 4) (k := k) (m := none) h4 (by show (zE s2).length ≤ 400; rw [eE2]; exact hM.1.2.1) (fun M4 h5 _ => ?_)
          refine hQ1 M4 rfl ?_
          have ef : (fun f => if f < i then (gfl (gc W k) f).2.2.2.1 else 0) = (fun f => (gfl (gc W k) f).2.2.2.1) := by
            funext f
            by_cases c : f < i
            · rw [if_pos c]
            · rw [if_neg c]
              show (0 : Int32) = ((gc W k).2.2.2.2.1.getD f ([], (0, []), 0, 0, false)).2.2.2.1
              rw [List.getD_eq_getElem?_getD, List.getElem?_eq_none (by omega)]; rfl
          rw [ef] at h5
          have es : evS (sU (yS s2 (up1 (zS s) k (fun f => (gfl (gc W k) f).2.2.2.1))) t (.inr (k, false) :: gU s t)) t 4 k none = begS W t (yL s L0) k := by
            rw [← hs2]
            unfold begS evS
            show (if (zE s).length < 400 then _ else _) = sU (yS (if (zE s).length < 400 then _ else _) _) t _
            by_cases c4 : (zE s).length < 400
            · rw [if_pos c4, if_pos c4]
              show yE (sU _ t _) (zE s ++ [(4, t, k, none, lSp (up1 (zN s) t _ t))]) = _
              rw [up1_s]; rfl
            · rw [if_neg c4, if_neg c4]
          rw [es] at h5
          have eg : gU (begS W t (yL s L0) k) t = .inr (k, false) :: gU s t := gU_sU
          rw [eg]; exact h5
        · have hil : i < (gc W k).2.2.2.2.1.length := by omega
          have hw := (hW.2.2.1.at hk).1.1 _ (getD_mem (d := ([], (0, []), 0, 0, false)) hil)
          have hw : wcF (gfl (gc W k) i) := hw
          obtain ⟨-, -, -, i142, i523⟩ := hg i hil
          refine itn (nle_oN (by omega) (by omega)) ⟨w, R53, by rw [hfl.1.2.2.2.2.1]; exact (vp_oN (by omega)).mpr (by omega), ?_⟩
          rw [oN_tnc (k := 8 * k + i) (by omega), i523]
          unfold w_Model_startOf_j228
          rw [show Int32.ofNat (8 * k + i) + (1 : Int32) = Int32.ofNat (8 * k + (i + 1)) from oN_add (8 * k + i) 1]
          cases eh : (gfl (gc W k) i).2.2.2.2 with
          | false =>
            have hv0 := hw.2.2 eh
            refine itp rfl (ih (i + 1) M3 (by omega) (by omega) ?_)
            have ef : (fun f => if f < i + 1 then (gfl (gc W k) f).2.2.2.1 else 0) = (fun f => if f < i then (gfl (gc W k) f).2.2.2.1 else 0) := by
              funext f
              by_cases c : f < i
              · rw [if_pos c, if_pos (by omega)]
              · by_cases c' : f = i
                · rw [if_neg c, if_pos (by omega), c', hv0]
                · rw [if_neg c, if_neg (by omega)]
            rw [ef]; exact h3
          | true =>
            obtain ⟨hst, hk0⟩ := hw.2.1 eh
            refine itn (by decide) ⟨w, R53, w, R53, by rw [hfl.1.2.2.2.1]; exact (vp_oN (by omega)).mpr (by omega), by rw [hfl.1.2.2.2.2.2]; exact (vp_oN (by omega)).mpr (by omega), ?_⟩
            rw [i142]
            refine ih (i + 1) _ (by omega) (by omega) ?_
            have := h3.s143 (i := 8 * k + i) (v := (gfl (gc W k) i).2.2.2.1) (X := up1 (zS s) k (fun f => if f < i + 1 then (gfl (gc W k) f).2.2.2.1 else 0)) (fun c f hc hf hst' => ?_)
            · exact this
            show mI (sI M3 143 w (8 * k + i) (gfl (gc W k) i).2.2.2.1) 143 w (8 * c + f) = tr _ (up1 (zS s) k (fun f => if f < i + 1 then (gfl (gc W k) f).2.2.2.1 else 0) c f)
            have h8c := (hfl.2 c hc).1.2
            have old := h3.1.2.1.2 c f hc hf hst'
            have old : mI M3 143 w (8 * c + f) = tr (decide ((gfl (gc W c) f).2.1.1 ≠ 0)) (up1 (zS s) k (fun f => if f < i then (gfl (gc W k) f).2.2.2.1 else 0) c f) := old
            rw [mI_sI]
            by_cases e : c = k ∧ f = i
            · rw [if_pos ⟨rfl, rfl, by rw [e.1, e.2]⟩, e.1, e.2, up1_s, if_pos (by omega), hk0]
              rw [show decide (((0 : Int), ([] : Nm)).1 ≠ 0) = false from rfl, tr_f]
            · rw [if_neg (fun z => e (by have := z.2.2; omega)), old]
              by_cases ec : c = k
              · rw [ec, up1_s, up1_s]
                have : f ≠ i := fun z => e ⟨ec, z⟩
                by_cases c : f < i
                · rw [if_pos c, if_pos (by omega)]
                · rw [if_neg c, if_neg (by omega)]
              · rw [up1_o ec, up1_o ec]
    refine loop _ 0 M2 (by omega) (by omega) ?_
    have ef : up1 (zS s) k (fun f => if f < 0 then (gfl (gc W k) f).2.2.2.1 else 0) = zS s := by
      funext c
      by_cases ec : c = k
      · rw [ec, up1_s]
        funext f
        rw [if_neg (by omega), hS0 k f e0]
      · rw [up1_o ec]
    rw [ef, ← z2]
    exact h2
  · rw [if_neg el] at hQ3
    rw [decide_eq_false el]
    have e138 : mI M1 138 w k = (lkN br W 60 (zL s) k).1 := (k1.2.1 k hk).trans (lkN_own (n := 59))
    obtain ⟨⟨n, hn, hn2, en⟩, -⟩ := lkN_lb (br := br) (W := W) 60 (zL s) k hM.1.1.1.2.1
    refine itp rfl ⟨w, R51, by rw [l38]; exact v51, by decide, w, R51, by show vp_in _ (mL M1 138 w); rw [l38]; exact v51, by decide, _, rfl, ?_⟩
    rw [show ∀ v, mI (sI M1 11 0 81 v) 138 w k = mI M1 138 w k from fun v => by rw [mI_sI, if_neg (fun z => absurd z.1 (by decide))], e138]
    refine hQ3 _ rfl ((h1.w11 (Or.inr rfl)).w11 (Or.inl rfl)) ?_
    rw [en, show Int32.ofNat n / (100 : Int32) = Int32.ofNat (n / 100) from oN_div (b := 100) (by omega) (by omega)]
    rw [show Int32.ofNat n - Int32.ofNat (n / 100) * (100 : Int32) = Int32.ofNat (n % 100) from by
      have := oN_mod (a := n) (b := 100) (by omega) (by omega)
      rw [oN_div (by omega) (by omega)] at this; exact this]
    refine ⟨?_, ?_⟩
    · rw [mI_sI, if_neg (fun z => absurd z.2.2 (by decide)), mI_sI, if_pos ⟨rfl, rfl, rfl⟩, oN_tnc (by omega)]
    · rw [mI_sI, if_pos ⟨rfl, rfl, rfl⟩, oN_tnc (by omega)]
end
