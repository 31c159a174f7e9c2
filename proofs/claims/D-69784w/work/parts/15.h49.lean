/-! THE OPERATION halt, in the twin -/
abbrev SHq : Nat := (15314599543025836772132527954704845760305100793311373272096475243427759898355428888921688304715176409523458682125604637490883034598976446103071536793589820287413075827729671891460478429758699606020598741720240413696455624182089886106973992750501737905358163758400723234960961691468600637255347009224393050408424307687538255184496166861083924197958497954510492568607614265452641219748261623929425273205882358619282606711875936745271489042585731690353894018568831754444004664847989038240348540406282013879980451334936634452744534152699881684314545562315460039474894404526240170501978209457834557142662737100243703209019826339281458410001604377942881656518313543574029580692563240869157392332443070135528009400112258505389475537760267947401315775351624650511951621211968106303192013923202085067598501808435354116314863998550053298360553186580310549807200693660328161560436283949835916509903459221589202582653174122119904301917196116742590441405275846226060249909501582478471565259501953314957812966792637750917490816967204770300327756005962474378413084155566657696651963862378784936165376)
section
variable {G : List Sl} {US : UST} {A : List Nm} {S : List Sg} {W : List Cls} {k C B F K ud t w n : Nat} {br x : Int32} {nq nl nf nk : Nat} {s : Ms} {M M' M0 : Mem} {Q : Int32 → Mem → Prop} {on : Nat → Bool} {v2 : Int32}
/-- threads go -/
theorem ct_haltT (h : TA G US A S W w br nq nl nf nk B F x s M0) (hX : ∀ t, t < 3 → LX W s t) (hQ : ∀ M', Fr (15314599543025836772132527954704845760305012891820904851896653769351841076964967628279151601976840573630054250500793292382370840749338245345427031649959660073224497570669409323754903468759958826823612154593041264788144601068663359098249272772424150518688319558932131011701645046695055529777917751137774561314897573110731782955231536466212250624417545105459477952215150752183578370686279070865063121196371746290054703859925762128726576815875177924217434937069089243055038829646757008752749744454597571370317031222398956668901576869740983196993089925926729031582254302649721108816298372498595892704873318394380744822565962061251786721663468379371117454152239298058066312239452829672982573643640403654767616056110156825035582129277474862676630906140176748049088467409811324047703040847898057273135293215911386158879660944707639423618898094404219251700296281299544941796768245617900539943449386495644445601554689647927185364420045693205024265887512360845649128118631039677822142109508842598647185561840576343572121813310599684661776992348974318524165729528980972469906102751873674539696128) M0 M' → (∀ t, t < 3 → mI M' 13 (3 * w + t) 0 = -2 ∧ mI M' 13 (3 * w + t) 1 = 0) → ∃ n30 : Nat, w_Model_halt_L88 0 Q n30 (Int32.ofNat (onN s 3)) (0 : Int32) M') : ∀ y t Mk, 3 - t < y → t ≤ 3 → Fr (15314599543025836772132527954704845760305012891820904851896653769351841076964967628279151601976840573630054250500793292382370840749338245345427031649959660073224497570669409323754903468759958826823612154593041264788144601068663359098249272772424150518688319558932131011701645046695055529777917751137774561314897573110731782955231536466212250624417545105459477952215150752183578370686279070865063121196371746290054703859925762128726576815875177924217434937069089243055038829646757008752749744454597571370317031222398956668901576869740983196993089925926729031582254302649721108816298372498595892704873318394380744822565962061251786721663468379371117454152239298058066312239452829672982573643640403654767616056110156825035582129277474862676630906140176748049088467409811324047703040847898057273135293215911386158879660944707639423618898094404219251700296281299544941796768245617900539943449386495644445601554689647927185364420045693205024265887512360845649128118631039677822142109508842598647185561840576343572121813310599684661776992348974318524165729528980972469906102751873674539696128) M0 Mk → (∀ t', t' < t → mI Mk 13 (3 * w + t') 0 = -2 ∧ mI Mk 13 (3 * w + t') 1 = 0) → (∀ t', t ≤ t' → mI Mk 13 (3 * w + t') 0 = mI M0 13 (3 * w + t') 0) → w_Model_halt_L24 0 Q y (Int32.ofNat (onN s t)) (Int32.ofNat t) Mk := by
  intro y
  induction y with
  | zero => intro t Mk hy; exact absurd hy (by omega)
  | succ y ih =>
    intro t Mk hy ht hf h1 h2
    unfold w_Model_halt_L24
    by_cases c3 : 3 ≤ t
    · have e3 : t = 3 := by omega
      subst e3
      exact itp (by decide) (hQ Mk hf h1)
    have ht3 : t < 3 := by omega
    have on := (h.2.2.2.2.2.2 t ht3).1.on (hX t ht3).2.1.1
    have R5 : mR Mk 11 0 45 = some (12, w) := (hf.R (f := 11) (k := 45) rfl 0).trans h.r45
    have v7 : vp_in (Int32.ofNat t) (mL Mk 704 w) := by rw [hf.L (f := 704) rfl, h.2.2.2.2.1.1]; exact (vp_oN (by omega)).mpr ht3
    have r7 : mR Mk 704 w t = some (13, 3 * w + t) := (hf.Ra (f := 704) rfl rfl w t).trans (h.2.2.2.2.1.2 t ht3)
    have ho := onN_le (s := s) t
    refine itn (fun z => by have := (oN_le (a := 3) (by omega) (by omega)).mp z; omega) ⟨w, R5, v7, 3 * w + t, by rw [oN_tnc (k := t) (by omega)]; exact r7, ?_⟩
    rw [h2 t (Nat.le_refl _)]
    have step : ∀ o : Nat, onN s (t + 1) = onN s t + o → w_Model_halt_j51 0 Q (w_Model_halt_L24 0 Q y) (Int32.ofNat t) (Int32.ofNat o) (Int32.ofNat (onN s t)) Mk := fun o eo => by
      unfold w_Model_halt_j51
      refine ⟨w, R5, v7, 3 * w + t, by rw [oN_tnc (k := t) (by omega)]; exact r7, w, R5, v7, 3 * w + t, by rw [oN_tnc (k := t) (by omega)]; exact r7, Or.inl rfl, ?_⟩
      rw [oN_add, ← eo, show Int32.ofNat t + (1 : Int32) = Int32.ofNat (t + 1) from oN_add t 1]
      refine ih (t + 1) _ (by omega) (by omega) (Fr.wI rfl (Fr.wI rfl hf)) (fun t' ht' => ?_) (fun t' ht' => ?_)
      · by_cases e : t' = t
        · subst e
          constructor
          · rw [mI_sI, if_neg (fun z => absurd z.2.2 (by decide)), mI_sI, if_pos ⟨rfl, rfl, rfl⟩]
          · rw [mI_sI, if_pos ⟨rfl, rfl, rfl⟩]
        · have hne : 3 * w + t' ≠ 3 * w + t := by omega
          constructor
          · rw [mI_sI, if_neg (fun z => hne z.2.1), mI_sI, if_neg (fun z => hne z.2.1)]; exact (h1 t' (by omega)).1
          · rw [mI_sI, if_neg (fun z => hne z.2.1), mI_sI, if_neg (fun z => hne z.2.1)]; exact (h1 t' (by omega)).2
      · have hne : 3 * w + t' ≠ 3 * w + t := by omega
        rw [mI_sI, if_neg (fun z => hne z.2.1), mI_sI, if_neg (fun z => hne z.2.1)]; exact h2 t' (by omega)
    by_cases c1 : lSt (zN s t) = 1
    · exact itp (on.mpr c1) (step 1 (by show onN s t + _ = _; rw [if_pos c1]))
    · exact itn (fun z => c1 (on.mp z)) (step 0 (by show onN s t + _ = _; rw [if_neg c1]))
/-- starts fail -/
theorem ct_haltC (R5 : mR M0 11 0 45 = some (12, w)) (h51 : W.length ≤ 51) (e2 : mI M0 12 w 2 = Int32.ofNat W.length) (l137 : mL M0 137 w = 51) (hC : ∀ k, k < W.length → mI M0 137 w k = zC s k) (hQ : ∀ M', Fr (174224571863520493293247799005065324265472) M0 M' → (∀ k, k < W.length → mI M' 137 w k = if zC s k = 1 then 3 else zC s k) → ∃ n22 : Nat, w_Model_halt_L142 0 Q n22 v2 (1 : Int32) M') : ∀ y j Mk, W.length - j < y → j ≤ W.length → Fr (174224571863520493293247799005065324265472) M0 Mk → (∀ k, k < j → mI Mk 137 w k = if zC s k = 1 then 3 else zC s k) → (∀ k, j ≤ k → k < W.length → mI Mk 137 w k = zC s k) → w_Model_halt_L88 0 Q y v2 (Int32.ofNat j) Mk := by
  intro y
  induction y with
  | zero => intro t Mk hy; exact absurd hy (by omega)
  | succ y ih =>
    intro j Mk hy hj hf h1 h2
    have R5' : mR Mk 11 0 45 = some (12, w) := (hf.R (f := 11) (k := 45) rfl 0).trans R5
    unfold w_Model_halt_L88
    refine ⟨w, R5', ?_⟩
    rw [(hf.I (f := 12) (k := 2) rfl w).trans e2]
    by_cases c1 : W.length ≤ j
    · have ej : j = W.length := by omega
      subst ej
      exact itp ((oN_le (by omega) (by omega)).mpr c1) (hQ Mk hf h1)
    have vj : vp_in (Int32.ofNat j) (mL Mk 137 w) := by rw [hf.L (f := 137) rfl, l137]; exact (vp_oN (by omega)).mpr (by omega)
    refine itn (fun z => c1 ((oN_le (by omega) (by omega)).mp z)) ⟨w, R5', w, R5', vj, ?_⟩
    rw [oN_tnc (k := j) (by omega), h2 j (Nat.le_refl _) (by omega)]
    have step : ∀ v, v = (if zC s j = 1 then 3 else zC s j) → w_Model_halt_j133 0 Q (w_Model_halt_L88 0 Q y) v2 (Int32.ofNat j) v (Int32.ofNat j) w Mk := fun v ev => by
      unfold w_Model_halt_j133
      refine ⟨vj, ?_⟩
      rw [oN_tnc (k := j) (by omega), show Int32.ofNat j + (1 : Int32) = Int32.ofNat (j + 1) from oN_add j 1]
      refine ih (j + 1) _ (by omega) (by omega) (Fr.wIa rfl rfl hf) (fun i hi => ?_) (fun i a b => ?_)
      · rw [mI_sI]
        by_cases e : i = j
        · rw [if_pos ⟨rfl, rfl, e⟩, ev, e]
        · rw [if_neg (fun z => e z.2.2)]; exact h1 i (by omega)
      · rw [mI_sI, if_neg (fun z => by omega)]; exact h2 i (by omega) b
    by_cases cz : zC s j = 1
    · exact itp cz (step 3 (by rw [if_pos cz]))
    · refine itn cz ⟨w, R5', vj, ?_⟩
      exact step _ (by rw [if_neg cz]; exact h2 j (Nat.le_refl _) (by omega))
/-- locks of objects -/
theorem ct_haltO (R5 : mR M0 11 0 45 = some (12, w)) (l160 : mL M0 160 w = 801) (hQ : ∀ M', Fr (1461501637330902918203684832716283019655932542976) M0 M' → (∀ r, 1 ≤ r → r ≤ 800 → mI M' 160 w r = 0) → ∃ n19 : Nat, w_Model_halt_L167 0 Q n19 v2 (0 : Int32) M') : ∀ y j Mk, 801 - j < y → 1 ≤ j → j ≤ 801 → Fr (1461501637330902918203684832716283019655932542976) M0 Mk → (∀ r, 1 ≤ r → r < j → mI Mk 160 w r = 0) → w_Model_halt_L142 0 Q y v2 (Int32.ofNat j) Mk := by
  intro y
  induction y with
  | zero => intro t Mk hy; exact absurd hy (by omega)
  | succ y ih =>
    intro j Mk hy j1 hj hf h1
    unfold w_Model_halt_L142
    by_cases c1 : 800 < j
    · exact itp ((oN_lt (a := 800) (by omega) (by omega)).mpr c1) (hQ Mk hf (fun r a b => h1 r a (by omega)))
    refine itn (fun z => c1 ((oN_lt (a := 800) (by omega) (by omega)).mp z)) ⟨w, (hf.R (f := 11) (k := 45) rfl 0).trans R5, by rw [hf.L (f := 160) rfl, l160]; exact (vp_oN (by omega)).mpr (by omega), ?_⟩
    rw [oN_tnc (k := j) (by omega), show Int32.ofNat j + (1 : Int32) = Int32.ofNat (j + 1) from oN_add j 1]
    refine ih (j + 1) _ (by omega) (by omega) (by omega) (Fr.wIa rfl rfl hf) (fun i i1 hi => ?_)
    rw [mI_sI]
    by_cases e : i = j
    · rw [if_pos ⟨rfl, rfl, e⟩]
    · rw [if_neg (fun z => e z.2.2)]; exact h1 i i1 (by omega)
/-- locks of faults -/
theorem ct_haltF {y0 : Nat} (hG : Ga G) (hT : TG G M0) (m1 : sFl' w ∈ G) (R5 : mR M0 11 0 45 = some (12, w)) (hy0 : rdI M0 (sFl' w) = y0) (hl : n ≤ mL M0 300 y0) (hb : n < 1000000) (e56 : mI M0 12 w 56 = Int32.ofNat n) (hQ : ∀ M', Fr (2037035976334486086268445688409378161051468393665936250636140449354381299763336706183397376) M0 M' → GF G (XF w) M0 M' → (∀ j, j < n → mI M' 300 y0 j = 0) → (∀ i j, i ≠ y0 → mI M' 300 i j = mI M0 300 i j) → ∃ M15, M15 = (sI (sI M' 12 w 63 (0 : Int32)) 12 w 64 (mI (sI M' 12 w 63 (0 : Int32)) 12 w 65)) ∧ Q v2 M15) : ∀ y j Mj, n - j < y → j ≤ n → Fr (2037035976334486086268445688409378161051468393665936250636140449354381299763336706183397376) M0 Mj → GF G (XF w) M0 Mj → (∀ i, i < j → mI Mj 300 y0 i = 0) → (∀ i l, i ≠ y0 → mI Mj 300 i l = mI M0 300 i l) → w_Model_halt_L167 0 Q y v2 (Int32.ofNat j) Mj := by
  intro y
  induction y with
  | zero => intro j Mj hy; exact absurd hy (by omega)
  | succ y ih =>
    intro j Mj hy hj hf hg h1 h2
    have R5' : mR Mj 11 0 45 = some (12, w) := (hf.R (f := 11) (k := 45) rfl 0).trans R5
    unfold w_Model_halt_L167
    refine ⟨w, R5', ?_⟩
    rw [(hf.I (f := 12) (k := 56) rfl w).trans e56]
    by_cases c1 : n ≤ j
    · have : j = n := by omega
      subst this
      obtain ⟨M15, e15, q15⟩ := hQ Mj hf hg h1 h2
      refine itp ((oN_le (by omega) (by omega)).mpr c1) ⟨w, R5', w, R5', w, R5', M15, e15, q15⟩
    · have r55 : mR Mj 12 w 55 = some (300, y0) := by
        have := (hT (sFl' w) m1).1.1
        rw [hy0] at this
        exact (hf.R (f := 12) (k := 55) rfl w).trans this
      refine itn (fun z => c1 ((oN_le (by omega) (by omega)).mp z)) ⟨w, R5', y0, r55, by rw [hf.L (f := 300) rfl]; exact (vp_oN (by omega)).mpr (by omega), ?_⟩
      rw [oN_tnc (k := j) (by omega), show Int32.ofNat j + (1 : Int32) = Int32.ofNat (j + 1) from oN_add j 1]
      have ey : rdI Mj (sFl' w) = y0 := by
        have : mR Mj 12 w 55 = some (300, rdI Mj (sFl' w)) := (hg.1 (sFl' w) m1).1.1
        rw [r55] at this
        cases this; rfl
      have hg' : GF G (XF w) M0 (sI Mj 300 y0 j 0) := by
        have := hg.wr (s := sFl' w) (k := j) (v := 0) m1 (by simp) rfl
        rw [ey] at this
        exact this
      refine ih (j + 1) _ (by omega) (by omega) (Fr.wIa rfl rfl hf) hg' (fun i hi => ?_) (fun i l hi => ?_)
      · rw [mI_sI]
        by_cases e : i = j
        · rw [if_pos ⟨rfl, rfl, e⟩]
        · rw [if_neg (fun z => e z.2.2)]; exact h1 i (by omega)
      · rw [mI_sI, if_neg (fun z => hi z.2.1)]; exact h2 i l hi
end
