/-! (printed by gen/kx.py) the works' checker at an instruction, for kinds -/
/-- what else holds, and is not touched by an instruction's own writes -/
def EX (Ex : Mem → Prop) (M : Mem) : Prop := Ex M ∧ ∀ M1 M2, Fr (19148157418563695840587898012170608521927159468195058611477808953034739001002531482531813162647226970075052197024391229279982533827704503397351697132974895038356324304299888953604960234425831558716360354374906008371219873495196403242180996593460345109219984212888448965217162971040074715108704137031117438339508736078644205083931140917510651347845406373566477972240976120032430220178967607676768967967835699476964796494509917896821549485014241112774420372352221297989925365552048811166238917955306503186285998599920804208180224915427229498867712) M1 M2 → Ex M1 → Ex M2
theorem EX.fr {Ex : Mem → Prop} {S : Nat} {M M' : Mem} (h : EX Ex M) (hf : Fr S M M') (hS : S &&& (19148157418563695840587898012170608521927159468195058611477808953034739001002531482531813162647226970075052197024391229279982533827704503397351697132974895038356324304299888953604960234425831558716360354374906008371219873495196403242180996593460345109219984212888448965217162971040074715108704137031117438339508736078644205083931140917510651347845406373566477972240976120032430220178967607676768967967835699476964796494509917896821549485014241112774420372352221297989925365552048811166238917955306503186285998599920804208180224915427229498867712) = S := by rfl) : EX Ex M' := ⟨h.2 _ _ (hf.sub hS) h.1, h.2⟩
def KAx (A : List Nm) (W : List Cls) (w c k : Nat) (br : Int32) (nq nk np nh nr this : Nat) (Ex : Mem → Prop) (a : Nat) (lo st : List Kd) (kn : Bool) (M : Mem) : Prop :=
  KE A W w c k br nq nk np nh nr this M ∧ KS A (gmt (gc W c) k) this lo st kn M ∧ EX Ex M ∧ mI M 4 this 7 = Int32.ofNat a ∧ a < (co (gmt (gc W c) k)).length
def KZx (A : List Nm) (W : List Cls) (w c k : Nat) (br : Int32) (nq nk np nh nr this : Nat) (Ex : Mem → Prop) (a r : Nat) (M : Mem) : Prop :=
  KE A W w c k br nq nk np nh nr this M ∧ (mL M 31 this = 20 ∧ mL M 32 this = 24) ∧ EX Ex M ∧ mI M 4 this 7 = Int32.ofNat a ∧ mI M 4 this 8 = Int32.ofNat r
def KPx (A : List Nm) (W : List Cls) (w c k : Nat) (br : Int32) (nq nk np nh nr this : Nat) (Ex : Mem → Prop) (a : Nat) (kn : Bool) (res : Nat ⊕ (List Kd × List Kd)) (Q : Int32 → Mem → Prop) : Prop := match res with
  | .inl r => ∀ M', KZx A W w c k br nq nk np nh nr this Ex a r M' → Q 0 M'
  | .inr s => ∀ M', KAx A W w c k br nq nk np nh nr this Ex a s.1 s.2 kn M' → Q 1 M'
section
variable {A : List Nm} {W : List Cls} {w c k this : Nat} {br : Int32} {nq nk np nh nr a : Nat} {lo st : List Kd} {kn : Bool} {M M' : Mem} {Q : Int32 → Mem → Prop} {Ex : Mem → Prop}
theorem KAx.z {r : Nat} (h : KAx A W w c k br nq nk np nh nr this Ex a lo st kn M) : KZx A W w c k br nq nk np nh nr this Ex a r (sI M 4 this 8 (Int32.ofNat r)) := by
  obtain ⟨h1, h2, h3, h4, h5⟩ := h
  refine ⟨h1.w8, h2.1, ?_, ?_, ?_⟩
  · exact h3.fr (S := (18290777235642933340263066757894312617960271730813190315441489149167511881554656938537851379245112329623930456859119980207744509924971465931798636067319302723206041126495416313891305298556018205341000935522298276653105550801381638917904235551962120701344462531714339310058185524575593757715777086119276359010874016552734763065247656995831069944210537431466486421245111517642918419275431744646465879849872906963070850382815443961142972642401663152500938863142420344348585423810912297233422249987158450804810506125297484616769170068467795158368256)) (Fr.wI rfl (Fr.rf _ _))
  · simp only [mI_sI, mI_sR, mI_sJ, mR_sI, mL_sI, mL_sR, mR_sR, Nat.reduceEqDiff, and_false, false_and, if_false, and_self, true_and, and_true, if_true]; exact h4
  · simp only [mI_sI, mI_sR, mI_sJ, mR_sI, mL_sI, mL_sR, mR_sR, Nat.reduceEqDiff, and_false, false_and, if_false, and_self, true_and, and_true, if_true]
theorem KAx.n8 (h : KAx A W w c k br nq nk np nh nr this Ex a lo st kn M) : mI M 4 this 8 = 0 := h.2.1.2.2.2.2
theorem KAx.ht (h : KAx A W w c k br nq nk np nh nr this Ex a lo st kn M) : mI M 4 this 2 = Int32.ofNat st.length ∧ st.length ≤ 20 ∧ st.length ≤ sr (gmt (gc W c) k) := ⟨h.2.1.2.2.1.2.1, Nat.le_trans h.2.1.2.2.1.2.2 h.1.sr.2, h.2.1.2.2.1.2.2⟩
theorem KAx.brk {r : Nat} (h : KAx A W w c k br nq nk np nh nr this Ex a lo st kn M) (hX : ∀ M', KZx A W w c k br nq nk np nh nr this Ex a r M' → Q 0 M') : w_Checker_breaks this (Int32.ofNat r) Q M := k_breaks h.n8 (hX _ h.z)
theorem KAx.sv (h : KAx A W w c k br nq nk np nh nr this Ex a lo st kn M) {d : Nat} (hd : d < st.length) : mI M 32 this (st.length - 1 - d) = kC A (tp st d) ∧ kwf A (co (gmt (gc W c) k)) (tp st d) := h.2.1.2.2.1.1 _ (by omega)
theorem KAx.pop {n : Nat} (h : KAx A W w c k br nq nk np nh nr this Ex a lo st kn M) (hn : n ≤ st.length) : KAx A W w c k br nq nk np nh nr this Ex a lo (st.take (st.length - n)) kn (sI M 4 this 2 (mI M 4 this 2 - Int32.ofNat n)) := by
  have hh := h.ht
  obtain ⟨h1, ⟨⟨s1, s2⟩, ⟨s3, s4⟩, ⟨s5, s6, s7⟩, s8, s9⟩, h3, h4, h5⟩ := h
  have hl : (st.take (st.length - n)).length = st.length - n := by rw [List.length_take]; omega
  refine ⟨h1.s2, ⟨⟨s1, s2⟩, ⟨fun i hi => ?_, s4⟩, ⟨fun i hi => ?_, ?_, by rw [hl]; omega⟩, ?_, ?_⟩, h3.fr (S := (285793394306920833441610418092098634655629245793956098678773267955742373149291514664653927800704880150373913388423749690746007967577679155184353688551864105050094392601490879904551645289937784458453139617535910572704774231271588108092253680499408135958507227058036551719659148821493652464309016970613693109544906508636480672894494640559860467878289647366663850331954867463170600301178621010101029372654264171297982037231491311892858947537525986757827169736600317880446647247045504644272222656049350793825164158207773197137018282319809299349504)) (Fr.wI rfl (Fr.rf _ _)), ?_, h5⟩
  · have := s3 i hi
    simp only [mI_sI, mI_sR, mI_sJ, mR_sI, mL_sI, mL_sR, mR_sR, Nat.reduceEqDiff, and_false, false_and, if_false, and_self, true_and, and_true, if_true]; exact this
  · rw [hl] at hi
    have := s5 i (by omega)
    rw [gk_take hi]
    simp only [mI_sI, mI_sR, mI_sJ, mR_sI, mL_sI, mL_sR, mR_sR, Nat.reduceEqDiff, and_false, false_and, if_false, and_self, true_and, and_true, if_true]; exact this
  · simp only [mI_sI, mI_sR, mI_sJ, mR_sI, mL_sI, mL_sR, mR_sR, Nat.reduceEqDiff, and_false, false_and, if_false, and_self, true_and, and_true, if_true]
    rw [s6, oN_sub hn, hl]
  all_goals simp only [mI_sI, mI_sR, mI_sJ, mR_sI, mL_sI, mL_sR, mR_sR, Nat.reduceEqDiff, and_false, false_and, if_false, and_self, true_and, and_true, if_true]; assumption
theorem KAx.snoc {κ : Kd} (h : KAx A W w c k br nq nk np nh nr this Ex a lo st kn M) (hκ : kwf A (co (gmt (gc W c) k)) κ) (hlt : st.length < sr (gmt (gc W c) k)) : KAx A W w c k br nq nk np nh nr this Ex a lo (st ++ [κ]) kn (sI (sI M 32 this st.length (kC A κ)) 4 this 2 (Int32.ofNat (st.length + 1))) := by
  have hh := h.ht
  obtain ⟨h1, ⟨⟨s1, s2⟩, ⟨s3, s4⟩, ⟨s5, s6, s7⟩, s8, s9⟩, h3, h4, h5⟩ := h
  refine ⟨h1.s32.s2, ⟨⟨s1, s2⟩, ⟨fun i hi => ?_, s4⟩, ⟨fun i hi => ?_, ?_, by rw [List.length_append, List.length_singleton]; omega⟩, ?_, ?_⟩, h3.fr (S := (285793394306920833441610418092098634655629245793956098678773267955742373149291514664653927800704880150373913388423749690746007967577679155184353688551864105050094392601490879904551645289937784458453139617535910572704774231271588108092253680499408135958507227058036551719659148821493652464309016970613693109544906508636480672894494640559860467878289647366663850331954867463170600301178621010101029372654264171297982037231491311892858947537525986757827169736600317880446647247045504644272222656049350793825164158207773197137018282319813594316800)) (Fr.wI rfl (Fr.wIa rfl rfl (Fr.rf _ _))), ?_, h5⟩
  · have := s3 i hi
    simp only [mI_sI, mI_sR, mI_sJ, mR_sI, mL_sI, mL_sR, mR_sR, Nat.reduceEqDiff, and_false, false_and, if_false, and_self, true_and, and_true, if_true]; exact this
  · rw [List.length_append, List.length_singleton] at hi
    by_cases e : i = st.length
    · subst e
      rw [gk_snoc]
      exact ⟨by simp only [mI_sI, mI_sR, mI_sJ, mR_sI, mL_sI, mL_sR, mR_sR, Nat.reduceEqDiff, and_false, false_and, if_false, and_self, true_and, and_true, if_true], hκ⟩
    · have := s5 i (by omega)
      rw [gk_ap, if_pos (by omega)]
      rw [mI_sI, if_neg (by simp), mI_sI, if_neg (by simp [e])]; exact this
  · simp only [mI_sI, mI_sR, mI_sJ, mR_sI, mL_sI, mL_sR, mR_sR, Nat.reduceEqDiff, and_false, false_and, if_false, and_self, true_and, and_true, if_true]
    rw [List.length_append, List.length_singleton]
  all_goals simp only [mI_sI, mI_sR, mI_sJ, mR_sI, mL_sI, mL_sR, mR_sR, Nat.reduceEqDiff, and_false, false_and, if_false, and_self, true_and, and_true, if_true]; assumption
theorem c_pushx {κ : Kd} (h : KAx A W w c k br nq nk np nh nr this Ex a lo st kn M) (hκ : kwf A (co (gmt (gc W c) k)) κ) (hX : st.length = sr (gmt (gc W c) k) → ∀ M', KZx A W w c k br nq nk np nh nr this Ex a 30 M' → Q 0 M') (hQ : st.length < sr (gmt (gc W c) k) → ∀ M', KAx A W w c k br nq nk np nh nr this Ex a lo (st ++ [κ]) kn M' → Q 1 M') : w_Checker_push this (kC A κ) Q M := by
  have hh := h.ht
  have hm := h.1.mlt
  have hsr := h.1.sr
  unfold w_Checker_push
  refine ⟨w, h.1.r, ?_⟩
  rw [h.1.m6, oN_tnc (by omega), hsr.1, hh.1, h.1.ml (by omega) (by omega)]
  refine ⟨(vp_oN (by omega)).mpr hm, ?_⟩
  by_cases e : st.length = sr (gmt (gc W c) k)
  · exact itp (by rw [e]) (h.brk (r := 30) (fun M' q => ⟨Or.inl rfl, hX e M' q⟩))
  · refine itn (ne_oN e (by omega) (by omega)) ⟨by rw [h.2.1.1.2]; exact (vp_oN (by omega)).mpr (by omega), _, rfl, ?_⟩
    rw [oN_tnc (by omega), show mI (sI M 32 this st.length (kC A κ)) 4 this 2 = Int32.ofNat st.length by simp only [mI_sI, mI_sR, mI_sJ, mR_sI, mL_sI, mL_sR, mR_sR, Nat.reduceEqDiff, and_false, false_and, if_false, and_self, true_and, and_true, if_true]; exact hh.1, show Int32.ofNat st.length + (1 : Int32) = Int32.ofNat (st.length + 1) from oN_add _ 1]
    exact hQ (by omega) _ (h.snoc hκ (by omega))
theorem c_comes0x {n : Nat} (h : KAx A W w c k br nq nk np nh nr this Ex a lo st kn M) (hn : n ≤ st.length) (hQ : ∀ M', KAx A W w c k br nq nk np nh nr this Ex a lo (st.take (st.length - n)) kn M' → Q 1 M') : w_Checker_comes this (Int32.ofNat n) (-4) Q M := by
  unfold w_Checker_comes
  exact itp rfl (hQ _ (h.pop hn))
theorem c_comes1x {n : Nat} {κ : Kd} (h : KAx A W w c k br nq nk np nh nr this Ex a lo st kn M) (hκ : kwf A (co (gmt (gc W c) k)) κ) (h4 : κ.1 ≠ -4) (hn : n ≤ st.length) (hX : st.length - n = sr (gmt (gc W c) k) → ∀ M', KZx A W w c k br nq nk np nh nr this Ex a 30 M' → Q 0 M') (hQ : st.length - n < sr (gmt (gc W c) k) → ∀ M', KAx A W w c k br nq nk np nh nr this Ex a lo (st.take (st.length - n) ++ [κ]) kn M' → Q 1 M') : w_Checker_comes this (Int32.ofNat n) (kC A κ) Q M := by
  unfold w_Checker_comes
  have hl : (st.take (st.length - n)).length = st.length - n := by rw [List.length_take]; omega
  refine itn (fun q => h4 ((kC_eq (n := -4) hκ h.1.la (by omega)).mp q)) (c_pushx (h.pop hn) hκ (fun e M' q => ?_) (fun e M' q => ?_))
  · rw [hl] at e; exact itp rfl (hX e M' q)
  · rw [hl] at e; exact itn (by decide) (hQ e M' q)
theorem c_needsx {n : Nat} (h : KAx A W w c k br nq nk np nh nr this Ex a lo st kn M) (hn : n < 1000) (hX : st.length < n → ∀ M', KZx A W w c k br nq nk np nh nr this Ex a 31 M' → Q 0 M') (hQ : n ≤ st.length → Q 1 M) : w_Checker_needs this (Int32.ofNat n) Q M := by
  unfold w_Checker_needs
  have hh := h.ht
  rw [hh.1]
  by_cases e : n ≤ st.length
  · exact itp (le_oN e (by omega)) (hQ e)
  · exact itn (nle_oN (by omega) (by omega)) (h.brk (r := 31) (fun M' q => itp rfl (hX (by omega) M' q)))
theorem c_isx {d : Nat} {t : Wt} (h : KAx A W w c k br nq nk np nh nr this Ex a lo st kn M) (hd : d < st.length) (ht : wok A (co (gmt (gc W c) k)) t) (hQ : wOne W t (tp st d) = 0 ∨ wOne W t (tp st d) = 39 → Q 1 M) (hX : wOne W t (tp st d) ≠ 0 → wOne W t (tp st d) ≠ 39 → ∀ M', KZx A W w c k br nq nk np nh nr this Ex a (wOne W t (tp st d)) M' → Q 0 M') : w_Checker_is this (Int32.ofNat d) (wvN A t) Q M := by
  have hh := h.ht
  have hl := h.1.la
  obtain ⟨g1, g2⟩ := h.sv hd
  obtain ⟨v1, v2, v3⟩ := wvN_any ht hl
  unfold w_Checker_is
  rw [hh.1, show Int32.ofNat st.length - (1 : Int32) = Int32.ofNat (st.length - 1) from oN_sub (b := 1) (by omega), oN_sub (by omega), oN_tnc (by omega), g1, h.2.1.1.2]
  refine ⟨(vp_oN (by omega)).mpr (by omega), _, rfl, ?_⟩
  have hg := g2.rg
  generalize tp st d = κ at g1 g2 hQ hX hg
  unfold wOne at hQ hX
  by_cases c3 : t.1 = 3
  · simp only [if_pos c3] at hQ
    exact itp (v1.mpr c3) (hQ (Or.inl trivial))
  have c2 : t.1 ≠ 2 := by rcases ht with ⟨e, -⟩ | e | e <;> omega
  simp only [if_neg c3, if_neg c2] at hQ hX
  refine itn (fun q => c3 (v1.mp q)) ?_
  have last : ∀ (r : Nat), (wvN A t = -5 → rfK κ = decide (r = 0)) → (wvN A t ≠ -5 → (fitK W κ t.2 = 0 ↔ r = 0) ∧ (r ≠ 0 → r = if fitK W κ t.2 = 43 then 43 else 32)) → (r = 0 → Q 1 M) → (r ≠ 0 → ∀ M', KZx A W w c k br nq nk np nh nr this Ex a r M' → Q 0 M') → (wvN A t = -5 → r ≠ 0 → r = 32) → w_Checker_is_j36 this Q (wvN A t) (kC A κ) M := by
    intro r e1 e2 q0 q1 e3
    unfold w_Checker_is_j36
    by_cases c5 : wvN A t = -5
    · refine itp c5 (c_isReference g2 hl ?_)
      rw [e1 c5]
      unfold w_Checker_is_j55
      by_cases c6 : r = 0
      · rw [decide_eq_true c6]; exact itn (by decide) (q0 c6)
      · rw [decide_eq_false c6]
        have := e3 c5 c6
        rw [this] at q1
        exact itp (by decide) (h.brk (r := 32) (fun M' q => itp rfl (q1 (by decide) M' q)))
    · have t0 : t.1 = 0 := by
        rcases ht with ⟨e, -⟩ | e | e
        · exact e
        · exact absurd (v2.mpr e) c5
        · exact absurd e c3
      have tk : kwf A (co (gmt (gc W c) k)) t.2 := by
        rcases ht with ⟨-, e, -⟩ | e | e
        · exact e
        · omega
        · omega
      obtain ⟨z1, z2⟩ := e2 c5
      refine itn c5 ?_
      rw [show wvN A t = kC A t.2 by unfold wvN; rw [if_pos t0]]
      unfold w_Checker_is_j55
      refine c_fits h.1.r h.1.cl h.1.na h.n8 g2 tk (fun y => ?_) (fun y => ?_) (fun y => ?_)
      · exact itn (by decide) (q0 (z1.mp y))
      · have hr : r ≠ 0 := fun q => by have := z1.mpr q; omega
        have := z2 hr
        rw [if_neg (by omega)] at this
        rw [this] at q1
        exact itp rfl (h.brk (r := 32) (fun M' q => itp rfl (q1 (by decide) M' q)))
      · have hr : r ≠ 0 := fun q => by have := z1.mpr q; omega
        have := z2 hr
        rw [if_pos y] at this
        rw [this] at q1
        exact itp rfl (k_broken (r := 32) (e := 43) (by simp only [mI_sI, mI_sR, mI_sJ, mR_sI, mL_sI, mL_sR, mR_sR, Nat.reduceEqDiff, and_false, false_and, if_false, and_self, true_and, and_true, if_true]; rfl) (by omega) (itp rfl (q1 (by decide) _ h.z)))
  by_cases c4 : t.1 = 0 ∧ t.2.1 = 0
  · simp only [if_pos c4] at hQ hX
    refine itp (v3.mpr c4) ?_
    rcases ht with ⟨-, tk, -⟩ | e | e
    · have et : t.2 = (0, []) := by
        rcases tk.rg with q | q
        · omega
        · exact kd_ext c4.2 q.1
      have hf : fitK W κ t.2 = if κ.1 = 0 then 0 else 37 := by
        rw [et]
        unfold fitK
        by_cases c5 : κ.1 = 0
        · rw [if_pos c5, if_pos (Or.inr ?_)]
          rcases hg with q | q
          · omega
          · exact kd_ext c5 q.1
        · rw [if_neg c5, if_neg (by
            rintro (q | q)
            · exact absurd q (by decide)
            · rw [q] at c5; exact c5 rfl)]
          by_cases c6 : κ.1 = -1
          · rw [if_pos c6]; rfl
          · rw [if_neg c6]
            by_cases c7 : κ.1 = 1
            · rw [if_pos c7, if_neg (by decide)]
            · rw [if_neg c7, if_neg (fun q => absurd q.2 (by decide))]
      refine last (if κ.1 = 0 then 0 else 32) (fun q => ?_) (fun _ => ?_) (fun q => hQ (Or.inl q)) (fun q M' z => hX q (by split <;> decide) M' z) (fun q => ?_)
      · have := v2.mp q; omega
      · rw [hf]
        by_cases c5 : κ.1 = 0
        · simp [c5]
        · simp [c5]
      · have := v2.mp q; omega
    · omega
    · omega
  · simp only [if_neg c4] at hQ hX
    refine itn (fun q => c4 (v3.mp q)) (c_isUnmade g2 hl ?_)
    cases eu : umK κ with
    | true =>
      rw [if_pos eu] at hQ
      exact itn (by decide) (hQ (Or.inr rfl))
    | false =>
      rw [if_neg (by rw [eu]; decide)] at hQ
      rw [if_neg (by rw [eu]; decide)] at hX
      refine itp rfl ?_
      by_cases c5 : t.1 = 1
      · rw [if_pos c5] at hQ hX
        refine last (if rfK κ = true then 0 else 32) (fun _ => ?_) (fun q => absurd (v2.mpr c5) q) (fun q => hQ (Or.inl q)) (fun q M' z => hX q (by split <;> decide) M' z) (fun _ q => ?_)
        · cases rfK κ <;> rfl
        · by_cases c6 : rfK κ = true
          · rw [if_pos c6] at q; exact absurd rfl q
          · rw [if_neg c6]
      · rw [if_neg c5] at hQ hX
        refine last (if fitK W κ t.2 = 0 then 0 else if fitK W κ t.2 = 43 then 43 else 32) (fun q => absurd (v2.mp q) c5) (fun _ => ?_) (fun q => hQ (Or.inl q)) (fun q M' z => hX q (by
          split
          · decide
          · split <;> decide) M' z) (fun q => absurd (v2.mp q) c5)
        by_cases c6 : fitK W κ t.2 = 0
        · simp [c6]
        · simp only [if_neg c6]
          refine ⟨⟨fun q => absurd q c6, fun q => ?_⟩, fun _ => trivial⟩
          split at q <;> exact absurd q (by decide)
theorem c_isMadex {d : Nat} {t : Wt} (h : KAx A W w c k br nq nk np nh nr this Ex a lo st kn M) (hd : d < st.length) (ht : wok A (co (gmt (gc W c) k)) t) (hQ : wOne W t (tp st d) ≠ 39 → Q 1 M) (hX : wOne W t (tp st d) = 39 → ∀ M', KZx A W w c k br nq nk np nh nr this Ex a 39 M' → Q 0 M') : w_Checker_isMade this (Int32.ofNat d) (wvN A t) Q M := by
  have hh := h.ht
  have hl := h.1.la
  obtain ⟨g1, g2⟩ := h.sv hd
  obtain ⟨v1, v2, v3⟩ := wvN_any ht hl
  unfold w_Checker_isMade
  unfold wOne at hQ hX
  by_cases c4 : t.1 = 0 ∧ t.2.1 = 0
  · refine itp (v3.mpr c4) (hQ ?_)
    rw [if_neg (by omega), if_neg (by omega), if_pos c4]
    split <;> decide
  refine itn (fun q => c4 (v3.mp q)) ?_
  by_cases c3 : t.1 = 3
  · refine itp (v1.mpr c3) (hQ ?_)
    rw [if_pos c3]; decide
  refine itn (fun q => c3 (v1.mp q)) ?_
  have c2 : t.1 ≠ 2 := by rcases ht with ⟨e, -⟩ | e | e <;> omega
  rw [if_neg c3, if_neg c2, if_neg c4] at hQ hX
  rw [hh.1, show Int32.ofNat st.length - (1 : Int32) = Int32.ofNat (st.length - 1) from oN_sub (b := 1) (by omega), oN_sub (by omega), oN_tnc (by omega), g1, h.2.1.1.2]
  refine ⟨(vp_oN (by omega)).mpr (by omega), c_isUnmade g2 hl ?_⟩
  cases eu : umK (tp st d) with
  | true =>
    rw [if_pos eu] at hX
    exact itn (by decide) (h.brk (r := 39) (fun M' q => itp rfl (hX rfl M' q)))
  | false =>
    rw [if_neg (by rw [eu]; decide)] at hQ
    refine itp rfl (hQ ?_)
    split
    · split <;> decide
    · split
      · decide
      · split <;> decide
theorem KPx.rule {ws : List Wt} {own : Nat} {p : List Kd} (hP : KPx A W w c k br nq nk np nh nr this Ex a kn (wcS W (gmt (gc W c) k) lo st ws own p) Q) (h : takeS W st ws ≠ 0) : ∀ M', KZx A W w c k br nq nk np nh nr this Ex a (takeS W st ws) M' → Q 0 M' := by
  unfold wcS at hP; rw [if_pos h] at hP; exact hP
theorem KPx.own {ws : List Wt} {own : Nat} {p : List Kd} (hP : KPx A W w c k br nq nk np nh nr this Ex a kn (wcS W (gmt (gc W c) k) lo st ws own p) Q) (h : takeS W st ws = 0) (ho : own ≠ 0) : ∀ M', KZx A W w c k br nq nk np nh nr this Ex a own M' → Q 0 M' := by
  unfold wcS at hP; rw [if_neg (by omega), if_pos ho] at hP; exact hP
theorem KPx.full {ws : List Wt} {p : List Kd} (hP : KPx A W w c k br nq nk np nh nr this Ex a kn (wcS W (gmt (gc W c) k) lo st ws 0 p) Q) (h : takeS W st ws = 0) (hl : sr (gmt (gc W c) k) < (st.take (st.length - ws.length) ++ p).length) : ∀ M', KZx A W w c k br nq nk np nh nr this Ex a 30 M' → Q 0 M' := by
  unfold wcS at hP; rw [if_neg (by omega), if_neg (by omega), if_pos hl] at hP; exact hP
theorem KPx.good {ws : List Wt} {p : List Kd} (hP : KPx A W w c k br nq nk np nh nr this Ex a kn (wcS W (gmt (gc W c) k) lo st ws 0 p) Q) (h : takeS W st ws = 0) (hl : (st.take (st.length - ws.length) ++ p).length ≤ sr (gmt (gc W c) k)) : ∀ M', KAx A W w c k br nq nk np nh nr this Ex a lo (st.take (st.length - ws.length) ++ p) kn M' → Q 1 M' := by
  unfold wcS at hP; rw [if_neg (by omega), if_neg (by omega), if_neg (by omega)] at hP; exact hP
theorem KPx.q {res : Nat ⊕ (List Kd × List Kd)} (hP : KPx A W w c k br nq nk np nh nr this Ex a kn res Q) : KPx A W w c k br nq nk np nh nr this Ex a kn res (fun r M => (r = 0 ∨ r = 1) ∧ Q r M) := by
  cases res with
  | inl r => exact fun M' q => ⟨Or.inl rfl, hP M' q⟩
  | inr s => exact fun M' q => ⟨Or.inr rfl, hP M' q⟩
theorem c_wants1x {t : Wt} (h : KAx A W w c k br nq nk np nh nr this Ex a lo st kn M) (ht : wok A (co (gmt (gc W c) k)) t) (hX : takeS W st [t] ≠ 0 → ∀ M', KZx A W w c k br nq nk np nh nr this Ex a (takeS W st [t]) M' → Q 0 M') (hQ : takeS W st [t] = 0 → 1 ≤ st.length → Q 1 M) : w_Checker_wants1 this (wvN A t) Q M := by
  unfold w_Checker_wants1
  refine c_needsx (n := 1) h (by omega) (fun z M' y => ?_) (fun z => ?_)
  · rw [takeS_lt (by simpa using z)] at hX
    exact itp rfl (hX (by decide) M' y)
  refine itn (by decide) (c_isx (d := 0) h (by omega) ht (fun y => ?_) (fun y1 y2 M' x => ?_))
  · have hF : wFst W st 0 [t] = 0 := by rw [wFst_cons, if_pos y]; rfl
    rw [takeS_un (by simpa using z) hF, wUn_cons] at hX hQ
    refine itn (by decide) (c_isMadex (d := 0) h (by omega) ht (fun x => ?_) (fun x M' u => ?_))
    · rw [decide_eq_false x] at hQ
      exact itn (by decide) (hQ (by simp [wUn]) z)
    · rw [decide_eq_true x] at hX
      exact itp rfl (hX (by simp) M' (by simpa using u))
  · have hF : wFst W st 0 [t] = wOne W t (tp st 0) := by rw [wFst_cons, if_neg (by omega)]
    rw [takeS_fst (by simpa using z) (by rw [hF]; exact y1), hF] at hX
    exact itp rfl (hX y1 M' x)
theorem c_wants2x {t u : Wt} (h : KAx A W w c k br nq nk np nh nr this Ex a lo st kn M) (ht : wok A (co (gmt (gc W c) k)) t) (hu : wok A (co (gmt (gc W c) k)) u) (hX : takeS W st [t, u] ≠ 0 → ∀ M', KZx A W w c k br nq nk np nh nr this Ex a (takeS W st [t, u]) M' → Q 0 M') (hQ : takeS W st [t, u] = 0 → 2 ≤ st.length → Q 1 M) : w_Checker_wants2 this (wvN A t) (wvN A u) Q M := by
  unfold w_Checker_wants2
  refine c_needsx (n := 2) h (by omega) (fun z M' y => ?_) (fun z => ?_)
  · rw [takeS_lt (by simpa using z)] at hX
    exact itp rfl (hX (by decide) M' y)
  refine itn (by decide) (c_isx (d := 0) h (by omega) ht (fun y => ?_) (fun y1 y2 M' x => ?_))
  · refine itn (by decide) (c_isx (d := 1) h (by omega) hu (fun y' => ?_) (fun y1 y2 M' x => ?_))
    · have hF : wFst W st 0 [t, u] = 0 := by rw [wFst_cons, if_pos y, wFst_cons, if_pos y']; rfl
      rw [takeS_un (by simpa using z) hF, wUn_cons, wUn_cons] at hX hQ
      refine itn (by decide) (c_isMadex (d := 0) h (by omega) ht (fun x => ?_) (fun x M' v => ?_))
      · rw [decide_eq_false x] at hQ hX
        refine itn (by decide) (c_isMadex (d := 1) h (by omega) hu (fun x' => ?_) (fun x' M' v => ?_))
        · rw [decide_eq_false x'] at hQ
          exact itn (by decide) (hQ (by simp [wUn]) z)
        · rw [decide_eq_true x'] at hX
          exact itp rfl (hX (by simp) M' (by simpa using v))
      · rw [decide_eq_true x] at hX
        exact itp rfl (hX (by simp) M' (by simpa using v))
    · have hF : wFst W st 0 [t, u] = wOne W u (tp st 1) := by rw [wFst_cons, if_pos y, wFst_cons, if_neg (fun q => q.elim y1 y2)]
      rw [takeS_fst (by simpa using z) (by rw [hF]; exact y1), hF] at hX
      exact itp rfl (hX y1 M' x)
  · have hF : wFst W st 0 [t, u] = wOne W t (tp st 0) := by rw [wFst_cons, if_neg (by omega)]
    rw [takeS_fst (by simpa using z) (by rw [hF]; exact y1), hF] at hX
    exact itp rfl (hX y1 M' x)
theorem c_wants3x {t u v : Wt} (h : KAx A W w c k br nq nk np nh nr this Ex a lo st kn M) (ht : wok A (co (gmt (gc W c) k)) t) (hu : wok A (co (gmt (gc W c) k)) u) (hv : wok A (co (gmt (gc W c) k)) v) (hX : takeS W st [t, u, v] ≠ 0 → ∀ M', KZx A W w c k br nq nk np nh nr this Ex a (takeS W st [t, u, v]) M' → Q 0 M') (hQ : takeS W st [t, u, v] = 0 → 3 ≤ st.length → Q 1 M) : w_Checker_wants3 this (wvN A t) (wvN A u) (wvN A v) Q M := by
  unfold w_Checker_wants3
  refine c_needsx (n := 3) h (by omega) (fun z M' y => ?_) (fun z => ?_)
  · rw [takeS_lt (by simpa using z)] at hX
    exact itp rfl (hX (by decide) M' y)
  refine itn (by decide) (c_isx (d := 0) h (by omega) ht (fun y => ?_) (fun y1 y2 M' x => ?_))
  · refine itn (by decide) (c_isx (d := 1) h (by omega) hu (fun y' => ?_) (fun y1 y2 M' x => ?_))
    · refine itn (by decide) (c_isx (d := 2) h (by omega) hv (fun y'' => ?_) (fun y1 y2 M' x => ?_))
      · have hF : wFst W st 0 [t, u, v] = 0 := by rw [wFst_cons, if_pos y, wFst_cons, if_pos y', wFst_cons, if_pos y'']; rfl
        rw [takeS_un (by simpa using z) hF, wUn_cons, wUn_cons, wUn_cons] at hX hQ
        refine itn (by decide) (c_isMadex (d := 0) h (by omega) ht (fun x => ?_) (fun x M' v => ?_))
        · rw [decide_eq_false x] at hQ hX
          refine itn (by decide) (c_isMadex (d := 1) h (by omega) hu (fun x' => ?_) (fun x' M' v => ?_))
          · rw [decide_eq_false x'] at hQ hX
            refine itn (by decide) (c_isMadex (d := 2) h (by omega) hv (fun x'' => ?_) (fun x'' M' v => ?_))
            · rw [decide_eq_false x''] at hQ
              exact itn (by decide) (hQ (by simp [wUn]) z)
            · rw [decide_eq_true x''] at hX
              exact itp rfl (hX (by simp) M' (by simpa using v))
          · rw [decide_eq_true x'] at hX
            exact itp rfl (hX (by simp) M' (by simpa using v))
        · rw [decide_eq_true x] at hX
          exact itp rfl (hX (by simp) M' (by simpa using v))
      · have hF : wFst W st 0 [t, u, v] = wOne W v (tp st 2) := by rw [wFst_cons, if_pos y, wFst_cons, if_pos y', wFst_cons, if_neg (fun q => q.elim y1 y2)]
        rw [takeS_fst (by simpa using z) (by rw [hF]; exact y1), hF] at hX
        exact itp rfl (hX y1 M' x)
    · have hF : wFst W st 0 [t, u, v] = wOne W u (tp st 1) := by rw [wFst_cons, if_pos y, wFst_cons, if_neg (fun q => q.elim y1 y2)]
      rw [takeS_fst (by simpa using z) (by rw [hF]; exact y1), hF] at hX
      exact itp rfl (hX y1 M' x)
  · have hF : wFst W st 0 [t, u, v] = wOne W t (tp st 0) := by rw [wFst_cons, if_neg (by omega)]
    rw [takeS_fst (by simpa using z) (by rw [hF]; exact y1), hF] at hX
    exact itp rfl (hX y1 M' x)
theorem k_c1x {ws : List Wt} {κ : Kd} (h : KAx A W w c k br nq nk np nh nr this Ex a lo st kn M) (hP : KPx A W w c k br nq nk np nh nr this Ex a kn (wcS W (gmt (gc W c) k) lo st ws 0 [κ]) Q) (hκ : kwf A (co (gmt (gc W c) k)) κ) (h4 : κ.1 ≠ -4) (hn : ws.length ≤ st.length) (ht : takeS W st ws = 0) : w_Checker_comes this (Int32.ofNat ws.length) (kC A κ) (fun r M => if r = 0 then Q 0 M else Q 1 M) M := by
  have hh := h.ht
  refine c_comes1x h hκ h4 hn (fun e M' q => itp rfl (hP.full ht (by rw [len_take hn, List.length_singleton]; omega) M' q)) (fun e M' q => itn (by decide) (hP.good ht (by rw [len_take hn, List.length_singleton]; omega) M' q))
theorem k_c0x {ws : List Wt} (h : KAx A W w c k br nq nk np nh nr this Ex a lo st kn M) (hP : KPx A W w c k br nq nk np nh nr this Ex a kn (wcS W (gmt (gc W c) k) lo st ws 0 []) Q) (hn : ws.length ≤ st.length) (ht : takeS W st ws = 0) : w_Checker_comes this (Int32.ofNat ws.length) (-4) (fun r M => if r = 0 then Q 0 M else Q 1 M) M := by
  have hh := h.ht
  refine c_comes0x h hn (fun M' q => itn (by decide) (hP.good ht (by rw [len_take hn, List.length_nil]; omega) M' (by rw [List.append_nil]; exact q)))
theorem k_w1c1x {t : Wt} {κ : Kd} (h : KAx A W w c k br nq nk np nh nr this Ex a lo st kn M) (ht : wok A (co (gmt (gc W c) k)) t) (hP : KPx A W w c k br nq nk np nh nr this Ex a kn (wcS W (gmt (gc W c) k) lo st [t] 0 [κ]) Q) (hκ : kwf A (co (gmt (gc W c) k)) κ) (h4 : κ.1 ≠ -4) : w_Checker_wants1 this (wvN A t) (fun r M => if r = 0 then Q 0 M else w_Checker_comes this 1 (kC A κ) (fun r M => if r = 0 then Q 0 M else Q 1 M) M) M :=
  c_wants1x h ht (fun z M' q => itp rfl (hP.rule z M' q)) (fun z y => itn (by decide) (k_c1x (ws := [t]) (κ := κ) h hP hκ h4 y z))
theorem k_w1c0x {t : Wt} (h : KAx A W w c k br nq nk np nh nr this Ex a lo st kn M) (ht : wok A (co (gmt (gc W c) k)) t) (hP : KPx A W w c k br nq nk np nh nr this Ex a kn (wcS W (gmt (gc W c) k) lo st [t] 0 []) Q) : w_Checker_wants1 this (wvN A t) (fun r M => if r = 0 then Q 0 M else w_Checker_comes this 1 (-4) (fun r M => if r = 0 then Q 0 M else Q 1 M) M) M :=
  c_wants1x h ht (fun z M' q => itp rfl (hP.rule z M' q)) (fun z y => itn (by decide) (k_c0x (ws := [t]) h hP y z))
theorem k_w2c1x {t u : Wt} {κ : Kd} (h : KAx A W w c k br nq nk np nh nr this Ex a lo st kn M) (ht : wok A (co (gmt (gc W c) k)) t) (hu : wok A (co (gmt (gc W c) k)) u) (hP : KPx A W w c k br nq nk np nh nr this Ex a kn (wcS W (gmt (gc W c) k) lo st [t, u] 0 [κ]) Q) (hκ : kwf A (co (gmt (gc W c) k)) κ) (h4 : κ.1 ≠ -4) : w_Checker_wants2 this (wvN A t) (wvN A u) (fun r M => if r = 0 then Q 0 M else w_Checker_comes this 2 (kC A κ) (fun r M => if r = 0 then Q 0 M else Q 1 M) M) M :=
  c_wants2x h ht hu (fun z M' q => itp rfl (hP.rule z M' q)) (fun z y => itn (by decide) (k_c1x (ws := [t, u]) (κ := κ) h hP hκ h4 y z))
theorem k_w2c0x {t u : Wt} (h : KAx A W w c k br nq nk np nh nr this Ex a lo st kn M) (ht : wok A (co (gmt (gc W c) k)) t) (hu : wok A (co (gmt (gc W c) k)) u) (hP : KPx A W w c k br nq nk np nh nr this Ex a kn (wcS W (gmt (gc W c) k) lo st [t, u] 0 []) Q) : w_Checker_wants2 this (wvN A t) (wvN A u) (fun r M => if r = 0 then Q 0 M else w_Checker_comes this 2 (-4) (fun r M => if r = 0 then Q 0 M else Q 1 M) M) M :=
  c_wants2x h ht hu (fun z M' q => itp rfl (hP.rule z M' q)) (fun z y => itn (by decide) (k_c0x (ws := [t, u]) h hP y z))
theorem k_w3c0x {t u v : Wt} (h : KAx A W w c k br nq nk np nh nr this Ex a lo st kn M) (ht : wok A (co (gmt (gc W c) k)) t) (hu : wok A (co (gmt (gc W c) k)) u) (hv : wok A (co (gmt (gc W c) k)) v) (hP : KPx A W w c k br nq nk np nh nr this Ex a kn (wcS W (gmt (gc W c) k) lo st [t, u, v] 0 []) Q) : w_Checker_wants3 this (wvN A t) (wvN A u) (wvN A v) (fun r M => if r = 0 then Q 0 M else w_Checker_comes this 3 (-4) (fun r M => if r = 0 then Q 0 M else Q 1 M) M) M :=
  c_wants3x h ht hu hv (fun z M' q => itp rfl (hP.rule z M' q)) (fun z y => itn (by decide) (k_c0x (ws := [t, u, v]) h hP y z))
theorem k_p1x {κ : Kd} (h : KAx A W w c k br nq nk np nh nr this Ex a lo st kn M) (hP : KPx A W w c k br nq nk np nh nr this Ex a kn (wcS W (gmt (gc W c) k) lo st [] 0 [κ]) Q) (hκ : kwf A (co (gmt (gc W c) k)) κ) : w_Checker_push this (kC A κ) Q M := by
  have hh := h.ht
  have e : st.take (st.length - ([] : List Wt).length) = st := List.take_of_length_le (by simp)
  refine c_pushx h hκ (fun z M' q => hP.full takeS_nil (by rw [e, List.length_append, List.length_singleton]; omega) M' q) (fun z M' q => hP.good takeS_nil (by rw [e, List.length_append, List.length_singleton]; omega) M' (by rw [e]; exact q))
end
