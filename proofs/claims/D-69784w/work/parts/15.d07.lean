/-! B: the works' checker: what an instruction wants and makes -/
/-- at an instruction -/
def KA (A : List Nm) (W : List Cls) (w c k : Nat) (br : Int32) (nq nk np nh nr this a : Nat) (lo st : List Kd) (kn : Bool) (M : Mem) : Prop :=
  KE A W w c k br nq nk np nh nr this M ∧ KS A (gmt (gc W c) k) this lo st kn M ∧ mI M 4 this 10 = 0 ∧ mI M 4 this 7 = Int32.ofNat a ∧ a < (co (gmt (gc W c) k)).length
/-- a rule is broken there -/
def KZ (A : List Nm) (W : List Cls) (w c k : Nat) (br : Int32) (nq nk np nh nr this a r : Nat) (M : Mem) : Prop :=
  KE A W w c k br nq nk np nh nr this M ∧ (mL M 31 this = 20 ∧ mL M 32 this = 24) ∧ mI M 4 this 10 = 0 ∧ mI M 4 this 7 = Int32.ofNat a ∧ mI M 4 this 8 = Int32.ofNat r
/-- what comes of it -/
def KP (A : List Nm) (W : List Cls) (w c k : Nat) (br : Int32) (nq nk np nh nr this a : Nat) (kn : Bool) (res : Nat ⊕ (List Kd × List Kd)) (Q : Int32 → Mem → Prop) : Prop := match res with
  | .inl r => ∀ M', KZ A W w c k br nq nk np nh nr this a r M' → Q 0 M'
  | .inr s => ∀ M', KA A W w c k br nq nk np nh nr this a s.1 s.2 kn M' → Q 1 M'
def wcS (W : List Cls) (x : Mth) (lo st : List Kd) (ws : List Wt) (own : Nat) (p : List Kd) : Nat ⊕ (List Kd × List Kd) := if takeS W st ws ≠ 0 then .inl (takeS W st ws) else if own ≠ 0 then .inl own else if sr x < (st.take (st.length - ws.length) ++ p).length then .inl 30 else .inr (lo, st.take (st.length - ws.length) ++ p)
theorem kC_g10 {A : List Nm} {co : List Ins} {κ : Kd} (h : kwf A co κ) (hl : A.length ≤ 200000) (_ : True) : (-10 : Int32) < kC A κ ↔ -10 < κ.1 := by
  rw [show (-10 : Int32) = Int32.ofInt (-10) from rfl]
  exact kC_gt (n := -10) h hl (by omega)
theorem gk_take {a : List Kd} {n j : Nat} (h : j < n) : gk (a.take n) j = gk a j := by
  show (a.take n).getD j _ = a.getD j _
  rw [List.getD_eq_getElem?_getD, List.getD_eq_getElem?_getD, List.getElem?_take, if_pos h]
theorem gk_set {a : List Kd} {n j : Nat} {κ : Kd} (h : n < a.length) : gk (a.set n κ) j = if j = n then κ else gk a j := by
  show (a.set n κ).getD j _ = _
  rw [List.getD_eq_getElem?_getD, List.getElem?_set]
  by_cases e : n = j
  · rw [if_pos e, if_pos h, if_pos e.symm]; rfl
  · rw [if_neg e, if_neg (fun q => e q.symm)]; exact (List.getD_eq_getElem?_getD).symm
theorem gk_snoc {a : List Kd} {κ : Kd} : gk (a ++ [κ]) a.length = κ := by
  rw [gk_ap, if_neg (by omega), Nat.sub_self]; rfl
section
variable {A : List Nm} {W : List Cls} {w c k this : Nat} {br : Int32} {nq nk np nh nr a : Nat} {lo st : List Kd} {kn : Bool} {M M' : Mem} {Q : Int32 → Mem → Prop}
theorem KA.z {r : Nat} (h : KA A W w c k br nq nk np nh nr this a lo st kn M) : KZ A W w c k br nq nk np nh nr this a r (sI M 4 this 8 (Int32.ofNat r)) := by
  obtain ⟨h1, h2, h3, h4, h5⟩ := h
  refine ⟨h1.w8, h2.1, ?_, ?_, ?_⟩
  · simp only [mI_sI, mI_sR, mI_sJ, mR_sI, mL_sI, mL_sR, mR_sR, Nat.reduceEqDiff, and_false, false_and, if_false, and_self, true_and, and_true, if_true]; exact h3
  · simp only [mI_sI, mI_sR, mI_sJ, mR_sI, mL_sI, mL_sR, mR_sR, Nat.reduceEqDiff, and_false, false_and, if_false, and_self, true_and, and_true, if_true]; exact h4
  · simp only [mI_sI, mI_sR, mI_sJ, mR_sI, mL_sI, mL_sR, mR_sR, Nat.reduceEqDiff, and_false, false_and, if_false, and_self, true_and, and_true, if_true]
theorem KA.n8 (h : KA A W w c k br nq nk np nh nr this a lo st kn M) : mI M 4 this 8 = 0 := h.2.1.2.2.2.2
theorem KA.ht (h : KA A W w c k br nq nk np nh nr this a lo st kn M) : mI M 4 this 2 = Int32.ofNat st.length ∧ st.length ≤ 20 ∧ st.length ≤ sr (gmt (gc W c) k) := ⟨h.2.1.2.2.1.2.1, Nat.le_trans h.2.1.2.2.1.2.2 h.1.sr.2, h.2.1.2.2.1.2.2⟩
theorem KA.brk {r : Nat} (h : KA A W w c k br nq nk np nh nr this a lo st kn M) (hX : ∀ M', KZ A W w c k br nq nk np nh nr this a r M' → Q 0 M') : w_Checker_breaks this (Int32.ofNat r) Q M := k_breaks h.n8 (hX _ h.z)
theorem KA.sv (h : KA A W w c k br nq nk np nh nr this a lo st kn M) {d : Nat} (hd : d < st.length) : mI M 32 this (st.length - 1 - d) = kC A (tp st d) ∧ kwf A (co (gmt (gc W c) k)) (tp st d) := h.2.1.2.2.1.1 _ (by omega)
/-- writes of the checker's own rows leave the rest -/
theorem KE.s2 {v : Int32} (h : KE A W w c k br nq nk np nh nr this M) : KE A W w c k br nq nk np nh nr this (sI M 4 this 2 v) := h.fr (S := (285793394306920833441610418092098634655629245793956098678773267955742373149291514664653927800704880150373913388423749690746007967577679155184353688551864105050094392601490879904551645289937784458453139617535910572704774231271588108092253680499408135958507227058036551719659148821493652464309016970613693109544906508636480672894494640559860467878289647366663850331954867463170600301178621010101029372654264171297982037231491311892858947537525986757827169736600317880446647247045504644272222656049350793825164158207773197137018282319809299349504)) (Fr.wI rfl (Fr.rf _ _))
theorem KE.s32 {v : Int32} {j : Nat} (h : KE A W w c k br nq nk np nh nr this M) : KE A W w c k br nq nk np nh nr this (sI M 32 this j v) := h.fr (S := (4294967296)) (Fr.wIa rfl rfl (Fr.rf _ _))
theorem KE.s31 {v : Int32} {j : Nat} (h : KE A W w c k br nq nk np nh nr this M) : KE A W w c k br nq nk np nh nr this (sI M 31 this j v) := h.fr (S := (2147483648)) (Fr.wIa rfl rfl (Fr.rf _ _))
theorem KA.pop {n : Nat} (h : KA A W w c k br nq nk np nh nr this a lo st kn M) (hn : n ≤ st.length) : KA A W w c k br nq nk np nh nr this a lo (st.take (st.length - n)) kn (sI M 4 this 2 (mI M 4 this 2 - Int32.ofNat n)) := by
  have hh := h.ht
  obtain ⟨h1, ⟨⟨s1, s2⟩, ⟨s3, s4⟩, ⟨s5, s6, s7⟩, s8, s9⟩, h3, h4, h5⟩ := h
  have hl : (st.take (st.length - n)).length = st.length - n := by rw [List.length_take]; omega
  refine ⟨h1.s2, ⟨⟨s1, s2⟩, ⟨fun i hi => ?_, s4⟩, ⟨fun i hi => ?_, ?_, by rw [hl]; omega⟩, ?_, ?_⟩, ?_, ?_, h5⟩
  · have := s3 i hi
    simp only [mI_sI, mI_sR, mI_sJ, mR_sI, mL_sI, mL_sR, mR_sR, Nat.reduceEqDiff, and_false, false_and, if_false, and_self, true_and, and_true, if_true]; exact this
  · rw [hl] at hi
    have := s5 i (by omega)
    rw [gk_take hi]
    simp only [mI_sI, mI_sR, mI_sJ, mR_sI, mL_sI, mL_sR, mR_sR, Nat.reduceEqDiff, and_false, false_and, if_false, and_self, true_and, and_true, if_true]; exact this
  · simp only [mI_sI, mI_sR, mI_sJ, mR_sI, mL_sI, mL_sR, mR_sR, Nat.reduceEqDiff, and_false, false_and, if_false, and_self, true_and, and_true, if_true]
    rw [s6, oN_sub hn, hl]
  all_goals simp only [mI_sI, mI_sR, mI_sJ, mR_sI, mL_sI, mL_sR, mR_sR, Nat.reduceEqDiff, and_false, false_and, if_false, and_self, true_and, and_true, if_true]; assumption
theorem KA.snoc {κ : Kd} (h : KA A W w c k br nq nk np nh nr this a lo st kn M) (hκ : kwf A (co (gmt (gc W c) k)) κ) (hlt : st.length < sr (gmt (gc W c) k)) : KA A W w c k br nq nk np nh nr this a lo (st ++ [κ]) kn (sI (sI M 32 this st.length (kC A κ)) 4 this 2 (Int32.ofNat (st.length + 1))) := by
  have hh := h.ht
  obtain ⟨h1, ⟨⟨s1, s2⟩, ⟨s3, s4⟩, ⟨s5, s6, s7⟩, s8, s9⟩, h3, h4, h5⟩ := h
  refine ⟨h1.s32.s2, ⟨⟨s1, s2⟩, ⟨fun i hi => ?_, s4⟩, ⟨fun i hi => ?_, ?_, by rw [List.length_append, List.length_singleton]; omega⟩, ?_, ?_⟩, ?_, ?_, h5⟩
  · have := s3 i hi
    simp only [mI_sI, mI_sR, mI_sJ, mR_sI, mL_sI, mL_sR, mR_sR, Nat.reduceEqDiff, and_false, false_and, if_false, and_self, true_and, and_true, if_true]; exact this
  · rw [List.length_append, List.length_singleton] at hi
    by_cases e : i = st.length
    · subst e
      rw [gk_snoc]
      exact ⟨by simp only [mI_sI, mI_sR, mI_sJ, mR_sI, mL_sI, mL_sR, mR_sR, Nat.reduceEqDiff, and_false, false_and, if_false, and_self, true_and, and_true, if_true], hκ⟩
    · have := s5 i (by omega)
      rw [gk_ap, if_pos (by omega)]
      rw [mI_sI, if_neg (by simp), mI_sI, if_neg (by simp [e])]; exact this
  · simp only [mI_sI, mI_sR, mI_sJ, mR_sI, mL_sI, mL_sR, mR_sR, Nat.reduceEqDiff, and_false, false_and, if_false, and_self, true_and, and_true, if_true]
    rw [List.length_append, List.length_singleton]
  all_goals simp only [mI_sI, mI_sR, mI_sJ, mR_sI, mL_sI, mL_sR, mR_sR, Nat.reduceEqDiff, and_false, false_and, if_false, and_self, true_and, and_true, if_true]; assumption
theorem c_push {κ : Kd} (h : KA A W w c k br nq nk np nh nr this a lo st kn M) (hκ : kwf A (co (gmt (gc W c) k)) κ) (hX : st.length = sr (gmt (gc W c) k) → ∀ M', KZ A W w c k br nq nk np nh nr this a 30 M' → Q 0 M') (hQ : st.length < sr (gmt (gc W c) k) → ∀ M', KA A W w c k br nq nk np nh nr this a lo (st ++ [κ]) kn M' → Q 1 M') : w_Checker_push this (kC A κ) Q M := by
  have hh := h.ht
  have hm := h.1.mlt
  have hsr := h.1.sr
  unfold w_Checker_push
  refine ⟨w, h.1.r, ?_⟩
  rw [h.1.m6, oN_tnc (by omega), hsr.1, hh.1, h.1.ml (by omega) (by omega)]
  refine ⟨(vp_oN (by omega)).mpr hm, ?_⟩
  by_cases e : st.length = sr (gmt (gc W c) k)
  · exact itp (by rw [e]) (h.brk (r := 30) (fun M' q => ⟨Or.inl rfl, hX e M' q⟩))
  · refine itn (ne_oN e (by omega) (by omega)) ⟨by rw [h.2.1.1.2]; exact (vp_oN (by omega)).mpr (by omega), _, rfl, ?_⟩
    rw [oN_tnc (by omega), show mI (sI M 32 this st.length (kC A κ)) 4 this 2 = Int32.ofNat st.length by simp only [mI_sI, mI_sR, mI_sJ, mR_sI, mL_sI, mL_sR, mR_sR, Nat.reduceEqDiff, and_false, false_and, if_false, and_self, true_and, and_true, if_true]; exact hh.1, show Int32.ofNat st.length + (1 : Int32) = Int32.ofNat (st.length + 1) from oN_add _ 1]
    exact hQ (by omega) _ (h.snoc hκ (by omega))
/-- taken away, and one comes or none -/
theorem c_comes0 {n : Nat} (h : KA A W w c k br nq nk np nh nr this a lo st kn M) (hn : n ≤ st.length) (hQ : ∀ M', KA A W w c k br nq nk np nh nr this a lo (st.take (st.length - n)) kn M' → Q 1 M') : w_Checker_comes this (Int32.ofNat n) (-4) Q M := by
  unfold w_Checker_comes
  exact itp rfl (hQ _ (h.pop hn))
theorem c_comes1 {n : Nat} {κ : Kd} (h : KA A W w c k br nq nk np nh nr this a lo st kn M) (hκ : kwf A (co (gmt (gc W c) k)) κ) (h4 : κ.1 ≠ -4) (hn : n ≤ st.length) (hX : st.length - n = sr (gmt (gc W c) k) → ∀ M', KZ A W w c k br nq nk np nh nr this a 30 M' → Q 0 M') (hQ : st.length - n < sr (gmt (gc W c) k) → ∀ M', KA A W w c k br nq nk np nh nr this a lo (st.take (st.length - n) ++ [κ]) kn M' → Q 1 M') : w_Checker_comes this (Int32.ofNat n) (kC A κ) Q M := by
  unfold w_Checker_comes
  have hl : (st.take (st.length - n)).length = st.length - n := by rw [List.length_take]; omega
  refine itn (fun q => h4 ((kC_eq (n := -4) hκ h.1.la (by omega)).mp q)) (c_push (h.pop hn) hκ (fun e M' q => ?_) (fun e M' q => ?_))
  · rw [hl] at e; exact itp rfl (hX e M' q)
  · rw [hl] at e; exact itn (by decide) (hQ e M' q)
theorem c_needs {n : Nat} (h : KA A W w c k br nq nk np nh nr this a lo st kn M) (hn : n < 1000) (hX : st.length < n → ∀ M', KZ A W w c k br nq nk np nh nr this a 31 M' → Q 0 M') (hQ : n ≤ st.length → Q 1 M) : w_Checker_needs this (Int32.ofNat n) Q M := by
  unfold w_Checker_needs
  have hh := h.ht
  rw [hh.1]
  by_cases e : n ≤ st.length
  · exact itp (le_oN e (by omega)) (hQ e)
  · exact itn (nle_oN (by omega) (by omega)) (h.brk (r := 31) (fun M' q => itp rfl (hX (by omega) M' q)))
/-- the number of what is wanted -/
def wvN (A : List Nm) (t : Wt) : Int32 := if t.1 = 0 then kC A t.2 else if t.1 = 1 then -5 else -6
def wok (A : List Nm) (co : List Ins) (t : Wt) : Prop := (t.1 = 0 ∧ kwf A co t.2 ∧ 0 ≤ t.2.1) ∨ t.1 = 1 ∨ t.1 = 3
theorem c_isUnmade {κ : Kd} {co : List Ins} (hκ : kwf A co κ) (hl : A.length ≤ 200000) (hQ : Q (b2 (umK κ)) M) : w_Checker_isUnmade this (kC A κ) Q M := by
  unfold w_Checker_isUnmade
  unfold umK at hQ
  by_cases c1 : κ.1 = -3
  · rw [decide_eq_true c1] at hQ
    exact itp ((kC_eq (n := -3) hκ hl (by omega)).mpr c1) hQ
  · rw [decide_eq_false c1] at hQ
    refine itn (fun q => c1 ((kC_eq (n := -3) hκ hl (by omega)).mp q)) ?_
    by_cases c2 : κ.1 ≤ -10
    · rw [decide_eq_true c2] at hQ
      exact itn (fun q => absurd ((kC_g10 hκ hl trivial).mp q) (by omega)) hQ
    · rw [decide_eq_false c2] at hQ
      exact itp ((kC_g10 hκ hl trivial).mpr (by omega)) hQ
theorem c_isReference {κ : Kd} {co : List Ins} (hκ : kwf A co κ) (hl : A.length ≤ 200000) (hQ : Q (b2 (rfK κ)) M) : w_Works_isReference (kC A κ) Q M := by
  unfold w_Works_isReference
  have hg := hκ.rg
  unfold rfK at hQ
  by_cases c1 : 1 ≤ κ.1
  · have : (decide (κ.1 = -1) || (decide (κ.1 = 1) || decide (κ.1 = 2))) = true := by simp; omega
    rw [this] at hQ
    exact itp ((kC_ge (n := 1) hκ hl (by omega)).mpr c1) hQ
  · refine itn (fun q => c1 ((kC_ge (n := 1) hκ hl (by omega)).mp q)) ?_
    by_cases c2 : κ.1 = -1
    · rw [decide_eq_true c2] at hQ
      exact itp ((kC_eq (n := -1) hκ hl (by omega)).mpr c2) hQ
    · have : (decide (κ.1 = -1) || (decide (κ.1 = 1) || decide (κ.1 = 2))) = false := by simp; omega
      rw [this] at hQ
      exact itn (fun q => c2 ((kC_eq (n := -1) hκ hl (by omega)).mp q)) hQ
theorem wvN_any {A : List Nm} {co : List Ins} {t : Wt} (h : wok A co t) (hl : A.length ≤ 200000) : (wvN A t = -6 ↔ t.1 = 3) ∧ (wvN A t = -5 ↔ t.1 = 1) ∧ (wvN A t = 0 ↔ t.1 = 0 ∧ t.2.1 = 0) := by
  unfold wvN
  rcases h with ⟨e, h, h0⟩ | e | e
  · rw [if_pos e]
    refine ⟨⟨fun q => ?_, fun q => by omega⟩, ⟨fun q => ?_, fun q => by omega⟩, ⟨fun q => ⟨e, (kC_eq (n := 0) h hl (by omega)).mp q⟩, fun q => (kC_eq (n := 0) h hl (by omega)).mpr q.2⟩⟩
    · have := (kC_eq (n := -6) h hl (by omega)).mp (q.trans (show (-6 : Int32) = Int32.ofInt (-6) from rfl)); omega
    · have := (kC_eq (n := -5) h hl (by omega)).mp (q.trans (show (-5 : Int32) = Int32.ofInt (-5) from rfl)); omega
  · rw [if_neg (by omega), if_pos e]
    exact ⟨⟨fun q => absurd q (by decide), fun q => by omega⟩, ⟨fun _ => e, fun _ => rfl⟩, ⟨fun q => absurd q (by decide), fun q => by omega⟩⟩
  · rw [if_neg (by omega), if_neg (by omega)]
    exact ⟨⟨fun _ => e, fun _ => rfl⟩, ⟨fun q => absurd q (by decide), fun q => by omega⟩, ⟨fun q => absurd q (by decide), fun q => by omega⟩⟩
theorem c_is {d : Nat} {t : Wt} (h : KA A W w c k br nq nk np nh nr this a lo st kn M) (hd : d < st.length) (ht : wok A (co (gmt (gc W c) k)) t) (hQ : wOne W t (tp st d) = 0 ∨ wOne W t (tp st d) = 39 → Q 1 M) (hX : wOne W t (tp st d) ≠ 0 → wOne W t (tp st d) ≠ 39 → ∀ M', KZ A W w c k br nq nk np nh nr this a (wOne W t (tp st d)) M' → Q 0 M') : w_Checker_is this (Int32.ofNat d) (wvN A t) Q M := by
  have hh := h.ht
  have hl := h.1.la
  obtain ⟨g1, g2⟩ := h.sv hd
  obtain ⟨v1, v2, v3⟩ := wvN_any ht hl
  unfold w_Checker_is
  rw [hh.1, show Int32.ofNat st.length - (1 : Int32) = Int32.ofNat (st.length - 1) from oN_sub (b := 1) (by omega), oN_sub (by omega), oN_tnc (by omega), g1, h.2.1.1.2]
  refine ⟨(vp_oN (by omega)).mpr (by omega), _, rfl, ?_⟩
  have hg := g2.rg
  generalize tp st d = κ at g1 g2 hQ hX hg
  unfold wOne at hQ hX
  by_cases c3 : t.1 = 3
  · simp only [if_pos c3] at hQ
    exact itp (v1.mpr c3) (hQ (Or.inl trivial))
  have c2 : t.1 ≠ 2 := by rcases ht with ⟨e, -⟩ | e | e <;> omega
  simp only [if_neg c3, if_neg c2] at hQ hX
  refine itn (fun q => c3 (v1.mp q)) ?_
  have last : ∀ (r : Nat), (wvN A t = -5 → rfK κ = decide (r = 0)) → (wvN A t ≠ -5 → (fitK W κ t.2 = 0 ↔ r = 0) ∧ (r ≠ 0 → r = if fitK W κ t.2 = 43 then 43 else 32)) → (r = 0 → Q 1 M) → (r ≠ 0 → ∀ M', KZ A W w c k br nq nk np nh nr this a r M' → Q 0 M') → (wvN A t = -5 → r ≠ 0 → r = 32) → w_Checker_is_j36 this Q (wvN A t) (kC A κ) M := by
    intro r e1 e2 q0 q1 e3
    unfold w_Checker_is_j36
    by_cases c5 : wvN A t = -5
    · refine itp c5 (c_isReference g2 hl ?_)
      rw [e1 c5]
      unfold w_Checker_is_j55
      by_cases c6 : r = 0
      · rw [decide_eq_true c6]; exact itn (by decide) (q0 c6)
      · rw [decide_eq_false c6]
        have := e3 c5 c6
        rw [this] at q1
        exact itp (by decide) (h.brk (r := 32) (fun M' q => itp rfl (q1 (by decide) M' q)))
    · have t0 : t.1 = 0 := by
        rcases ht with ⟨e, -⟩ | e | e
        · exact e
        · exact absurd (v2.mpr e) c5
        · exact absurd e c3
      have tk : kwf A (co (gmt (gc W c) k)) t.2 := by
        rcases ht with ⟨-, e, -⟩ | e | e
        · exact e
        · omega
        · omega
      obtain ⟨z1, z2⟩ := e2 c5
      refine itn c5 ?_
      rw [show wvN A t = kC A t.2 by unfold wvN; rw [if_pos t0]]
      unfold w_Checker_is_j55
      refine c_fits h.1.r h.1.cl h.1.na h.n8 g2 tk (fun y => ?_) (fun y => ?_) (fun y => ?_)
      · exact itn (by decide) (q0 (z1.mp y))
      · have hr : r ≠ 0 := fun q => by have := z1.mpr q; omega
        have := z2 hr
        rw [if_neg (by omega)] at this
        rw [this] at q1
        exact itp rfl (h.brk (r := 32) (fun M' q => itp rfl (q1 (by decide) M' q)))
      · have hr : r ≠ 0 := fun q => by have := z1.mpr q; omega
        have := z2 hr
        rw [if_pos y] at this
        rw [this] at q1
        exact itp rfl (k_broken (r := 32) (e := 43) (by simp only [mI_sI, mI_sR, mI_sJ, mR_sI, mL_sI, mL_sR, mR_sR, Nat.reduceEqDiff, and_false, false_and, if_false, and_self, true_and, and_true, if_true]; rfl) (by omega) (itp rfl (q1 (by decide) _ h.z)))
  by_cases c4 : t.1 = 0 ∧ t.2.1 = 0
  · simp only [if_pos c4] at hQ hX
    refine itp (v3.mpr c4) ?_
    rcases ht with ⟨-, tk, -⟩ | e | e
    · have et : t.2 = (0, []) := by
        rcases tk.rg with q | q
        · omega
        · exact kd_ext c4.2 q.1
      have hf : fitK W κ t.2 = if κ.1 = 0 then 0 else 37 := by
        rw [et]
        unfold fitK
        by_cases c5 : κ.1 = 0
        · rw [if_pos c5, if_pos (Or.inr ?_)]
          rcases hg with q | q
          · omega
          · exact kd_ext c5 q.1
        · rw [if_neg c5, if_neg (by
            rintro (q | q)
            · exact absurd q (by decide)
            · rw [q] at c5; exact c5 rfl)]
          by_cases c6 : κ.1 = -1
          · rw [if_pos c6]; rfl
          · rw [if_neg c6]
            by_cases c7 : κ.1 = 1
            · rw [if_pos c7, if_neg (by decide)]
            · rw [if_neg c7, if_neg (fun q => absurd q.2 (by decide))]
      refine last (if κ.1 = 0 then 0 else 32) (fun q => ?_) (fun _ => ?_) (fun q => hQ (Or.inl q)) (fun q M' z => hX q (by split <;> decide) M' z) (fun q => ?_)
      · have := v2.mp q; omega
      · rw [hf]
        by_cases c5 : κ.1 = 0
        · simp [c5]
        · simp [c5]
      · have := v2.mp q; omega
    · omega
    · omega
  · simp only [if_neg c4] at hQ hX
    refine itn (fun q => c4 (v3.mp q)) (c_isUnmade g2 hl ?_)
    cases eu : umK κ with
    | true =>
      rw [if_pos eu] at hQ
      exact itn (by decide) (hQ (Or.inr rfl))
    | false =>
      rw [if_neg (by rw [eu]; decide)] at hQ
      rw [if_neg (by rw [eu]; decide)] at hX
      refine itp rfl ?_
      by_cases c5 : t.1 = 1
      · rw [if_pos c5] at hQ hX
        refine last (if rfK κ = true then 0 else 32) (fun _ => ?_) (fun q => absurd (v2.mpr c5) q) (fun q => hQ (Or.inl q)) (fun q M' z => hX q (by split <;> decide) M' z) (fun _ q => ?_)
        · cases rfK κ <;> rfl
        · by_cases c6 : rfK κ = true
          · rw [if_pos c6] at q; exact absurd rfl q
          · rw [if_neg c6]
      · rw [if_neg c5] at hQ hX
        refine last (if fitK W κ t.2 = 0 then 0 else if fitK W κ t.2 = 43 then 43 else 32) (fun q => absurd (v2.mp q) c5) (fun _ => ?_) (fun q => hQ (Or.inl q)) (fun q M' z => hX q (by
          split
          · decide
          · split <;> decide) M' z) (fun q => absurd (v2.mp q) c5)
        by_cases c6 : fitK W κ t.2 = 0
        · simp [c6]
        · simp only [if_neg c6]
          refine ⟨⟨fun q => absurd q c6, fun q => ?_⟩, fun _ => trivial⟩
          split at q <;> exact absurd q (by decide)
theorem c_isMade {d : Nat} {t : Wt} (h : KA A W w c k br nq nk np nh nr this a lo st kn M) (hd : d < st.length) (ht : wok A (co (gmt (gc W c) k)) t) (hQ : wOne W t (tp st d) ≠ 39 → Q 1 M) (hX : wOne W t (tp st d) = 39 → ∀ M', KZ A W w c k br nq nk np nh nr this a 39 M' → Q 0 M') : w_Checker_isMade this (Int32.ofNat d) (wvN A t) Q M := by
  have hh := h.ht
  have hl := h.1.la
  obtain ⟨g1, g2⟩ := h.sv hd
  obtain ⟨v1, v2, v3⟩ := wvN_any ht hl
  unfold w_Checker_isMade
  unfold wOne at hQ hX
  by_cases c4 : t.1 = 0 ∧ t.2.1 = 0
  · refine itp (v3.mpr c4) (hQ ?_)
    rw [if_neg (by omega), if_neg (by omega), if_pos c4]
    split <;> decide
  refine itn (fun q => c4 (v3.mp q)) ?_
  by_cases c3 : t.1 = 3
  · refine itp (v1.mpr c3) (hQ ?_)
    rw [if_pos c3]; decide
  refine itn (fun q => c3 (v1.mp q)) ?_
  have c2 : t.1 ≠ 2 := by rcases ht with ⟨e, -⟩ | e | e <;> omega
  rw [if_neg c3, if_neg c2, if_neg c4] at hQ hX
  rw [hh.1, show Int32.ofNat st.length - (1 : Int32) = Int32.ofNat (st.length - 1) from oN_sub (b := 1) (by omega), oN_sub (by omega), oN_tnc (by omega), g1, h.2.1.1.2]
  refine ⟨(vp_oN (by omega)).mpr (by omega), c_isUnmade g2 hl ?_⟩
  cases eu : umK (tp st d) with
  | true =>
    rw [if_pos eu] at hX
    exact itn (by decide) (h.brk (r := 39) (fun M' q => itp rfl (hX rfl M' q)))
  | false =>
    rw [if_neg (by rw [eu]; decide)] at hQ
    refine itp rfl (hQ ?_)
    split
    · split <;> decide
    · split
      · decide
      · split <;> decide
end
