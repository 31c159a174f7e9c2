/-! THE OPERATION step (printed by gen/os.py) -/
abbrev thereS (s : Ms) : Prop := (zN s 0).1 = true ∨ (zN s 1).1 = true ∨ (zN s 2).1 = true
noncomputable def stepO (br : Int32) (W : List Cls) (lf : Nat) (a : Int32) (s : Ms) : Int32 × Ms :=
  if a < 1 ∨ 4000 < a then (-1, s) else if ¬ thereS s then (-2, s) else if ¬ anyOn s then (0, s)
  else if a.toNatClampNeg ≤ lf then (goR (gowS br W (a.toNatClampNeg * 900 + 900) a.toNatClampNeg s), (gowS br W (a.toNatClampNeg * 900 + 900) a.toNatClampNeg s).2) else (-3, s)
theorem sR_same {M : Mem} {f i k : Nat} {v : Option (Nat × Nat)} (h : mR M f i k = v) : sR M f i k v = M := by
  unfold sR
  refine Prod.ext rfl (Prod.ext rfl (Prod.ext ?_ rfl))
  funext f' i' k'
  show (if f' = f ∧ i' = i ∧ k' = k then v else M.2.2.1 f' i' k') = M.2.2.1 f' i' k'
  by_cases e : f' = f ∧ i' = i ∧ k' = k
  · rw [if_pos e, e.1, e.2.1, e.2.2]; exact h.symm
  · rw [if_neg e]
theorem b2_0 {b : Bool} : b2 b = 0 ↔ b = false := by cases b <;> decide
theorem i4000 {a : Int32} (h1 : ¬ a < 1) (h2 : ¬ 4000 < a) : ∃ n, 1 ≤ n ∧ n ≤ 4000 ∧ a = Int32.ofNat n ∧ a.toNatClampNeg = n := by
  have h0 : ¬ a < 0 := fun z => h1 (Int32.lt_trans z (by decide))
  refine ⟨a.toNatClampNeg, ?_, ?_, (tnc_oN h0).symm, rfl⟩
  · rw [Int32.lt_iff_toInt_lt, show (1 : Int32).toInt = 1 from rfl] at h1
    show 1 ≤ (a.toInt).toNat
    omega
  · rw [Int32.lt_iff_toInt_lt, show (4000 : Int32).toInt = 4000 from rfl] at h2
    show (a.toInt).toNat ≤ 4000
    omega
section
variable {A : List Nm} {W : List Cls} {k C B F K : Nat} {br a : Int32} {nq nk np nh nr : Nat} {s : Ms} {M M' : Mem} {Q : Int32 → Mem → Prop} {on : Nat → Bool}
theorem RA.i11 {t : Nat} (h : RA A W (k + 1) br nq nk np nh nr C B F s M) (hX : LX W s t) (ht : t < 3) : mI M 7 (3 * (k + 1) + t) 11 = 1 ↔ lSt (zN s t) = 1 := by
  have e11 : mI M 7 (3 * (k + 1) + t) 11 = Int32.ofNat (lSt (zN s t)) := (h.2.2.2.2.2 t ht).1.2.1.2.2.1
  have h2 := hX.2.1.1
  rw [e11]
  exact oN_inj (b := 1) (by omega) (by omega)
theorem c_isOn (h : RA A W (k + 1) br nq nk np nh nr C B F s M) (hX : ∀ t, t < 3 → LX W s t) (hQ : Q (b2 (decide (anyOn s))) M) : w_Machine_isOn (k + 1) Q M := by
  have on : ∀ t, t < 3 → (mI M 7 (3 * (k + 1) + t) 11 = 1 ↔ lSt (zN s t) = 1) := fun t ht => h.i11 (hX t ht) ht
  have R := h.2.2.2.2.1.2
  have v : ∀ t, t < 3 → vp_in (Int32.ofNat t) (mL M 700 (k + 1)) := fun t ht => by rw [h.2.2.2.2.1.1]; exact (vp_oN (by omega)).mpr ht
  unfold w_Machine_isOn
  refine ⟨v 0 (by omega), 3 * (k + 1) + 0, R 0 (by omega), ?_⟩
  by_cases c0 : lSt (zN s 0) = 1
  · rw [decide_eq_true (show anyOn s from Or.inl c0)] at hQ
    exact itp ((on 0 (by omega)).mpr c0) hQ
  refine itn (fun z => c0 ((on 0 (by omega)).mp z)) ⟨v 1 (by omega), 3 * (k + 1) + 1, R 1 (by omega), ?_⟩
  by_cases c1 : lSt (zN s 1) = 1
  · rw [decide_eq_true (show anyOn s from Or.inr (Or.inl c1))] at hQ
    exact itp ((on 1 (by omega)).mpr c1) hQ
  refine itn (fun z => c1 ((on 1 (by omega)).mp z)) ⟨v 2 (by omega), 3 * (k + 1) + 2, R 2 (by omega), ?_⟩
  by_cases c2 : lSt (zN s 2) = 1
  · rw [decide_eq_true (show anyOn s from Or.inr (Or.inr c2))] at hQ
    exact itp ((on 2 (by omega)).mpr c2) hQ
  · rw [decide_eq_false (fun z : anyOn s => by rcases z with z | z | z <;> contradiction)] at hQ
    exact itn (fun z => c2 ((on 2 (by omega)).mp z)) hQ
/-- step, in the works -/
theorem c_wstep (hk : k < 3) (hOn : cOn on M) (hon : on k = true) (hW : WO W) (hKB : KB (k + 1) nq nk np nh nr) (hnA : nA A) (hF : F < 1000000) (hCF : C + K + 300 < F) (h : RA A W (k + 1) br nq nk np nh nr C B F s M) (hG : GI W K s) (h35 : mI M 6 (k + 1) 35 = 0)
    (hQ : ∀ M', RA A W (k + 1) br nq nk np nh nr C B F (stepO br W (C - zK s) a s).2 M' → GI W K (stepO br W (C - zK s) a s).2 → Q (stepO br W (C - zK s) a s).1 M') : w_Works_step 0 (Int32.ofNat k) a Q M := by
  have hX := hG.1.2.1
  have R := h.2.2.2.2.1.2
  have v : ∀ t, t < 3 → vp_in (Int32.ofNat t) (mL M 700 (k + 1)) := fun t ht => by rw [h.2.2.2.2.1.1]; exact (vp_oN (by omega)).mpr ht
  obtain ⟨hzK, e8⟩ : zK s ≤ C ∧ mI M 10 0 8 = Int32.ofNat (C - zK s) := by
    rcases h.2.2.2.1.2.1.2.2 with z | z
    · rw [h35] at z; exact absurd z (by decide)
    · exact z.2
  have hQ' : ∀ y, stepO br W (C - zK s) a s = y → ∀ M', RA A W (k + 1) br nq nk np nh nr C B F y.2 M' → GI W K y.2 → Q y.1 M' := fun y hy => by rw [← hy]; exact hQ
  unfold w_Works_step
  refine c_isWorld hOn (fun j hj e _ _ => ?_) (fun q => by rw [wOf_k hk, hon] at q; cases q)
  refine itn (by decide) ?_
  unfold stepO at hQ'
  unfold w_Works_isIn
  by_cases c1 : a < 1
  · exact itp c1 (itp rfl (hQ' _ (if_pos (Or.inl c1)) M h hG))
  refine itn c1 ?_
  by_cases c2 : 4000 < a
  · exact itp c2 (itp rfl (hQ' _ (if_pos (Or.inr c2)) M h hG))
  refine itn c2 (itn (by decide) ⟨by rw [hOn.1]; exact (vp_oN (by omega)).mpr hk, k + 1, ?_, v 0 (by omega), 3 * (k + 1) + 0, R 0 (by omega), ?_⟩)
  · rw [oN_tnc (k := k) (by omega), hOn.2 k hk, hon]; rfl
  have e1 : ∀ y, (if ¬ thereS s then (-2, s) else if ¬ anyOn s then (0, s) else if a.toNatClampNeg ≤ C - zK s then (goR (gowS br W (a.toNatClampNeg * 900 + 900) a.toNatClampNeg s), (gowS br W (a.toNatClampNeg * 900 + 900) a.toNatClampNeg s).2) else (-3, s)) = y → ∀ M', RA A W (k + 1) br nq nk np nh nr C B F y.2 M' → GI W K y.2 → Q y.1 M' := fun y hy => hQ' y ((if_neg (fun z => z.elim c1 c2)).trans hy)
  obtain ⟨n, n1, n4, en, en2⟩ := i4000 c1 c2
  have j70 : thereS s → w_Works_step_j70 0 Q a (k + 1) M := fun ht => by
    have e2 := fun y (hy : _ = y) => e1 y ((if_neg (fun z => z ht)).trans hy)
    unfold w_Works_step_j70
    refine c_isOn h hX ?_
    by_cases ca : anyOn s
    · rw [decide_eq_true ca]
      refine itn (by decide) ?_
      have e3 := fun y (hy : _ = y) => e2 y ((if_neg (fun z => z ca)).trans hy)
      rw [e8]
      rw [en2] at e3
      by_cases cl : n ≤ C - zK s
      · have e4 := e3 _ (if_pos cl)
        have hm := mu_max hW hG.1
        refine itp (by rw [en]; exact (oN_le (by omega) (by omega)).mpr cl) ?_
        unfold w_Machine_go
        refine ⟨n * 900 + 900, ?_⟩
        rw [en]
        refine c_goM hW hKB hnA (by omega) hF hCF (n * 900 + 900) n s M h hG (by omega) (by omega) (fun M2 h2 hG2 => ?_)
        have e5 := e4 M2 h2 hG2
        refine c_isOn h2 hG2.1.2.1 ?_
        dsimp only at e5
        unfold goR at e5
        by_cases cb : anyOn (gowS br W (n * 900 + 900) n s).2
        · rw [decide_eq_true cb]
          rw [if_pos cb] at e5
          refine itn (by decide) ?_
          cases eg : (gowS br W (n * 900 + 900) n s).1 with
          | false => rw [eg, if_neg (by decide)] at e5; exact itp rfl e5
          | true => rw [eg, if_pos rfl] at e5; exact itn (by decide) e5
        · rw [decide_eq_false cb]
          rw [if_neg cb] at e5
          exact itp rfl e5
      · exact itn (by rw [en]; exact fun z => cl ((oN_le (by omega) (by omega)).mp z)) (e3 _ (if_neg cl) M h hG)
    · rw [decide_eq_false ca]
      exact itp rfl (e2 _ (if_pos ca) M h hG)
  have e10 : ∀ t, t < 3 → mI M 7 (3 * (k + 1) + t) 10 = b2 (zN s t).1 := fun t ht => (h.2.2.2.2.2 t ht).1.2.1.2.1
  have o10 : ∀ t, t < 3 → (mI M 7 (3 * (k + 1) + t) 10 = 0 ↔ ¬ (zN s t).1 = true) := fun t ht => by rw [e10 t ht, b2_0]; simp
  by_cases t0 : (zN s 0).1 = true
  · exact itn (fun z => (o10 0 (by omega)).mp z t0) (j70 (Or.inl t0))
  refine itp ((o10 0 (by omega)).mpr t0) ⟨v 1 (by omega), 3 * (k + 1) + 1, R 1 (by omega), ?_⟩
  by_cases t1 : (zN s 1).1 = true
  · exact itn (fun z => (o10 1 (by omega)).mp z t1) (j70 (Or.inr (Or.inl t1)))
  refine itp ((o10 1 (by omega)).mpr t1) ⟨v 2 (by omega), 3 * (k + 1) + 2, R 2 (by omega), ?_⟩
  by_cases t2 : (zN s 2).1 = true
  · exact itn (fun z => (o10 2 (by omega)).mp z t2) (j70 (Or.inr (Or.inr t2)))
  · exact itp ((o10 2 (by omega)).mpr t2) (e1 _ (if_pos (fun z => by rcases z with z | z | z <;> contradiction)) M h hG)
end
/-- the machine of a world of the twin, at hand or not -/
def TAx (G : List Sl) (US : UST) (A : List Nm) (S : List Sg) (W : List Cls) (w : Nat) (br : Int32) (nq nl nf nk B F : Nat) (x : Int32) (s : Ms) (M : Mem) : Prop := TA G US A S W w br nq nl nf nk B F x s (sR M 11 0 45 (some (12, w)))
section
variable {G : List Sl} {US : UST} {A : List Nm} {S : List Sg} {W : List Cls} {k C B F K ud : Nat} {br a x : Int32} {nq nl nf nk : Nat} {s : Ms} {M M' : Mem} {Q : Int32 → Mem → Prop} {on : Nat → Bool}
theorem TA.xx (h : TA G US A S W k br nq nl nf nk B F x s M) : TAx G US A S W k br nq nl nf nk B F x s M := by
  unfold TAx
  rw [sR_same h.r45]
  exact h
theorem TA.fr93 {v : Int32} (h : TA G US A S W k br nq nl nf nk B F x s M) : TA G US A S W k br nq nl nf nk B F x s (sI M 11 0 93 v) := by
  have hf : Fr (19578333474041584520369701512121496433394438237205919917620568948617854625511724325745809673262267231097340923802297682881642065211813001736422749275442766320025519462229414321544221950367105648931811742637960976143685849345577583698315951956760857069864917893958688500706502952661776462945641397998415053719450746477705034265315218613811685868039386766189861387709009259117710386346325249816980904901000482810391493109969252186525144376206592514417637739967418308751571883174981482584234883705138098179168132142255462482655528875691734382830406203310180928400131502440011165941291564126954567841388821317739490924913069135597251154150242438561236122891772203515631184595315524494878742388556907997006207603985449840337602118380105499001549530763390169470928749135805978774335985850960327508192861965204609071486593955024616652947490875610099894616599296918197684851474808354945777864576288487582880201817171220478679736152859920979740275624586929927621678713822061580531353564064934938017792) M (sI M 11 0 93 v) := Fr.wI rfl (Fr.rf _ _)
  have hg := h.ga
  obtain ⟨a1, ⟨b1, b2'⟩, ⟨c1, c2⟩, ⟨d1, d2, d3⟩, ⟨e3, e4⟩, ⟨m1, m2, m3⟩, g⟩ := h
  have hr := hf.rsl hg
  exact ⟨a1.mfr hf, ⟨b1.fr hf, b2'.fr hf⟩, ⟨c1.fr hf, c2.fr hg hf⟩, ⟨d1.fr hf, d2.fr hf, d3.fr hf⟩, ⟨(hf.L (f := 704) rfl k).trans e3, fun t' ht => (hf.Ra (f := 704) rfl rfl k t').trans (e4 t' ht)⟩, ⟨by rw [hr.1, hr.2]; exact m1, by rw [hf.L (f := 110) rfl]; exact ⟨m2, m3⟩⟩, fun t' ht => (g t' ht).eq (fun f k hl h23 => unO_I (R := (19578333474041584520369701512121496433394438237205919917620568948617854625511724325745809673262267231097340923802297682881642065211813001736422749275442766320025519462229414321544221950367105648931811742637960976143685849345577583698315951956760857069864917893958688500706502952661776462945641397998415053719450746477705034265315218613811685868039386766189861387709009259117710386346325249816980904901000482810391493109969252186525144376206592514417637739967418308751571883174981482584234883705138098179168132142255462482655528875691734382830406203310180928400131502440011165941291564126954567841388821317739490924913069135597251154150242438561236122891772203515631184595315524494878742388556907997006207603985449840337602118380105499001549530763390169470928749135805978774335985850960327508192861965204609071486593955024616652947490875610099894616599296918197684851474808354945777864576288487582880201817171220478679736152859920979740275624586929927621678713822061580531353564064934938017792)) rfl hf hl h23 _) (fun f hl => unO_L (R := (19578333474041584520369701512121496433394438237205919917620568948617854625511724325745809673262267231097340923802297682881642065211813001736422749275442766320025519462229414321544221950367105648931811742637960976143685849345577583698315951956760857069864917893958688500706502952661776462945641397998415053719450746477705034265315218613811685868039386766189861387709009259117710386346325249816980904901000482810391493109969252186525144376206592514417637739967418308751571883174981482584234883705138098179168132142255462482655528875691734382830406203310180928400131502440011165941291564126954567841388821317739490924913069135597251154150242438561236122891772203515631184595315524494878742388556907997006207603985449840337602118380105499001549530763390169470928749135805978774335985850960327508192861965204609071486593955024616652947490875610099894616599296918197684851474808354945777864576288487582880201817171220478679736152859920979740275624586929927621678713822061580531353564064934938017792)) rfl hf hl _)⟩
/-- step, in the twin -/
theorem ct_wstep (hk : k < 3) (hOn : tOn on M) (hon : on k = true) (hW : WO W) (hns : NSi W) (hF : F < 1000000) (hCF : C + K + 300 < F) (h : TAx G US A S W k br nq nl nf nk B F x s M) (hG : GI W K s) (hI : TI2 x s) (hC : zK s ≤ C) (h93 : mI M 11 0 93 = Int32.ofNat ud) (hud : ud + (C - zK s) = 60000)
    (hQ : ∀ x' M', TAx G US A S W k br nq nl nf nk B F x' (stepO br W (C - zK s) a s).2 M' → GI W K (stepO br W (C - zK s) a s).2 → TI2 x' (stepO br W (C - zK s) a s).2 → mI M' 11 0 93 = Int32.ofNat (ud + (zK (stepO br W (C - zK s) a s).2 - zK s)) → Q (stepO br W (C - zK s) a s).1 M') : w_Model_step 0 (Int32.ofNat k) a Q M := by
  have hX := hG.1.2.1
  have hQ' : ∀ y, stepO br W (C - zK s) a s = y → ∀ x' M', TAx G US A S W k br nq nl nf nk B F x' y.2 M' → GI W K y.2 → TI2 x' y.2 → mI M' 11 0 93 = Int32.ofNat (ud + (zK y.2 - zK s)) → Q y.1 M' := fun y hy => by rw [← hy]; exact hQ
  have hs0 : ud + (zK s - zK s) = ud := by omega
  unfold w_Model_step
  refine ct_isWorld hOn (fun j hj e _ _ => ?_) (fun q => by rw [wOf_k hk, hon] at q; cases q)
  refine itn (by decide) ?_
  unfold stepO at hQ'
  by_cases c1 : a < 1
  · exact itp c1 (hQ' _ (if_pos (Or.inl c1)) x M h hG hI (by rw [hs0]; exact h93))
  refine itn c1 ?_
  by_cases c2 : 4000 < a
  · exact itn (Int32.not_le.mpr c2) (hQ' _ (if_pos (Or.inr c2)) x M h hG hI (by rw [hs0]; exact h93))
  refine itp (Int32.not_lt.mp c2) ⟨by rw [hOn.1]; exact (vp_oN (by omega)).mpr (by omega), k, ?_, ?_⟩
  · rw [oN_tnc (k := k) (by omega)]; exact (hOn.2 k hk).1
  have e1 : ∀ y, (if ¬ thereS s then (-2, s) else if ¬ anyOn s then (0, s) else if a.toNatClampNeg ≤ C - zK s then (goR (gowS br W (a.toNatClampNeg * 900 + 900) a.toNatClampNeg s), (gowS br W (a.toNatClampNeg * 900 + 900) a.toNatClampNeg s).2) else (-3, s)) = y → ∀ x' M', TAx G US A S W k br nq nl nf nk B F x' y.2 M' → GI W K y.2 → TI2 x' y.2 → mI M' 11 0 93 = Int32.ofNat (ud + (zK y.2 - zK s)) → Q y.1 M' := fun y hy => hQ' y ((if_neg (fun z => z.elim c1 c2)).trans hy)
  obtain ⟨n, n1, n4, en, en2⟩ := i4000 c1 c2
  have h : TA G US A S W k br nq nl nf nk B F x s (sR M 11 0 45 (some (12, k))) := h
  have h93 : mI (sR M 11 0 45 (some (12, k))) 11 0 93 = Int32.ofNat ud := h93
  generalize sR M 11 0 45 (some (12, k)) = M1 at h h93 ⊢
  have v : ∀ t, t < 3 → vp_in (Int32.ofNat t) (mL M1 704 k) := fun t ht => by rw [h.2.2.2.2.1.1]; exact (vp_oN (by omega)).mpr ht
  have R := h.2.2.2.2.1.2
  have hz : (60000 : Int32) - mI M1 11 0 93 = Int32.ofNat (C - zK s) := by
    have e : 60000 - ud = C - zK s := by omega
    rw [h93, ← e]
    exact sub_n (x := 60000) (by omega)
  refine ⟨k, h.r45, v 0 (by omega), 3 * k + 0, R 0 (by omega), ?_⟩
  have j86 : thereS s → w_Model_step_j86 0 Q a M1 := fun ht => by
    have e2 := fun y (hy : _ = y) => e1 y ((if_neg (fun z => z ht)).trans hy)
    unfold w_Model_step_j86
    refine ⟨k, h.r45, ct_isAnyOn h hX ?_⟩
    rw [hz]
    by_cases ca : anyOn s
    · rw [decide_eq_true ca]
      refine itn (by decide) ?_
      have e3 := fun y (hy : _ = y) => e2 y ((if_neg (fun z => z ca)).trans hy)
      rw [en2] at e3
      by_cases cl : n ≤ C - zK s
      · have e4 := e3 _ (if_pos cl)
        have hm := mu_max hW hG.1
        refine itp (by rw [en]; exact (oN_le (by omega) (by omega)).mpr (by omega)) ?_
        unfold w_Model_goOn
        refine ⟨n * 900 + 900, ?_⟩
        rw [en]
        have h0 := h.fr (M' := sI M1 11 0 83 0) (Fr.wI rfl (Fr.rf _ _))
        have z83 : mI (sI M1 11 0 83 0) 11 0 83 = Int32.ofNat 0 := by rw [mI_sI, if_pos ⟨rfl, rfl, rfl⟩]; rfl
        have z93 : mI (sI M1 11 0 83 0) 11 0 93 = Int32.ofNat ud := by rw [mI_sI, if_neg (fun z => absurd z.2.2 (by decide))]; exact h93
        generalize sI M1 11 0 83 0 = M2 at h0 z83 z93 ⊢
        have g := ct_goT (Q := fun r M' => ∃ x' m', TA G US A S W k br nq nl nf nk B F x' (gowS br W (n * 900 + 900) n s).2 M' ∧ GI W K (gowS br W (n * 900 + 900) n s).2 ∧ TI2 x' (gowS br W (n * 900 + 900) n s).2 ∧ mI M' 11 0 83 = Int32.ofNat m' ∧ m' + zK s = 0 + zK (gowS br W (n * 900 + 900) n s).2 ∧ r = goR (gowS br W (n * 900 + 900) n s)) hW hns hF hCF (n * 900 + 900) n 0 x s M2 h0 hG hI (by omega) (by omega) z83 (by omega) (fun x' m' M' a1 a2 a3 a4 a5 => ⟨x', m', a1, a2, a3, a4, a5, rfl⟩)
        rw [show 0 + n = n from Nat.zero_add n] at g
        refine mf_w_Model_goOn_L5 (M0 := M2) (fun r M3 hf hp => ?_) _ _ _ (Fr.rf _ _) g
        obtain ⟨x', m', a1, a2, a3, a4, a5, er⟩ := hp
        have f93 : mI M3 11 0 93 = Int32.ofNat ud := (hf.I (f := 11) (k := 93) rfl 0).trans z93
        rw [f93, a4, oN_add, er]
        refine e4 x' _ (TA.xx a1.fr93) a2 a3 ?_
        rw [mI_sI, if_pos ⟨rfl, rfl, rfl⟩]
        congr 2
        dsimp only
        omega
      · exact itn (by rw [en]; exact fun z => cl (by have := (oN_le (by omega) (by omega)).mp z; omega)) (e3 _ (if_neg cl) x M1 h.xx hG hI (by rw [hs0]; exact h93))
    · rw [decide_eq_false ca]
      exact itp rfl (e2 _ (if_pos ca) x M1 h.xx hG hI (by rw [hs0]; exact h93))
  have e13 : ∀ t, t < 3 → (mI M1 13 (3 * k + t) 0 = -2 ↔ ¬ (zN s t).1 = true) := fun t ht => by
    obtain ⟨-, e0, -, e1⟩ := (h.2.2.2.2.2.2 t ht).1
    rw [e0]
    cases hb : (zN s t).1 with
    | true =>
      rw [if_pos rfl]
      constructor
      · intro z
        have := oN_nonneg (show lSt (zN s t) < 2147483648 by have := (hX t ht).2.1.1; omega)
        rw [z] at this
        exact absurd (by decide) this
      · intro z; exact absurd rfl z
    | false =>
      rw [if_neg (by decide)]
      exact ⟨fun _ => by decide, fun _ => rfl⟩
  by_cases t0 : (zN s 0).1 = true
  · exact itn (fun z => (e13 0 (by omega)).mp z t0) (j86 (Or.inl t0))
  refine itp ((e13 0 (by omega)).mpr t0) ⟨k, h.r45, v 1 (by omega), 3 * k + 1, R 1 (by omega), ?_⟩
  by_cases t1 : (zN s 1).1 = true
  · exact itn (fun z => (e13 1 (by omega)).mp z t1) (j86 (Or.inr (Or.inl t1)))
  refine itp ((e13 1 (by omega)).mpr t1) ⟨k, h.r45, v 2 (by omega), 3 * k + 2, R 2 (by omega), ?_⟩
  by_cases t2 : (zN s 2).1 = true
  · exact itn (fun z => (e13 2 (by omega)).mp z t2) (j86 (Or.inr (Or.inr t2)))
  · exact itp ((e13 2 (by omega)).mpr t2) (e1 _ (if_pos (fun z => by rcases z with z | z | z <;> contradiction)) x M1 h.xx hG hI (by rw [hs0]; exact h93))
end
