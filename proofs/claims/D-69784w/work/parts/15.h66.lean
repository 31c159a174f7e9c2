/-! THE OPERATION call, in the twin: the whole -/
abbrev SBr : Nat := (21825606643609785617750262925490262503580609224449526489982133418276366094783649270431242331941161669122396358452622394236499931150866316800117115964950559539909250454338698920885741930137744908700613136655657622859912540927872609106656317174711202253092164848851979488703603338845807286614842742339916461982780047951283770722575875938667877714805539212893943490092072832858010776176340846603034995527382926349186891224207819873008723858003448443757785473042324891102969606417352299942984215892717880370931107152278947229670638576436985450189101105631119854935793580172684254803250564332498102686981111334191183277461488353580337596974265848683541163490881886373885890910160280026061005822425335815393286278237408702585068216733836393035221428095974939207741112358581745070358671232062198955494520838420517288122735088570407227116947158872871201300427812059473573649978197498432827133920207647396513530537533136639977531165016259686371400871010203563297136821309732407194785101413896865742902719185617989567257259613538910795626367905138201199398640786981664149717441007007496689147707392000)
section
variable {G : List Sl} {US : UST} {BB A A' : List Nm} {S S' : List Sg} {W : List Cls} {w k t L : Nat} {br x a : Int32} {nq nl nf nk B F : Nat} {M M' M1 : Mem} {s : Ms} {l : Ln} {tp : List Int32} {Q : Int32 → Mem → Prop} {on : Nat → Bool} {y : Nm × Nm × Kd × List Int32} {vals : List Int32}
theorem TA.ln1 (h : TA G US A S W w br nq nl nf nk B F x s M) (ht : t < 3) (hf : Fr SBr M M') (hO : ∀ g i k, tnF g = true → i ≠ 3 * w + t → mI M' g i k = mI M g i k) (hN : uN A S w t l M') : TA G US A S W w br nq nl nf nk B F x (yN s (up1 (zN s) t l)) M' := by
  have hG := h.ga
  obtain ⟨a, ⟨b1, b2⟩, ⟨c1, c2⟩, ⟨d1, d2, d3⟩, ⟨e1, e2⟩, ⟨f1, f2, f3⟩, g⟩ := h
  obtain ⟨r1, r2⟩ := hf.rsl hG
  refine ⟨a.mfr hf, ⟨b1.fr hf, b2.fr hf⟩, ⟨c1.fr hf, c2.fr hG hf⟩, ⟨d1.fr hf, d2.fr hf, d3.fr hf⟩, ⟨(hf.L (f := 704) rfl _).trans e1, fun t' h' => (hf.Ra (f := 704) rfl rfl _ t').trans (e2 t' h')⟩, ⟨by rw [r1, r2]; exact f1, by rw [hf.L (f := 110) rfl]; exact f2, by rw [hf.L (f := 110) rfl]; exact f3⟩, fun t' ht' => ?_⟩
  show uN A S w t' (up1 (zN s) t l t') M'
  by_cases e : t' = t
  · subst e; rw [up1_s]; exact hN
  · rw [up1_o e]
    refine (g t' ht').eq (fun gg k h1 h2 => hO gg _ k h1 (by omega)) (fun gg h1 => ?_)
    rcases tnF_in h1 with e | e | e | e | e | e | e | e | e <;> subst e
    · exact hf.L (f := 13) rfl _
    · exact hf.L (f := 170) rfl _
    · exact hf.L (f := 171) rfl _
    · exact hf.L (f := 172) rfl _
    · exact hf.L (f := 173) rfl _
    · exact hf.L (f := 174) rfl _
    · exact hf.L (f := 175) rfl _
    · exact hf.L (f := 176) rfl _
    · exact hf.L (f := 525) rfl _
/-- a run begins: its numbers -/
theorem ct_beginL {Q : Mem → Prop} {nn q i : Nat} (hC : mR M 11 0 31 = some (300, i)) (h90 : mI M 11 0 90 = Int32.ofNat q) (hq : q < mL M 300 i) (hq2 : mL M 300 i < 1000000) (hcn : mI M 300 i q = Int32.ofNat nn) (hn6 : nn ≤ 6) (h113 : mL M 113 0 = 6) (h170 : mL M 170 L = 6)
    (hQ : ∀ M', Fr SBr M M' → (∀ g i k, tnF g = true → i ≠ L → mI M' g i k = mI M g i k) → (∀ k, k < nn → mI M' 170 L k = mI M 113 0 k) → (∀ k, k ≠ 10 → k ≠ 11 → k ≠ 12 → k ≠ 13 → k ≠ 16 → k ≠ 22 → mI M' 13 L k = mI M 13 L k) → (mI M' 13 L 10 = 0 ∧ mI M' 13 L 11 = 0 ∧ mI M' 13 L 12 = -2 ∧ mI M' 13 L 13 = 0 ∧ mI M' 13 L 16 = 0 ∧ mI M' 13 L 22 = 0) → Q M') : w_Model_beginRun_L46 0 Q (nn + 1) L 0 M := by
  have main : ∀ d j M1, nn - j < d → j ≤ nn → Fr (1496577676626844588240573268701473812127674924007424) M M1 → (∀ g i k, tnF g = true → i ≠ L → mI M1 g i k = mI M g i k) → (∀ k, k < j → mI M1 170 L k = mI M 113 0 k) → (∀ k, mI M1 13 L k = mI M 13 L k) → w_Model_beginRun_L46 0 Q d L (Int32.ofNat j) M1 := by
    intro d
    induction d with
    | zero => intro j M1 h; omega
    | succ d ih =>
      intro j M1 hd' hj hf hO hr h13
      unfold w_Model_beginRun_L46
      refine ⟨i, (hf.R (f := 11) (k := 31) rfl 0).trans hC, ?_⟩
      rw [hf.I (f := 11) (k := 90) rfl, h90, oN_tnc (k := q) (by omega), hf.L (f := 300) rfl, hf.Ia (f := 300) rfl rfl, hcn]
      refine ⟨(vp_oN (by omega)).mpr hq, ?_⟩
      by_cases c : nn ≤ j
      · refine itp (le_oN c (by omega)) ⟨_, rfl, _, rfl, hQ _ ?_ ?_ ?_ ?_ ?_⟩
        · exact Fr.wI rfl (Fr.wI rfl (Fr.wI rfl (Fr.wI rfl (Fr.wI rfl (Fr.wI rfl (hf.sub rfl))))))
        · intro g i' k hg hi
          simp only [mI_sI]
          rw [if_neg (fun z => hi z.2.1), if_neg (fun z => hi z.2.1), if_neg (fun z => hi z.2.1), if_neg (fun z => hi z.2.1), if_neg (fun z => hi z.2.1), if_neg (fun z => hi z.2.1)]
          exact hO g i' k hg hi
        · intro k hk
          simp only [mI_sI]
          rw [if_neg (fun z => absurd z.1 (by decide)), if_neg (fun z => absurd z.1 (by decide)), if_neg (fun z => absurd z.1 (by decide)), if_neg (fun z => absurd z.1 (by decide)), if_neg (fun z => absurd z.1 (by decide)), if_neg (fun z => absurd z.1 (by decide))]
          exact hr k (by omega)
        · intro k h1 h2 h3 h4 h5 h6
          simp only [mI_sI]
          rw [if_neg (fun z => h6 z.2.2), if_neg (fun z => h5 z.2.2), if_neg (fun z => h4 z.2.2), if_neg (fun z => h3 z.2.2), if_neg (fun z => h2 z.2.2), if_neg (fun z => h1 z.2.2)]
          exact h13 k
        · refine ⟨?_, ?_, ?_, ?_, ?_, ?_⟩ <;> simp only [mI_sI, mI_sR, mI_sJ, mR_sI, mL_sI, mL_sR, mR_sR, Nat.reduceEqDiff, and_false, false_and, if_false, and_self, true_and, and_true, if_true]
      · refine itn (nle_oN (by omega) (by omega)) ⟨by rw [hf.L (f := 113) rfl, h113]; exact (vp_oN (by omega)).mpr (by omega), by rw [hf.L (f := 170) rfl, h170]; exact (vp_oN (by omega)).mpr (by omega), ?_⟩
        rw [oN_tnc (k := j) (by omega), lit32 1, oN_add]
        refine ih (j + 1) _ (by omega) (by omega) (Fr.wIa rfl rfl hf) (fun g i' k hg hi => ?_) (fun k hk => ?_) (fun k => by rw [mI_sI, if_neg (fun z => absurd z.1 (by decide))]; exact h13 k)
        · rw [mI_sI, if_neg (fun z => hi z.2.1)]; exact hO g i' k hg hi
        · rw [mI_sI]
          by_cases ck : k = j
          · rw [if_pos ⟨rfl, rfl, ck⟩, ck]; exact hf.Ia (f := 113) rfl rfl 0 j
          · rw [if_neg (fun z => ck z.2.2)]; exact hr k (by omega)
  exact main (nn + 1) 0 M (by omega) (Nat.zero_le _) (Fr.rf _ _) (fun _ _ _ _ _ => rfl) (fun k hk => absurd hk (Nat.not_lt_zero k)) (fun _ => rfl)
theorem ct_beginRun (hx : Gx G w) (hTG : TG G M) (hV : TV US A S M) (hP : PcT y A S M) (h113 : mL M 113 0 = 6) (hlen : mL M 170 L = 6 ∧ mL M 171 L = 99 ∧ mL M 172 L = 99 ∧ mL M 173 L = 40 ∧ mL M 174 L = 40 ∧ mL M 175 L = 40 ∧ mL M 176 L = 1760 ∧ mL M 525 L = 1760) (hL : L = 3 * w + t) (hkd : kdOk y.2.2.1) {Q : Mem → Prop}
    (hQ : ∀ M', Fr SBr M M' → (∀ g i k, tnF g = true → i ≠ 3 * w + t → mI M' g i k = mI M g i k) → (∀ vals, gvOk y vals → uN A S w t (newL y vals) M') → Q M') : w_Model_beginRun 0 L Q M := by
  obtain ⟨⟨p1, p2, p3, p4⟩, ⟨q1, q2, q3⟩, p5, p6⟩ := hP
  have hS := hV.1.2
  have hix : S.idxOf (sg A (kNs y.2.2.2.length) y.2.2.1) < S.length := List.idxOf_lt_length_iff.mpr p5
  have hgs : (gs1 S (S.idxOf (sg A (kNs y.2.2.2.length) y.2.2.1))).1.length = y.2.2.2.length := by
    have : gs1 S (S.idxOf (sg A (kNs y.2.2.2.length) y.2.2.1)) = sg A (kNs y.2.2.2.length) y.2.2.1 := by
      show S.getD _ _ = _
      rw [List.getD_eq_getElem?_getD, List.getElem?_eq_getElem hix, List.getElem_idxOf]; rfl
    rw [this]; simp [sg]
  have hl1 : S.length ≤ rl M sC := hS.2.1.2.1
  have hl2 := hS.2.1.2.2.2.2.2.2.1
  have hl3 : S.length ≤ 100000 := hS.1.2.2.1
  have erl : rl M sC = mL M 300 (rdI M sC) := rfl
  have hcn : mI M 300 (rdI M sC) (S.idxOf (sg A (kNs y.2.2.2.length) y.2.2.1)) = Int32.ofNat y.2.2.2.length := by
    have := (hS.2.2.2.1 _ hix).1.2.1
    rw [hgs] at this; exact this
  unfold w_Model_beginRun
  refine ⟨Or.inl rfl, _, rfl, _, rfl, _, rfl, y.2.2.2.length + 1, ?_⟩
  obtain ⟨M4, hM4⟩ : ∃ M4, M4 = sI (sI (sI (sI (sI (sI (sI M 13 L 0 1) 13 L 1 0) 13 L 3 0) 13 L 4 0) 13 L 5 (nc A y.1)) 13 L 6 (nc A y.2.1)) 13 L 7 (Int32.ofNat (S.idxOf (sg A (kNs y.2.2.2.length) y.2.2.1))) := ⟨_, rfl⟩
  have e1 : ∀ (M1 : Mem) v, mI (sI (sI (sI M 13 L 0 1) 13 L 1 0) 13 L 3 v) 11 0 88 = mI M 11 0 88 := fun _ _ => rfl
  have key : sI (sI (sI (sI (sI (sI (sI M 13 L 0 1) 13 L 1 0) 13 L 3 0) 13 L 4 0) 13 L 5 (mI M 11 0 88)) 13 L 6 (mI M 11 0 89)) 13 L 7 (mI M 11 0 90) = M4 := by rw [hM4, q1, q2, q3]
  show w_Model_beginRun_L46 0 Q _ L 0 (sI (sI (sI (sI (sI (sI (sI M 13 L 0 1) 13 L 1 0) 13 L 3 0) 13 L 4 0) 13 L 5 (mI M 11 0 88)) 13 L 6 (mI M 11 0 89)) 13 L 7 (mI M 11 0 90))
  rw [key]
  have hf : Fr SBr M M4 := by rw [hM4]; exact Fr.wI rfl (Fr.wI rfl (Fr.wI rfl (Fr.wI rfl (Fr.wI rfl (Fr.wI rfl (Fr.wI rfl (Fr.rf _ _)))))))
  have hO : ∀ g i k, tnF g = true → i ≠ L → mI M4 g i k = mI M g i k := fun g i k _ hi => by
    rw [hM4]
    simp only [mI_sI]
    rw [if_neg (fun z => hi z.2.1), if_neg (fun z => hi z.2.1), if_neg (fun z => hi z.2.1), if_neg (fun z => hi z.2.1), if_neg (fun z => hi z.2.1), if_neg (fun z => hi z.2.1), if_neg (fun z => hi z.2.1)]
  have f0 : mI M4 13 L 0 = 1 := by rw [hM4]; simp only [mI_sI, mI_sR, mI_sJ, mR_sI, mL_sI, mL_sR, mR_sR, Nat.reduceEqDiff, and_false, false_and, if_false, and_self, true_and, and_true, if_true]
  have f1 : mI M4 13 L 1 = 0 := by rw [hM4]; simp only [mI_sI, mI_sR, mI_sJ, mR_sI, mL_sI, mL_sR, mR_sR, Nat.reduceEqDiff, and_false, false_and, if_false, and_self, true_and, and_true, if_true]
  have f3 : mI M4 13 L 3 = 0 := by rw [hM4]; simp only [mI_sI, mI_sR, mI_sJ, mR_sI, mL_sI, mL_sR, mR_sR, Nat.reduceEqDiff, and_false, false_and, if_false, and_self, true_and, and_true, if_true]
  have f4 : mI M4 13 L 4 = 0 := by rw [hM4]; simp only [mI_sI, mI_sR, mI_sJ, mR_sI, mL_sI, mL_sR, mR_sR, Nat.reduceEqDiff, and_false, false_and, if_false, and_self, true_and, and_true, if_true]
  have f5 : mI M4 13 L 5 = nc A y.1 := by rw [hM4]; simp only [mI_sI, mI_sR, mI_sJ, mR_sI, mL_sI, mL_sR, mR_sR, Nat.reduceEqDiff, and_false, false_and, if_false, and_self, true_and, and_true, if_true]
  have f6 : mI M4 13 L 6 = nc A y.2.1 := by rw [hM4]; simp only [mI_sI, mI_sR, mI_sJ, mR_sI, mL_sI, mL_sR, mR_sR, Nat.reduceEqDiff, and_false, false_and, if_false, and_self, true_and, and_true, if_true]
  have f7 : mI M4 13 L 7 = Int32.ofNat (S.idxOf (sg A (kNs y.2.2.2.length) y.2.2.1)) := by rw [hM4]; simp only [mI_sI, mI_sR, mI_sJ, mR_sI, mL_sI, mL_sR, mR_sR, Nat.reduceEqDiff, and_false, false_and, if_false, and_self, true_and, and_true, if_true]
  clear hM4 key
  have lr : ∀ i, mL M4 300 i = mL M 300 i := fun i => hf.L (f := 300) rfl i
  refine ct_beginL (nn := y.2.2.2.length) (q := S.idxOf (sg A (kNs y.2.2.2.length) y.2.2.1)) (i := rdI M sC) ((hf.R (f := 11) (k := 31) rfl 0).trans (hTG sC hx.2.1.2.1).1.1) ((hf.I (f := 11) (k := 90) rfl 0).trans q3) (by rw [lr]; omega) (by rw [lr]; omega) ((hf.Ia (f := 300) rfl rfl _ _).trans hcn) p4 ((hf.L (f := 113) rfl 0).trans h113) ((hf.L (f := 170) rfl L).trans hlen.1) (fun M5 g1 g2 g3 g4 g5 => ?_)
  have hL5 : mL M5 170 L = 6 ∧ mL M5 171 L = 99 ∧ mL M5 172 L = 99 ∧ mL M5 173 L = 40 ∧ mL M5 174 L = 40 ∧ mL M5 175 L = 40 ∧ mL M5 176 L = 1760 ∧ mL M5 525 L = 1760 := by
    have hh := hf.trans g1
    exact ⟨(hh.L (f := 170) rfl L).trans hlen.1, (hh.L (f := 171) rfl L).trans hlen.2.1, (hh.L (f := 172) rfl L).trans hlen.2.2.1, (hh.L (f := 173) rfl L).trans hlen.2.2.2.1, (hh.L (f := 174) rfl L).trans hlen.2.2.2.2.1, (hh.L (f := 175) rfl L).trans hlen.2.2.2.2.2.1, (hh.L (f := 176) rfl L).trans hlen.2.2.2.2.2.2.1, (hh.L (f := 525) rfl L).trans hlen.2.2.2.2.2.2.2⟩
  have k0 := (g4 0 (by decide) (by decide) (by decide) (by decide) (by decide) (by decide)).trans f0
  have k1 := (g4 1 (by decide) (by decide) (by decide) (by decide) (by decide) (by decide)).trans f1
  refine hQ M5 (hf.trans g1) (fun g i k hg hi => (g2 g i k hg (by omega)).trans (hO g i k hg (by omega))) (fun vals hv => ?_)
  have hU : uL A S L (newL y vals) M5 := by
    refine ⟨hL5, ⟨k0, (g4 3 (by decide) (by decide) (by decide) (by decide) (by decide) (by decide)).trans f3⟩, ⟨g5.1, g5.2.1, g5.2.2.1, g5.2.2.2.1⟩, k1, fun _ => ⟨rfl, ⟨(g4 5 (by decide) (by decide) (by decide) (by decide) (by decide) (by decide)).trans f5, p1⟩, (g4 6 (by decide) (by decide) (by decide) (by decide) (by decide) (by decide)).trans f6, (g4 7 (by decide) (by decide) (by decide) (by decide) (by decide) (by decide)).trans f7, ⟨p2, p5, fun κ hκ => ⟨kNs_ok κ hκ, by rw [List.eq_of_mem_replicate hκ]; exact Or.inl rfl⟩, p3, hkd⟩, fun i hi => ?_⟩⟩
    have hi : i < (kNs y.2.2.2.length).length := hi
    rw [List.length_replicate] at hi
    rw [g3 i hi, hf.Ia (f := 113) rfl rfl, p6 i hi]
    exact (hv i hi).symm
  subst hL
  exact ⟨hU.wk, fun _ => ⟨hU, ⟨g5.2.2.2.2.1, g5.2.2.2.2.2, trivial⟩, fun _ => Or.inl ((g4 4 (by decide) (by decide) (by decide) (by decide) (by decide) (by decide)).trans f4)⟩⟩
end
