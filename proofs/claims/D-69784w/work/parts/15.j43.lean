/-! THE OPERATION least, in the works: a trial is removed -/
section
variable {BB A : List Nm} {B F t b k e v2 : Nat} {T : List Trl} {L : Trl} {M M' M0 : Mem} {Q : Int32 → Mem → Prop} {Q' X : Mem → Prop} {a c d v : Int32} {K : Nat → Int32 → Mem → Prop}
abbrev SRm : Nat := (10520271803096747014481979765760257331100679605646347719211086733016545862187346044198626610594846755583444231755933418525587088981544359355085618311974216542950957073240666010043391859148340953086977506799517696)
/-- trials from t on have been moved, up to k; what is remembered, up to e -/
def RmI (M0 : Mem) (t k e : Nat) (M : Mem) : Prop := Fr SRm M0 M ∧ ((∀ j, mR M 701 0 j = if t ≤ j ∧ j < k then mR M0 701 0 (j + 1) else mR M0 701 0 j) ∧ ∀ j, mI M 98 0 j = if t ≤ j ∧ j < k then mI M0 98 0 (j + 1) else mI M0 98 0 j) ∧ (∀ q, mI M 516 0 q = if 9 * t ≤ q ∧ q < e then (mI M0 516 0 (q + 9) &&& 1) else mI M0 516 0 q) ∧ (∀ q, mI M 99 0 q = if 9 * t ≤ q ∧ q < e then mI M0 99 0 (q + 9) else mI M0 99 0 q) ∧ ∀ q, mI M 100 0 q = if 9 * t ≤ q ∧ q < e then mI M0 100 0 (q + 9) else mI M0 100 0 q
theorem c_rm58 (hl : mL M0 516 0 = 360 ∧ mL M0 99 0 = 360 ∧ mL M0 100 0 = 360) (htk : t ≤ k) (hk : k < 39) : ∀ n i M, 9 - i < n → i ≤ 9 → RmI M0 t (k + 1) (9 * k + i) M → (∀ M', RmI M0 t (k + 1) (9 * (k + 1)) M' → K v2 (Int32.ofNat (k + 1)) M') → w_Works_remove_L58 0 Q' K n v2 (Int32.ofNat k) (Int32.ofNat i) M := by
  intro n
  induction n with
  | zero => intro i M z; exact absurd z (by omega)
  | succ n ih =>
    intro i M hn hi h hK
    unfold w_Works_remove_L58
    by_cases e9 : i = 9
    · subst e9
      refine itp (by decide) ?_
      rw [lit32 1, oN_add]
      exact hK M h
    refine itn (nle_oN (a := 9) (by omega) (by omega)) ?_
    obtain ⟨hf, hB, h516, h99, h100⟩ := h
    rw [lit32 9, oN_mul, oN_add, oN_add, oN_add, oN_tnc (k := 9 * k + 9 + i) (by omega), oN_tnc (k := 9 * k + i) (by omega), show Int32.ofNat i + (1 : Int32) = Int32.ofNat (i + 1) from oN_add i 1]
    have l516 : mL M 516 0 = 360 := (hf.L (f := 516) rfl 0).trans hl.1
    have l99 : mL M 99 0 = 360 := (hf.L (f := 99) rfl 0).trans hl.2.1
    have l100 : mL M 100 0 = 360 := (hf.L (f := 100) rfl 0).trans hl.2.2
    have vp1 : vp_in (Int32.ofNat (9 * k + 9 + i)) 360 := (vp_oN (by omega)).mpr (by omega)
    have vp0 : vp_in (Int32.ofNat (9 * k + i)) 360 := (vp_oN (by omega)).mpr (by omega)
    have e1 : mI M 516 0 (9 * k + 9 + i) = mI M0 516 0 (9 * k + i + 9) := by rw [h516, if_neg (by omega), show 9 * k + 9 + i = 9 * k + i + 9 by omega]
    have e2 : mI M 99 0 (9 * k + 9 + i) = mI M0 99 0 (9 * k + i + 9) := by rw [h99, if_neg (by omega), show 9 * k + 9 + i = 9 * k + i + 9 by omega]
    have e3 : mI M 100 0 (9 * k + 9 + i) = mI M0 100 0 (9 * k + i + 9) := by rw [h100, if_neg (by omega), show 9 * k + 9 + i = 9 * k + i + 9 by omega]
    refine ⟨by rw [l516]; exact vp1, by rw [l516]; exact vp0, _, rfl, show vp_in _ (mL M 99 0) from by rw [l99]; exact vp1, show vp_in _ (mL M 99 0) from by rw [l99]; exact vp0, _, rfl, show vp_in _ (mL M 100 0) from by rw [l100]; exact vp1, show vp_in _ (mL M 100 0) from by rw [l100]; exact vp0, _, rfl, ?_⟩
    rw [e1, show mI (sI M 516 0 (9 * k + i) (mI M0 516 0 (9 * k + i + 9) &&& 1)) 99 0 (9 * k + 9 + i) = mI M0 99 0 (9 * k + i + 9) from by rw [mI_sI, if_neg (fun z => absurd z.1 (by decide))]; exact e2, show mI (sI (sI M 516 0 (9 * k + i) (mI M0 516 0 (9 * k + i + 9) &&& 1)) 99 0 (9 * k + i) (mI M0 99 0 (9 * k + i + 9))) 100 0 (9 * k + 9 + i) = mI M0 100 0 (9 * k + i + 9) from by rw [mI_sI, if_neg (fun z => absurd z.1 (by decide)), mI_sI, if_neg (fun z => absurd z.1 (by decide))]; exact e3]
    refine ih (i + 1) _ (by omega) (by omega) ⟨Fr.wIa rfl rfl (Fr.wIa rfl rfl (Fr.wIa rfl rfl hf)), ⟨hB.1, fun j => ?_⟩, fun q => ?_, fun q => ?_, fun q => ?_⟩ hK
    · rw [mI_sI, if_neg (fun z => absurd z.1 (by decide)), mI_sI, if_neg (fun z => absurd z.1 (by decide)), mI_sI, if_neg (fun z => absurd z.1 (by decide))]; exact hB.2 j
    · rw [mI_sI, if_neg (fun z => absurd z.1 (by decide)), mI_sI, if_neg (fun z => absurd z.1 (by decide)), mI_sI]
      by_cases eq : q = 9 * k + i
      · rw [if_pos ⟨rfl, rfl, eq⟩, if_pos (by omega), eq]
      · rw [if_neg (fun z => eq z.2.2), h516]
        by_cases c1 : 9 * t ≤ q ∧ q < 9 * k + i
        · rw [if_pos c1, if_pos (by omega)]
        · rw [if_neg c1, if_neg (by omega)]
    · rw [mI_sI, if_neg (fun z => absurd z.1 (by decide)), mI_sI]
      by_cases eq : q = 9 * k + i
      · rw [if_pos ⟨rfl, rfl, eq⟩, if_pos (by omega), eq]
      · rw [if_neg (fun z => eq z.2.2), mI_sI, if_neg (fun z => absurd z.1 (by decide)), h99]
        by_cases c1 : 9 * t ≤ q ∧ q < 9 * k + i
        · rw [if_pos c1, if_pos (by omega)]
        · rw [if_neg c1, if_neg (by omega)]
    · rw [mI_sI]
      by_cases eq : q = 9 * k + i
      · rw [if_pos ⟨rfl, rfl, eq⟩, if_pos (by omega), eq]
      · rw [if_neg (fun z => eq z.2.2), mI_sI, if_neg (fun z => absurd z.1 (by decide)), mI_sI, if_neg (fun z => absurd z.1 (by decide)), h100]
        by_cases c1 : 9 * t ≤ q ∧ q < 9 * k + i
        · rw [if_pos c1, if_pos (by omega)]
        · rw [if_neg c1, if_neg (by omega)]
theorem gTr_er {j : Nat} : gTr (T.eraseIdx t) j = if j < t then gTr T j else gTr T (j + 1) := by
  show (T.eraseIdx t).getD j [] = if j < t then T.getD j [] else T.getD (j + 1) []
  rw [List.getD_eq_getElem?_getD, List.getElem?_eraseIdx, List.getD_eq_getElem?_getD, List.getD_eq_getElem?_getD]
  split <;> rfl
theorem c_remove (h : WkT BB A B F T M) (ht : t < T.length) (hQ : ∀ M', WkT BB A B F (T.eraseIdx t) M' → Q' M') : w_Works_remove 0 (Int32.ofNat t) Q' M := by
  have hn := h.n
  obtain ⟨hW, ⟨hX, hKn⟩, hT⟩ := h
  obtain ⟨-, ⟨l701, l98⟩, π, hr, hi, hx⟩ := hX
  unfold w_Works_remove
  rw [oN_tnc (k := t) (by omega), hn.1, lit32 1, oN_sub (by omega)]
  refine ⟨by rw [l701]; exact (vp_oN (by omega)).mpr (by omega), π t, (hr t (by omega)).1, T.length + 1, ?_⟩
  have f0 : Fr (1259757488292983989177916224795394574992091029234517724944504861859900211829425099545968709466719702612407960836149048226317193401239794507351124461634916691184598374764385297830935879794033322928767721717511045546428905795270323213735004935381698945836335778622118852428281332174567941431002025989475069858430671537644461418431296620274299292009210651549532649352858726730147125231092084534200873454067619597807716612035306173575213474676464388373721694691101331404274369036002356799457723167485393739547451867321033833557874495676772931095285960495803005138444129804370485258557491461940827494037430273160955365602012174011815841323805761290069889127786736828666978990123172577924517459458428157960632777917278308976968274348024019622141264611453018637971132321454448854182557358736518079484930222592691713407717374736389967441203940611558287986944138416014515096657829162508697368445110803474667509121024) M (sI M 10 0 10 (Int32.ofNat (T.length - 1))) := Fr.wI rfl (Fr.rf _ _)
  have e10 : mI (sI M 10 0 10 (Int32.ofNat (T.length - 1))) 10 0 10 = Int32.ofNat (T.length - 1) := by rw [mI_sI, if_pos ⟨rfl, rfl, rfl⟩]
  generalize sI M 10 0 10 (Int32.ofNat (T.length - 1)) = M0 at f0 e10 ⊢
  have hr0 : ∀ t, t < 40 → mR M0 701 0 t = some (400, π t) := fun t ht => (f0.Ra (f := 701) rfl rfl 0 t).trans (hr t ht).1
  have hl : mL M0 516 0 = 360 ∧ mL M0 99 0 = 360 ∧ mL M0 100 0 = 360 := ⟨(f0.L (f := 516) rfl 0).trans hKn.1.1, (f0.L (f := 99) rfl 0).trans hKn.1.2.1, (f0.L (f := 100) rfl 0).trans hKn.1.2.2⟩
  have loop : ∀ n k M1, T.length - 1 - k < n → t ≤ k → k ≤ T.length - 1 → RmI M0 t k (9 * k) M1 → w_Works_remove_L19 0 Q' n (π t) (Int32.ofNat k) M1 := by
    intro n
    induction n with
    | zero => intro k M1 z; exact absurd z (by omega)
    | succ n ih =>
      intro k M1 hn1 htk hk hI
      have l701' : mL M1 701 0 = 40 := ((hI.1.L (f := 701) rfl 0).trans (f0.L (f := 701) rfl 0)).trans l701
      have l98' : mL M1 98 0 = 40 := ((hI.1.L (f := 98) rfl 0).trans (f0.L (f := 98) rfl 0)).trans l98
      have e10' : mI M1 10 0 10 = Int32.ofNat (T.length - 1) := (hI.1.I (f := 10) (k := 10) rfl 0).trans e10
      unfold w_Works_remove_L19
      rw [e10', oN_tnc (k := T.length - 1) (by omega)]
      by_cases ek : k = T.length - 1
      · subst ek
        refine itp (le_oN (Nat.le_refl _) (by omega)) ⟨by rw [l701']; exact (vp_oN (by omega)).mpr (by omega), _, rfl, ?_⟩
        obtain ⟨hf, ⟨h701, h98⟩, h516, h99, h100⟩ := hI
        have f2 : Fr (1259757488292983989177916224795394574992091029234517724944504861859900211829425099545968709466719702612407960836149048226317193401239794507351124461634916691184598374764385297830935879794033322928767721717511045546428905795270323213735004935381698945836335778622118852428281332174567941431002025989475069858430671537644461418431296620274299292009210651549532649352858726730147125231092084534200873454067619597807716612035306173575213474676464388373721694691101331404274369036002356799457723167485393739547451867321033833557874495676772931095285960495803005138444129804370485258557491461940827494037430273160955365602012174011815841323805761290069889127786736828666978990123172577924517459458428168480904581014025323458948040108281350722820870257800737849057865338000311041528601557363128674331685806036923469341135900323478948985563295697176599961160681366971588337323839205900556516786063890452174308638720) M (sR M1 701 0 (T.length - 1) (some (400, π t))) := Fr.wRa rfl rfl ((f0.sub rfl).trans (hf.sub rfl))
        have hlen : (T.eraseIdx t).length = T.length - 1 := by rw [List.length_eraseIdx, if_pos ht]
        refine hQ _ ⟨hW.fr f2, ⟨⟨⟨?_, ?_⟩, ⟨(f2.L (f := 701) rfl 0).trans l701, (f2.L (f := 98) rfl 0).trans l98⟩, fun j => if j < t then π j else if j < T.length - 1 then π (j + 1) else if j = T.length - 1 then π t else π j, fun j hj => ⟨?_, ?_, ?_⟩, fun j j' hj hj' e => ?_, fun j hj => ?_⟩, ⟨?_, ?_, ?_⟩, fun j i hj hi' h3 => ?_⟩, fun L hL => hT L (List.mem_of_mem_eraseIdx hL)⟩
        · rw [List.length_map, hlen]; exact e10'
        · rw [List.length_map, hlen]; omega
        · rw [mR_sR]
          by_cases c3 : j = T.length - 1
          · rw [if_pos ⟨rfl, rfl, c3⟩]
            dsimp only
            rw [if_neg (by omega), if_neg (by omega), if_pos c3]
          · rw [if_neg (fun z => c3 z.2.2), h701]
            dsimp only
            by_cases c1 : j < t
            · rw [if_neg (by omega), if_pos c1]; exact hr0 j hj
            · rw [if_neg c1]
              by_cases c2 : j < T.length - 1
              · rw [if_pos ⟨by omega, c2⟩, if_pos c2]; exact hr0 (j + 1) (by omega)
              · rw [if_neg (by omega), if_neg c2, if_neg c3]; exact hr0 j hj
        · rw [f2.L (f := 400) rfl]
          dsimp only
          split
          · exact (hr j hj).2.1
          split
          · exact (hr (j + 1) (by omega)).2.1
          split
          · exact (hr t (by omega)).2.1
          · exact (hr j hj).2.1
        · dsimp only
          split
          · exact (hr j hj).2.2
          split
          · exact (hr (j + 1) (by omega)).2.2
          split
          · exact (hr t (by omega)).2.2
          · exact (hr j hj).2.2
        · dsimp only at e
          have hσ : ∀ j, j < 40 → ∃ m, m < 40 ∧ (if j < t then π j else if j < T.length - 1 then π (j + 1) else if j = T.length - 1 then π t else π j) = π m ∧ m = (if j < t then j else if j < T.length - 1 then j + 1 else if j = T.length - 1 then t else j) := fun j hj => by
            by_cases c1 : j < t
            · exact ⟨j, hj, by rw [if_pos c1], by rw [if_pos c1]⟩
            by_cases c2 : j < T.length - 1
            · exact ⟨j + 1, by omega, by rw [if_neg c1, if_pos c2], by rw [if_neg c1, if_pos c2]⟩
            by_cases c3 : j = T.length - 1
            · exact ⟨t, by omega, by rw [if_neg c1, if_neg c2, if_pos c3], by rw [if_neg c1, if_neg c2, if_pos c3]⟩
            · exact ⟨j, hj, by rw [if_neg c1, if_neg c2, if_neg c3], by rw [if_neg c1, if_neg c2, if_neg c3]⟩
          obtain ⟨m, hm, e1, e2⟩ := hσ j hj
          obtain ⟨m', hm', e1', e2'⟩ := hσ j' hj'
          rw [e1, e1'] at e
          have := hi m m' hm hm' e
          rw [e2, e2'] at this
          repeat' split at this
          all_goals omega
        · rw [List.length_map, hlen] at hj
          have hj' : j < (T.eraseIdx t).length := by rw [hlen]; exact hj
          rw [gTr_map hj', gTr_er]
          rw [show mI (sR M1 701 0 (T.length - 1) (some (400, π t))) 98 0 j = mI M1 98 0 j from rfl, h98]
          dsimp only
          by_cases c1 : j < t
          · rw [if_neg (by omega), if_pos c1, if_pos c1]
            have := hx j (by rw [List.length_map]; omega)
            rw [gTr_map (by omega)] at this
            exact ⟨⟨(f0.Ia (f := 98) rfl rfl 0 j).trans this.1.1, this.1.2⟩, fun i hi2 => (f2.Ia (f := 400) rfl rfl _ i).trans (this.2 i hi2)⟩
          · rw [if_pos ⟨by omega, hj⟩, if_neg c1, if_neg c1, if_pos hj]
            have := hx (j + 1) (by rw [List.length_map]; omega)
            rw [gTr_map (by omega)] at this
            exact ⟨⟨(f0.Ia (f := 98) rfl rfl 0 (j + 1)).trans this.1.1, this.1.2⟩, fun i hi2 => (f2.Ia (f := 400) rfl rfl _ i).trans (this.2 i hi2)⟩
        · exact (f2.L (f := 516) rfl 0).trans hKn.1.1
        · exact (f2.L (f := 99) rfl 0).trans hKn.1.2.1
        · exact (f2.L (f := 100) rfl 0).trans hKn.1.2.2
        · rw [hlen] at hj
          rw [show mI (sR M1 701 0 (T.length - 1) (some (400, π t))) 516 0 (9 * j + i) = mI M1 516 0 (9 * j + i) from rfl, h516] at h3
          rw [show mI (sR M1 701 0 (T.length - 1) (some (400, π t))) 99 0 (9 * j + i) = mI M1 99 0 (9 * j + i) from rfl, h99, show mI (sR M1 701 0 (T.length - 1) (some (400, π t))) 100 0 (9 * j + i) = mI M1 100 0 (9 * j + i) from rfl, h100, gTr_er]
          by_cases c1 : j < t
          · rw [if_neg (by omega)] at h3
            rw [if_neg (show ¬ (9 * t ≤ 9 * j + i ∧ 9 * j + i < 9 * (T.length - 1)) by omega), if_neg (show ¬ (9 * t ≤ 9 * j + i ∧ 9 * j + i < 9 * (T.length - 1)) by omega), if_pos c1, f0.Ia (f := 99) rfl rfl, f0.Ia (f := 100) rfl rfl]
            rw [f0.Ia (f := 516) rfl rfl] at h3
            exact hKn.2 j i (by omega) hi' h3
          · rw [if_pos (by omega)] at h3
            rw [if_pos (show 9 * t ≤ 9 * j + i ∧ 9 * j + i < 9 * (T.length - 1) by omega), if_pos (show 9 * t ≤ 9 * j + i ∧ 9 * j + i < 9 * (T.length - 1) by omega), if_neg c1, f0.Ia (f := 99) rfl rfl, f0.Ia (f := 100) rfl rfl]
            rw [f0.Ia (f := 516) rfl rfl] at h3
            have := hKn.2 (j + 1) i (by omega) hi' (fun z => h3 (by rw [show 9 * j + i + 9 = 9 * (j + 1) + i by omega, z]; rfl))
            rw [show 9 * j + i + 9 = 9 * (j + 1) + i by omega]
            exact this
      refine itn (nle_oN (by omega) (by omega)) ?_
      rw [lit32 1, oN_add, oN_tnc (k := k + 1) (by omega), oN_tnc (k := k) (by omega)]
      obtain ⟨hf, ⟨h701, h98⟩, h516, h99, h100⟩ := hI
      have r1 : mR M1 701 0 (k + 1) = mR M0 701 0 (k + 1) := by rw [h701, if_neg (by omega)]
      have r2 : mI M1 98 0 (k + 1) = mI M0 98 0 (k + 1) := by rw [h98, if_neg (by omega)]
      refine ⟨by rw [l701']; exact (vp_oN (by omega)).mpr (by omega), π (k + 1), r1.trans (hr0 (k + 1) (by omega)), by rw [l701']; exact (vp_oN (by omega)).mpr (by omega), _, rfl, show vp_in _ (mL M1 98 0) from by rw [l98']; exact (vp_oN (by omega)).mpr (by omega), show vp_in _ (mL M1 98 0) from by rw [l98']; exact (vp_oN (by omega)).mpr (by omega), _, rfl, 10, ?_⟩
      rw [show mI (sR M1 701 0 k (some (400, π (k + 1)))) 98 0 (k + 1) = mI M0 98 0 (k + 1) from r2]
      refine c_rm58 hl htk (by omega) 10 0 _ (by omega) (by omega) ⟨Fr.wIa rfl rfl (Fr.wRa rfl rfl hf), ⟨fun j => ?_, fun j => ?_⟩, fun q => ?_, fun q => ?_, fun q => ?_⟩ (fun M2 h2 => ih (k + 1) M2 (by omega) (by omega) (by omega) h2)
      · rw [show mR (sI (sR M1 701 0 k (some (400, π (k + 1)))) 98 0 k (mI M0 98 0 (k + 1))) 701 0 j = mR (sR M1 701 0 k (some (400, π (k + 1)))) 701 0 j from rfl, mR_sR]
        by_cases e : j = k
        · rw [if_pos ⟨rfl, rfl, e⟩, if_pos (by omega), e]; exact (hr0 (k + 1) (by omega)).symm
        · rw [if_neg (fun z => e z.2.2), h701]
          by_cases c1 : t ≤ j ∧ j < k
          · rw [if_pos c1, if_pos (by omega)]
          · rw [if_neg c1, if_neg (by omega)]
      · rw [mI_sI]
        by_cases e : j = k
        · rw [if_pos ⟨rfl, rfl, e⟩, if_pos (by omega), e]
        · rw [if_neg (fun z => e z.2.2), show mI (sR M1 701 0 k (some (400, π (k + 1)))) 98 0 j = mI M1 98 0 j from rfl, h98]
          by_cases c1 : t ≤ j ∧ j < k
          · rw [if_pos c1, if_pos (by omega)]
          · rw [if_neg c1, if_neg (by omega)]
      · rw [mI_sI, if_neg (fun z => absurd z.1 (by decide)), Nat.add_zero]; exact h516 q
      · rw [mI_sI, if_neg (fun z => absurd z.1 (by decide)), Nat.add_zero]; exact h99 q
      · rw [mI_sI, if_neg (fun z => absurd z.1 (by decide)), Nat.add_zero]; exact h100 q
  refine loop (T.length + 1) t M0 (by omega) (Nat.le_refl _) (by omega) ⟨Fr.rf _ _, ⟨fun j => by rw [if_neg (by omega)], fun j => by rw [if_neg (by omega)]⟩, fun q => by rw [if_neg (by omega)], fun q => by rw [if_neg (by omega)], fun q => by rw [if_neg (by omega)]⟩
theorem c_wleast (h : WkT BB A B F T M) (hF : F < 1000000) (hCF : 601 < F) (hQ : ∀ A' M', A <+: A' → WkT BB A' B F (leaF T.length T) M' → Q (Int32.ofNat (leaF T.length T).length) M') : w_Works_least 0 Q X M := by
  have loop : ∀ n k T1 A1 M1, k < n → k ≤ T1.length → A <+: A1 → WkT BB A1 B F T1 M1 → leaF k T1 = leaF T.length T → ∀ v, v + 1 = Int32.ofNat k → w_Works_least_L7 0 Q X n v M1 := by
    intro n
    induction n with
    | zero => intro k T1 A1 M1 z; exact absurd z (by omega)
    | succ n ih =>
      intro k T1 A1 M1 hn hk p1 p2 e v ev
      have h40 := p2.n
      have ev2 : v = Int32.ofNat k - 1 := by rw [← ev, Int32.add_sub_cancel]
      unfold w_Works_least_L7
      cases k with
      | zero =>
        refine itp (by rw [ev2]; decide) ?_
        have e : T1 = leaF T.length T := e
        rw [h40.1, e]
        rw [e] at p2
        exact hQ A1 M1 p1 p2
      | succ k =>
        rw [show Int32.ofNat (k + 1) - 1 = Int32.ofNat k from by rw [← oN_add]; exact Int32.add_sub_cancel _ _] at ev2
        subst ev2
        refine itn (nlt_oN (b := 0) (Nat.zero_le _) (by omega)) (c_isNeedless p2 (by omega) hF hCF (fun A2 M2 p3 p4 => ?_))
        have j24 : ∀ T2 A3 M3, k ≤ T2.length → A <+: A3 → WkT BB A3 B F T2 M3 → leaF k T2 = leaF T.length T → w_Works_least_j24 0 Q X (w_Works_least_L7 0 Q X n) (Int32.ofNat k) M3 := fun T2 A3 M3 g0 g1 g2 g3 => by
          unfold w_Works_least_j24
          exact ih k T2 A3 M3 (by omega) g0 g1 g2 g3 _ (by rw [← Int32.sub_eq_add_neg]; exact Int32.sub_add_cancel _ _)
        have e : leaF k (if neL T1 k = true then T1.eraseIdx k else T1) = leaF T.length T := e
        cases eN : neL T1 k with
        | false =>
          rw [eN, if_neg (by decide)] at e
          exact itp rfl (j24 T1 A2 M2 (by omega) (p1.trans p3) p4 e)
        | true =>
          rw [eN, if_pos rfl] at e
          refine itn (by decide) (c_remove p4 (by omega) (fun M3 p5 => j24 _ A2 M3 ?_ (p1.trans p3) p5 e))
          rw [List.length_eraseIdx, if_pos (by omega)]; omega
  unfold w_Works_least
  refine ⟨T.length + 1, ?_⟩
  rw [h.n.1]
  exact loop (T.length + 1) T.length T A M (by omega) (Nat.le_refl _) List.prefix_rfl h rfl _ (Int32.sub_add_cancel _ _)
end
