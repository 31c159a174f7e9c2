/-! THE OPERATION halt, in the works: locks, and the end -/
section
variable {A : List Nm} {W : List Cls} {w k C B F K L n : Nat} {br : Int32} {nq nk np nh nr : Nat} {s : Ms} {M M' M0 M2 : Mem} {Q : Int32 → Mem → Prop} {v1 : Int32} {on : Nat → Bool}
/-- locks of faults -/
theorem c_haltF {x n' : Nat} (hR : mR M0 6 w 24 = some (301, x)) (hl : mL M0 301 x = n') (hn : n ≤ n') (hb : n < 1000000) (e21 : mI M0 6 w 21 = Int32.ofNat n) (hQ : ∀ M', Fr (4074071952668972172536891376818756322102936787331872501272280898708762599526673412366794752) M0 M' → (∀ j, j < n → mI M' 301 x j = 0) → (∀ i j, i ≠ x → mI M' 301 i j = mI M0 301 i j) → Q v1 M') : ∀ y j Mj, n - j < y → j ≤ n → Fr (4074071952668972172536891376818756322102936787331872501272280898708762599526673412366794752) M0 Mj → (∀ i, i < j → mI Mj 301 x i = 0) → (∀ i l, i ≠ x → mI Mj 301 i l = mI M0 301 i l) → w_Machine_halt_L138 w Q y v1 (Int32.ofNat j) Mj := by
  intro y
  induction y with
  | zero => intro j Mj hy; exact absurd hy (by omega)
  | succ y ih =>
    intro j Mj hy hj hf h1 h2
    unfold w_Machine_halt_L138
    rw [(hf.I (f := 6) (k := 21) rfl w).trans e21]
    by_cases c1 : n ≤ j
    · have : j = n := by omega
      subst this
      exact itp ((oN_le (by omega) (by omega)).mpr c1) (hQ Mj hf h1 h2)
    · refine itn (fun z => c1 ((oN_le (by omega) (by omega)).mp z)) ⟨x, (hf.R (f := 6) (k := 24) rfl w).trans hR, by rw [hf.L (f := 301) rfl, hl]; exact (vp_oN (by omega)).mpr (by omega), ?_⟩
      rw [oN_tnc (k := j) (by omega), show Int32.ofNat j + (1 : Int32) = Int32.ofNat (j + 1) from oN_add j 1]
      refine ih (j + 1) _ (by omega) (by omega) (Fr.wIa rfl rfl hf) (fun i hi => ?_) (fun i l hi => ?_)
      · rw [mI_sI]
        by_cases e : i = j
        · rw [if_pos ⟨rfl, rfl, e⟩]
        · rw [if_neg (fun z => e z.2.2)]; exact h1 i (by omega)
      · rw [mI_sI, if_neg (fun z => hi z.2.1)]; exact h2 i l hi
/-- locks of objects -/
theorem c_haltO {m : Nat} (hm : m ≤ 800) (e15 : mI M0 6 w 15 = Int32.ofNat m) (hl : mL M0 301 (6 * w + 0) = 801) (hQ : ∀ M', Fr (4074071952668972172536891376818756322102936787331872501272280898708762599526673412366794752) M0 M' → (∀ r, 1 ≤ r → r ≤ m → mI M' 301 (6 * w + 0) r = 0) → (∀ i j, i ≠ 6 * w + 0 → mI M' 301 i j = mI M0 301 i j) → ∃ n7 : Nat, w_Machine_halt_L138 w Q n7 v1 (0 : Int32) M') : ∀ y j Mj, m + 1 - j < y → 1 ≤ j → j ≤ m + 1 → Fr (4074071952668972172536891376818756322102936787331872501272280898708762599526673412366794752) M0 Mj → (∀ r, 1 ≤ r → r < j → mI Mj 301 (6 * w + 0) r = 0) → (∀ i l, i ≠ 6 * w + 0 → mI Mj 301 i l = mI M0 301 i l) → w_Machine_halt_L115 w Q y v1 (Int32.ofNat j) Mj := by
  intro y
  induction y with
  | zero => intro j Mj hy; exact absurd hy (by omega)
  | succ y ih =>
    intro j Mj hy j1 hj hf h1 h2
    unfold w_Machine_halt_L115
    rw [(hf.I (f := 6) (k := 15) rfl w).trans e15]
    by_cases c1 : m < j
    · exact itp ((oN_lt (by omega) (by omega)).mpr c1) (hQ Mj hf (fun r a b => h1 r a (by omega)) h2)
    · refine itn (fun z => c1 ((oN_lt (by omega) (by omega)).mp z)) ⟨by rw [hf.L (f := 301) rfl, hl]; exact (vp_oN (by omega)).mpr (by omega), ?_⟩
      rw [oN_tnc (k := j) (by omega), show Int32.ofNat j + (1 : Int32) = Int32.ofNat (j + 1) from oN_add j 1]
      refine ih (j + 1) _ (by omega) (by omega) (by omega) (Fr.wIa rfl rfl hf) (fun i i1 hi => ?_) (fun i l hi => ?_)
      · rw [mI_sI]
        by_cases e : i = j
        · rw [if_pos ⟨rfl, rfl, e⟩]
        · rw [if_neg (fun z => e z.2.2)]; exact h1 i i1 (by omega)
      · rw [mI_sI, if_neg (fun z => hi z.2.1)]; exact h2 i l hi
theorem hlt_F {i : Nat} : gFt (hltS s) i = ((gFt s i).1, (gFt s i).2.1, 0, (gFt s i).2.2.2) := by
  show ((zF s).map (fun f => (f.1, f.2.1, (0 : Int32), f.2.2.2))).getD i (0, 0, 0, 0) = _
  rw [List.getD_eq_getElem?_getD, List.getElem?_map]
  show _ = (((zF s).getD i (0, 0, 0, 0)).1, ((zF s).getD i (0, 0, 0, 0)).2.1, (0 : Int32), ((zF s).getD i (0, 0, 0, 0)).2.2.2)
  rw [List.getD_eq_getElem?_getD]
  cases (zF s)[i]? with
  | none => rfl
  | some f => rfl
theorem c_halt (hw : w < 4) (hW : WO W) (hK : KB w nq nk np nh nr) (hA : MA W s) (hFb : (zF s).length < 1000000) (h : RA A W w br nq nk np nh nr C B F s M) (hQ : ∀ M', RA A W w br nq nk np nh nr C B F (hltS s) M' → Fr SHz M M' → Q (Int32.ofNat (onN s 3)) M') : w_Machine_halt w Q M := by
  unfold w_Machine_halt
  rw [h.2.2.2.2.1.1]
  refine ⟨4, c_haltT hW hK hA h (fun Mk hH => ⟨_, rfl, ?_⟩) 4 0 M (by omega) (by omega) ⟨⟨Fr.rf _ _, h.1⟩, fun t' z => absurd z (by omega), fun t' _ _ _ _ => rfl, fun j ⟨t', z, _⟩ => absurd z (by omega), fun j _ => rfl⟩⟩
  obtain ⟨⟨hf, hL, hc⟩, h1, -, h3, h4⟩ := hH
  obtain ⟨⟨lH, l301, l301'⟩, ⟨c6, c7⟩, c512, cO, c84, l, m, ⟨e14, e15⟩, ⟨b1, b2', b3⟩, q1, q2⟩ := h.2.2.1.1
  obtain ⟨e21, x, nF, ⟨f1, f2, f3, f4⟩, fR, fI, fv⟩ := h.2.2.1.2
  obtain ⟨t1, t2, t3⟩ := h.2.2.2.1.2.2
  have k5 : mI (sI Mk 6 w 3 0) 6 w 5 = Int32.ofNat (zT s).2.2 := by rw [mI_sI, if_neg (fun z => absurd z.2.2 (by decide))]; exact (hf.I (f := 6) (k := 5) rfl w).trans t3
  rw [k5]
  have g0 : Fr (4427939745642540705254695868212145208936198435999509325443313649435710893634236848132222011148167868148245522594489441431843794516280777575443390095990808621490883603340290470707188281967270678777980805075844228844950498164668494345795805502955608692771317924170628470695509340698824632386448891289282709892836232498381309716199947371558968834188909256671870116515171226316909321104655378948898845616090717617951460743303912372521841325471030440553556298045982541517738225266950034293010672035970840511424683462280774226326470610425455217506721558357762628626049929675718010688901887725637912433693356504657939567829966609742040621451429597043751258493060093313024) Mk (sI (sI Mk 6 w 3 0) 6 w 4 (Int32.ofNat (zT s).2.2)) := Fr.wI rfl (Fr.wI rfl (Fr.rf _ _))
  have z3 : mI (sI (sI Mk 6 w 3 0) 6 w 4 (Int32.ofNat (zT s).2.2)) 6 w 3 = 0 := by rw [mI_sI, if_neg (fun z => absurd z.2.2 (by decide)), mI_sI, if_pos ⟨rfl, rfl, rfl⟩]
  have z4 : mI (sI (sI Mk 6 w 3 0) 6 w 4 (Int32.ofNat (zT s).2.2)) 6 w 4 = Int32.ofNat (zT s).2.2 := by rw [mI_sI, if_pos ⟨rfl, rfl, rfl⟩]
  generalize sI (sI Mk 6 w 3 0) 6 w 4 (Int32.ofNat (zT s).2.2) = Ma at g0 z3 z4 ⊢
  have hfa : Fr SHz M Ma := (hf.sub rfl).trans (g0.sub rfl)
  have x2 := fR 2 (by omega)
  have hx24 : x 2 ≠ 6 * w + 0 := by have := x2.2.2.1; omega
  refine ⟨m + 2, c_haltO (m := m) b3 ((hfa.I (f := 6) (k := 15) rfl w).trans e15) ((hfa.L (f := 301) rfl _).trans l301) (fun Mb fb zb ob => ⟨(zF s).length + 1, ?_⟩) (m + 2) 1 Ma (by omega) (by omega) (by omega) (Fr.rf _ _) (fun r a b => absurd a (by omega)) (fun i l _ => rfl)⟩
  have hfb : Fr SHz M Mb := hfa.trans (fb.sub rfl)
  refine c_haltF (x := x 2) (n' := nF) (n := (zF s).length) ((hfb.R (f := 6) (k := 24) rfl w).trans x2.1) ((hfb.L (f := 301) rfl _).trans x2.2.1) f1 hFb ((hfb.I (f := 6) (k := 21) rfl w).trans e21) (fun Mc fc zc oc => ?_) _ 0 Mb (by omega) (by omega) (Fr.rf _ _) (fun i hi => absurd hi (by omega)) (fun i l _ => rfl)
  have hfc : Fr SHz M Mc := hfb.trans (fc.sub rfl)
  have fac : Fr (4427939745642540705254695868212145208936198435999509325443313649435710893634236848132222011148167868148245522594489441431843794516280777575443390095990808621490883603340290470707188281967270678777980805075844228844950498164668494345795805502955608692771317924170628470695509340698824632386448891289282709892836232498381309716199947371558968834188909256671870116515171226316909321104655378948898845616090717617951460743303912372521841325471030440553556298045982541517738225266950034293010672035970840511424683462280774226326470610425455217506721558357762628626049929675718014762973840394610084970584733323414261670766753941614541893732328305806350785166472460107776) Mk Mc := (g0.sub rfl).trans ((fb.sub rfl).trans (fc.sub rfl))
  have hms : mS Mc = mS M := hfc.ms
  -- rows of locks
  have o301 : ∀ i j, i ≠ 6 * w + 0 → i ≠ x 2 → mI Mc 301 i j = mI M 301 i j := fun i j a b => (oc i j b).trans ((ob i j a).trans ((g0.Ia (f := 301) rfl rfl i j).trans (hf.Ia (f := 301) rfl rfl i j)))
  have hcC : mI Mc 6 w 3 = 0 := (fc.I (f := 6) (k := 3) rfl w).trans ((fb.I (f := 6) (k := 3) rfl w).trans z3)
  have hcD : mI Mc 6 w 4 = Int32.ofNat (zT s).2.2 := (fc.I (f := 6) (k := 4) rfl w).trans ((fb.I (f := 6) (k := 4) rfl w).trans z4)
  have m7 : ∀ i k, k < 20 → mI Mc 7 i k = mI Mk 7 i k := fun i j hj => fac.I ((by decide : ∀ k, k < 20 → ((4427939745642540705254695868212145208936198435999509325443313649435710893634236848132222011148167868148245522594489441431843794516280777575443390095990808621490883603340290470707188281967270678777980805075844228844950498164668494345795805502955608692771317924170628470695509340698824632386448891289282709892836232498381309716199947371558968834188909256671870116515171226316909321104655378948898845616090717617951460743303912372521841325471030440553556298045982541517738225266950034293010672035970840511424683462280774226326470610425455217506721558357762628626049929675718014762973840394610084970584733323414261670766753941614541893732328305806350785166472460107776) : Nat).testBit (cd 7 k) = false) j hj) i
  refine hQ Mc ⟨⟨(hL.fr fac).1, hc.fr fac⟩, ⟨⟨⟨(hfc.L (f := 86) rfl w).trans h.2.1.1.1.1, (hfc.L (f := 85) rfl w).trans h.2.1.1.1.2⟩, fun j hj => ?_, ?_, fun i hi => ?_⟩, h.2.1.2.fr hfc⟩, ⟨⟨⟨?_, ?_, ?_⟩, ⟨?_, ?_⟩, fun r hr => ?_, fun r hr => ?_, fun i hi => ?_, l, m, ⟨?_, ?_⟩, ⟨b1, b2', b3⟩, q1, q2⟩, ?_, x, nF, ⟨?_, f2, f3, ?_⟩, fun j hj => ?_, fI, fun i hi => ?_⟩, ⟨h.2.2.2.1.1.fr hfc, h.2.2.2.1.2.1.fr hfc, hcC, hcD, (hfc.I (f := 6) (k := 5) rfl w).trans t3⟩, ⟨(hfc.L (f := 700) rfl w).trans h.2.2.2.2.1.1, fun t' ht => (hfc.Ra (f := 700) rfl rfl w t').trans (h.2.2.2.2.1.2 t' ht)⟩, fun t' ht => ?_⟩ hfc
  · obtain ⟨x1, x2'⟩ := h.2.1.1.2.1 j hj
    show mI Mc 46 w j = (if zC s j = 1 then 3 else zC s j) ∧ ((if zC s j = 1 then (3 : Int32) else zC s j) = 1 → _)
    rw [fac.Ia (f := 46) rfl rfl]
    by_cases c1 : zC s j = 1
    · rw [if_pos c1]
      obtain ⟨t, ht, hm⟩ := hA.2.2.2 j c1
      exact ⟨h3 j ⟨t, ht, hm⟩, fun z => absurd z (by decide)⟩
    · rw [if_neg c1]
      refine ⟨(h4 j (fun ⟨t, ht, hm⟩ => c1 (((hA.2.2.1 t ht).1.1).own j hm).2.2.1)).trans x1, fun z => absurd z c1⟩
  · rw [hfc.I (f := 6) (k := 26) rfl]; exact h.2.1.1.2.2.1
  · rw [hfc.Ia (f := 85) rfl rfl]; exact h.2.1.1.2.2.2 i hi
  · exact ⟨(hfc.L (f := 79) rfl w).trans lH.1, (hfc.L (f := 80) rfl w).trans lH.2.1, (hfc.L (f := 81) rfl w).trans lH.2.2.1, (hfc.L (f := 512) rfl w).trans lH.2.2.2.1, (hfc.L (f := 84) rfl w).trans lH.2.2.2.2⟩
  · exact (hfc.L (f := 301) rfl _).trans l301
  · exact (hfc.L (f := 301) rfl _).trans l301'
  · exact (hfc.I (f := 6) (k := 6) rfl w).trans c6
  · exact (hfc.I (f := 6) (k := 7) rfl w).trans c7
  · exact (hfc.Ia (f := 512) rfl rfl w r).trans (c512 r hr)
  · have hr : thr s r = true := hr
    obtain ⟨o1, o2, o3, -, -⟩ := cO r hr
    have r0 : r ≠ 0 := fun z => by rw [z, hA.1.1.2.1.1.1.1] at hr; cases hr
    refine ⟨(hfc.Ia (f := 79) rfl rfl w r).trans o1, (hfc.Ia (f := 80) rfl rfl w r).trans o2, (hfc.Ia (f := 81) rfl rfl w r).trans o3, ?_, fun z => absurd rfl z⟩
    rw [oc _ _ (fun z => hx24 z.symm)]
    exact zb r (by omega) (q2 r hr)
  · exact (hfc.Ia (f := 84) rfl rfl w i).trans (c84 i hi)
  · exact (hfc.I (f := 6) (k := 14) rfl w).trans e14
  · exact (hfc.I (f := 6) (k := 15) rfl w).trans e15
  · rw [hfc.I (f := 6) (k := 21) rfl, e21]
    show _ = Int32.ofNat ((zF s).map _).length
    rw [List.length_map]
  · show ((zF s).map _).length ≤ nF
    rw [List.length_map]; exact f1
  · rw [hms]; exact f4
  · obtain ⟨y1, y2, y3, y4⟩ := fR j hj
    refine ⟨?_, (hfc.L (f := 301) rfl _).trans y2, y3, ?_⟩
    · have : j = 0 ∨ j = 1 ∨ j = 2 ∨ j = 3 := by omega
      rcases this with z | z | z | z <;> subst z
      · exact (hfc.R (f := 6) (k := 22) rfl w).trans y1
      · exact (hfc.R (f := 6) (k := 23) rfl w).trans y1
      · exact (hfc.R (f := 6) (k := 24) rfl w).trans y1
      · exact (hfc.R (f := 6) (k := 25) rfl w).trans y1
    · exact (hfc.2.2.2 _ y4).1
  · have hi : i < (zF s).length := by
      have : i < ((zF s).map (fun f : Ft => (f.1, f.2.1, (0 : Int32), f.2.2.2))).length := hi
      rw [List.length_map] at this; exact this
    obtain ⟨y1, y2, y3, y4⟩ := fv i hi
    have hne : ∀ j, j < 4 → j ≠ 2 → mI Mc 301 (x j) i = mI M 301 (x j) i := fun j hj n2 => o301 _ _ (by have := (fR j hj).2.2.1; omega) (fun z => n2 (fI j 2 hj (by omega) z))
    rw [hlt_F, hne 0 (by omega) (by omega), hne 1 (by omega) (by omega), hne 3 (by omega) (by omega)]
    exact ⟨y1, y2, zc i hi, y4⟩
  · obtain ⟨hrL, -, -⟩ := h.2.2.2.2.2 t' ht
    obtain ⟨⟨⟨x1, x2', x10, x11, x12⟩, x13, x14, x15, x16, x18, x19⟩, x0⟩ := h1 t' ht
    obtain ⟨⟨l89, l94, l514, l95⟩, -⟩ := hrL
    refine ⟨⟨⟨fun f a b => ?_, (hfc.L (f := 94) rfl _).trans l94, (hfc.L (f := 514) rfl _).trans l514, (hfc.L (f := 95) rfl _).trans l95⟩, ⟨(m7 _ _ (by omega)).trans x0, (m7 _ _ (by omega)).trans x10, (m7 _ _ (by omega)).trans x11, (m7 _ _ (by omega)).trans x12⟩, ⟨(m7 _ _ (by omega)).trans x13, (m7 _ _ (by omega)).trans x14, (m7 _ _ (by omega)).trans x15, (m7 _ _ (by omega)).trans x16⟩, ⟨(m7 _ _ (by omega)).trans x18, (m7 _ _ (by omega)).trans x19⟩, fun z => absurd z (by show ¬ (0 : Nat) = 1; omega)⟩, ⟨(m7 _ _ (by omega)).trans x1, (m7 _ _ (by omega)).trans x2', trivial⟩, fun z => absurd z (by show ¬ (0 : Nat) = 1; omega)⟩
    have : f = 89 ∨ f = 90 ∨ f = 91 ∨ f = 92 ∨ f = 93 := by omega
    rcases this with z | z | z | z | z <;> subst z
    · exact (hfc.L (f := 89) rfl _).trans (l89 89 (by omega) (by omega))
    · exact (hfc.L (f := 90) rfl _).trans (l89 90 (by omega) (by omega))
    · exact (hfc.L (f := 91) rfl _).trans (l89 91 (by omega) (by omega))
    · exact (hfc.L (f := 92) rfl _).trans (l89 92 (by omega) (by omega))
    · exact (hfc.L (f := 93) rfl _).trans (l89 93 (by omega) (by omega))
/-- halt, in the works -/
theorem c_whalt (hk : k < 3) (hOn : cOn on M) (hon : on k = true) (hW : WO W) (hK : KB (k + 1) nq nk np nh nr) (hA : MA W s) (hFb : (zF s).length < 1000000) (h : RA A W (k + 1) br nq nk np nh nr C B F s M) (hQ : ∀ M', RA A W (k + 1) br nq nk np nh nr C B F (hltS s) M' → Fr SHz M M' → Q (Int32.ofNat (onN s 3)) M') : w_Works_halt 0 (Int32.ofNat k) Q M := by
  unfold w_Works_halt
  refine c_isWorld hOn (fun j hj e _ _ => ?_) (fun q => by rw [wOf_k hk, hon] at q; cases q)
  obtain ⟨a1, a2⟩ := hOn.at hk hon
  exact itn (by decide) ⟨a1, k + 1, a2, c_halt (by omega) hW hK hA hFb h hQ⟩
end
