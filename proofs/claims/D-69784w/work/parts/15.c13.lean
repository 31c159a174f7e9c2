/-! B: the end of a method in the twin: labels of instructions become numbers -/
theorem tOp.at {A : List Nm} {S : List Sg} {w nl q o : Nat} {v u : Int32} {vs : List Int32} {cls mem : Nm} {ks : List Kd} {κ : Kd} {M M' : Mem} (h : tOp A S w nl q o v u vs cls mem ks κ M) (ea : rd M' (sAs w) q = rd M (sAs w) q) (eb : rd M' (sBs w) q = rd M (sBs w) q) (ec : rd M' (sCs w) q = rd M (sCs w) q) (el : o = 40 → ∀ lf, rd M (sBs w) q = Int32.ofNat lf → lf + vs.length ≤ nl → ∀ k, lf ≤ k → k < lf + vs.length → rd M' (sLi w) k = rd M (sLi w) k) : tOp A S w nl q o v u vs cls mem ks κ M' := by
  obtain ⟨h1, h2, h3, h4⟩ := h
  refine ⟨ea.trans h1, fun e => ⟨eb.trans (h2 e).1, ec.trans (h2 e).2⟩, fun e => ?_, h4⟩
  obtain ⟨lf, a, b, c, d⟩ := h3 e
  exact ⟨lf, eb.trans a, ec.trans b, c, fun j hj => (el e lf a c (lf + j) (by omega) (by omega)).trans (d j hj)⟩
theorem tFrm.at {A : List Nm} {w nf nk q : Nat} {fr : Option (List Kd × List Kd)} {M M' : Mem} (h : tFrm A w nf nk q fr M) (e : rd M' (sCf w) q = rd M (sCf w) q) (hR : Rk w 0 0 nf nk M M') : tFrm A w nf nk q fr M' := by
  cases fr with
  | none => exact e.trans h
  | some p =>
    obtain ⟨f, a, b, c⟩ := h
    exact ⟨f, a, e.trans b, c.keep hR a⟩
theorem pkS_tk1 {L : List PI} {i : Nat} (h : i < L.length) : pkS (L.take (i + 1)) = pkS (L.take i) + pkN (gpi L i) := by
  rw [List.take_add_one, List.getElem?_eq_getElem h]
  show pkS (L.take i ++ [L[i]]) = _
  rw [pkS_app]
  show _ = _ + pkN (L.getD i _)
  rw [List.getD_eq_getElem?_getD, List.getElem?_eq_getElem h]; rfl
theorem pkS_mono {L : List PI} {i j : Nat} (h : i ≤ j) : pkS (L.take i) ≤ pkS (L.take j) := by
  obtain ⟨d, rfl⟩ := Nat.exists_eq_add_of_le h
  induction d with
  | zero => exact Nat.le_refl _
  | succ d ih =>
    refine Nat.le_trans (ih (by omega)) ?_
    by_cases c : i + d < L.length
    · rw [show i + (d + 1) = i + d + 1 by omega, pkS_tk1 c]; omega
    · rw [List.take_of_length_le (by omega), List.take_of_length_le (by omega)]; exact Nat.le_refl _
/-- a step of the loop: instruction ii has got numbers -/
theorem JH.iStep {G : List Sl} {US : UST} {A : List Nm} {S : List Sg} {W : List Cls} {w c : Nat} {br : Int32} {q0 nl0 nq nl nf nk : Nat} {p : PM} {z : Nat × Nat × Nat × Nat × Nat × Nat} {L ts : List Tok} {M0 M : Mem} {hh ii : Nat} {Mz : Mem} (h : JH G US A S W w c br q0 nl0 nq nl nf nk p z L ts M0 hh ii M) (hx : Gx G w) (hi : ii < p.2.1.length) (hz0 : z.2.1 ≤ q0) (hz1 : z.2.2.1 ≤ nl0) (hpk : nl0 + pkS p.2.1 ≤ 3900) (hf : Fr (2037035976334486086268445688409378161051468393665936250636140449354381299763336706183397376) M Mz) (hg : GF G [sAs w, sLi w] M Mz) (hl : ∀ s, rl Mz s = rl M s) (lo : LoT w z.1 M Mz) (ra : ∀ k, k ≠ q0 + ii → rd Mz (sAs w) k = rd M (sAs w) k) (rl' : ∀ k, ¬ (nl0 + pkS (p.2.1.take ii) ≤ k ∧ k < nl0 + pkS (p.2.1.take ii) + pkN (gpi p.2.1 ii)) → rd Mz (sLi w) k = rd M (sLi w) k) (hnew : tFi A S w nl nf nk (q0 + ii) (insOf p.2.2.2.1 (gpi p.2.1 ii)) Mz) : JH G US A S W w c br q0 nl0 nq nl nf nk p z L ts M0 hh (ii + 1) Mz := by
  obtain ⟨g1, ⟨⟨hC, hFl, hMs⟩, cnt, hRL, hbn⟩, ⟨hHm, ⟨hI1, hI2⟩, hI3, ⟨h9, hH1, hH2⟩, hLb⟩, g4, g5, g6, g7⟩ := h
  have hw := hx.2.2.2.1
  have rX : ∀ s ∈ XW w, s ≠ sAs w → s ≠ sLi w → ∀ k, rd Mz s k = rd M s k := fun s hs n1 n2 => (hg.2.1 s (hw s hs) (by simp [n1, n2])).1
  have rC : ∀ s ∈ XC w, ∀ k, k ≠ q0 + ii → rd Mz s k = rd M s k := fun s hs k hk => by
    by_cases e : s = sAs w
    · rw [e]; exact ra k hk
    · simp only [List.mem_cons, List.not_mem_nil, or_false] at hs
      rcases hs with q | q | q | q | q <;> subst q
      · exact rX _ (by simp) (sl_ne (by simp)) (sl_ne (by simp)) k
      · exact absurd rfl e
      · exact rX _ (by simp) (sl_ne (by simp)) (sl_ne (by simp)) k
      · exact rX _ (by simp) (sl_ne (by simp)) (sl_ne (by simp)) k
      · exact rX _ (by simp) (sl_ne (by simp)) (sl_ne (by simp)) k
  have rF : ∀ s ∈ [sFl w, sFs w, sFf w], ∀ k, rd Mz s k = rd M s k := fun s hs k => by
    simp only [List.mem_cons, List.not_mem_nil, or_false] at hs
    rcases hs with q | q | q <;> subst q <;> exact rX _ (by simp) (sl_ne (by simp)) (sl_ne (by simp)) k
  have rK : ∀ k, rd Mz (sFk w) k = rd M (sFk w) k := rX _ (by simp) (sl_ne (by simp)) (sl_ne (by simp))
  have rk : Rk w q0 nl0 nf nk M Mz := ⟨fun s hs k hk => rC s hs k (by omega), fun k hk => rl' k (by omega), fun s hs k _ => rF s hs k, fun k _ => rK k, fun s _ => by rw [hl]; exact ⟨Nat.le_refl _, id⟩⟩
  have rk0 : Rk w 0 0 nf nk M Mz := rk.mono (Nat.zero_le _) (Nat.zero_le _) (Nat.le_refl _) (Nat.le_refl _)
  have xl : ∀ s ∈ XL, (∀ k, rd Mz s k = rd M s k) ∧ rl Mz s = rl M s := fun s hs => by
    have hn : s ∉ [sAs w, sLi w] := fun q => by
      simp only [List.mem_cons, List.not_mem_nil, or_false] at hs q
      rcases hs with e | e | e | e | e <;> rcases q with q | q <;> (rw [e] at q; cases q)
    exact ⟨(hg.2.1 s (hx.2.2.2.2.1 s hs) hn).1, hl s⟩
  have dd : ∀ s ∈ [sB, sZ, sX, sTr, sF, sC, sRe, sNx, sTy], s ∉ [sAs w, sLi w] := fun s hs q => by
    simp only [List.mem_cons, List.not_mem_nil, or_false] at hs q
    rcases hs with e | e | e | e | e | e | e | e | e <;> rcases q with q | q <;> (rw [e] at q; cases q)
  have dis : ∀ j, j < p.2.1.length → j ≠ ii → (gpi p.2.1 j).1 = 40 → ∀ lf, rd M (sBs w) (q0 + j) = Int32.ofNat lf → lf + (gpi p.2.1 j).2.1.2.2.1.length ≤ nl → ∀ k, lf ≤ k → k < lf + (gpi p.2.1 j).2.1.2.2.1.length → rd Mz (sLi w) k = rd M (sLi w) k := fun j hj hne e lf h1 h2 k k1 k2 => by
    rw [hI3 j hj e] at h1
    have hb : nl0 + pkS (p.2.1.take j) < 2147483648 := by
      have := pkS_mono (L := p.2.1) (show j ≤ p.2.1.length by omega)
      rw [List.take_length] at this
      omega
    have := (oN_inj hb (by omega)).mp h1
    refine rl' k (fun q => ?_)
    have hpn : pkN (gpi p.2.1 j) = (gpi p.2.1 j).2.1.2.2.1.length := by unfold pkN; rw [if_pos e]
    rcases Nat.lt_or_gt_of_ne hne with c1 | c1
    · have := pkS_mono (L := p.2.1) (show j + 1 ≤ ii by omega)
      rw [pkS_tk1 hj] at this
      omega
    · have := pkS_mono (L := p.2.1) (show ii + 1 ≤ j by omega)
      rw [pkS_tk1 hi] at this
      omega
  refine ⟨g1.fr hf, ⟨⟨hC.fr hf, hFl.fr hf, hMs.keep (hMs.1.fr hf) rk (fun f x y d hd' j hj => ?_) (fun f x y d hd' j hj i hi => ?_) (fun f x y => ?_)⟩, ⟨(hf.I (f := 12) (k := 35) rfl w).trans cnt.1, (hf.I (f := 12) (k := 37) rfl w).trans cnt.2.1, (hf.I (f := 12) (k := 41) rfl w).trans cnt.2.2.1, (hf.I (f := 12) (k := 43) rfl w).trans cnt.2.2.2⟩, hRL.of (fun s _ => hl s), hbn⟩, ⟨?_, ⟨fun j hj => ?_, fun j hj hj' => ?_⟩, (fun j hj e => ?_), ⟨(hf.L (f := 109) rfl 0).trans h9, (fun j hj => (hH1 j hj).of (fun f x y => ?_)), (fun j hj hj' => ⟨(hH2 j hj hj').1.of (fun f x y => ?_), (hH2 j hj hj').2.1, (hf.Ia (f := 109) rfl rfl 0 j).trans (hH2 j hj hj').2.2⟩)⟩, hLb.of (hf.I (f := 11) (k := 60) rfl 0) xl⟩, g4.gf hf hg hx dd, ⟨g5.1.trans (hg.sub (by simp)), g5.2.1.trans lo, g5.2.2.trans ⟨fun s hs k hk => rC s hs k (by omega), fun k hk => rl' k (by omega), fun s hs k _ => rF s hs k, fun k _ => rK k, fun s _ => by rw [hl]; exact ⟨Nat.le_refl _, id⟩⟩⟩, (hf.I (f := 11) (k := 51) rfl 0).trans g6, ⟨(hf.L (f := 109) rfl 0).trans g7.1, fun s hs => by rw [hl]; exact g7.2.1 s hs, by rw [hl]; exact g7.2.2⟩⟩
  · have h3 : f = 149 ∨ f = 150 ∨ f = 151 := by omega
    rcases h3 with e | e | e <;> subst e
    · exact hf.Ia (f := 149) rfl rfl w _
    · exact hf.Ia (f := 150) rfl rfl w _
    · exact hf.Ia (f := 151) rfl rfl w _
  · have h3 : f = 152 ∨ f = 153 ∨ f = 154 ∨ f = 155 := by omega
    rcases h3 with e | e | e | e <;> subst e
    · exact hf.Ia (f := 152) rfl rfl w _
    · exact hf.Ia (f := 153) rfl rfl w _
    · exact hf.Ia (f := 154) rfl rfl w _
    · exact hf.Ia (f := 155) rfl rfl w _
  · have h3 : f = 152 ∨ f = 153 ∨ f = 154 ∨ f = 155 := by omega
    rcases h3 with e | e | e | e <;> subst e
    · exact hf.L (f := 152) rfl w
    · exact hf.L (f := 153) rfl w
    · exact hf.L (f := 154) rfl w
    · exact hf.L (f := 155) rfl w
  · obtain ⟨⟨a1, a2, a3, a4, a5, a6⟩, ⟨b1, b2', b3⟩, ⟨c1, c2⟩, d1, d2⟩ := hHm
    exact ⟨⟨⟨(hf.Ia (f := 144) rfl rfl w _).trans a1.1, a1.2⟩, ⟨(hf.Ia (f := 145) rfl rfl w _).trans a2.1, a2.2⟩, a3, (hf.Ia (f := 146) rfl rfl w _).trans a4, (hf.Ia (f := 147) rfl rfl w _).trans a5, (hf.Ia (f := 148) rfl rfl w _).trans a6⟩, ⟨(hf.Ia (f := 149) rfl rfl w _).trans b1, (hf.Ia (f := 150) rfl rfl w _).trans b2', (hf.Ia (f := 151) rfl rfl w _).trans b3⟩, ⟨(hf.I (f := 11) (k := 53) rfl 0).trans c1, (hf.I (f := 11) (k := 54) rfl 0).trans c2⟩, d1, d2⟩
  · by_cases ej : j = ii
    · rw [ej]; exact hnew
    · obtain ⟨x1, x2, x3, x4⟩ := hI1 j (by omega)
      have hk : q0 + j ≠ q0 + ii := by omega
      refine ⟨⟨(rC (sOp w) (by simp) _ hk).trans x1.1, x1.2⟩, x2.at (rC _ (by simp) _ hk) (rC _ (by simp) _ hk) (rC _ (by simp) _ hk) (fun e lf q1 q2 k k1 k2 => ?_), x3.at (rC _ (by simp) _ hk) rk0, x4⟩
      have el : ((insOf p.2.2.2.1 (gpi p.2.1 j)).2.2.2.1.map Int32.ofNat).length = (gpi p.2.1 j).2.1.2.2.1.length := by
        rw [List.length_map]; show ((gpi p.2.1 j).2.1.2.2.1.map _).length = _; rw [List.length_map]
      rw [el] at q2 k2
      exact dis j (by omega) ej e lf q1 q2 k k1 k2
  · obtain ⟨x1, x2, x3, x4, x5, x6⟩ := hI2 j (by omega) hj'
    have hk : q0 + j ≠ q0 + ii := by omega
    refine ⟨⟨(rC (sOp w) (by simp) _ hk).trans x1.1, x1.2⟩, x2.at (rC _ (by simp) _ hk) (rC _ (by simp) _ hk) (rC _ (by simp) _ hk) (fun e lf q1 q2 k k1 k2 => ?_), x3.at (rC _ (by simp) _ hk) rk0, x4, x5, fun e => (rC (sBs w) (by simp) _ hk).trans (x6 e)⟩
    rw [List.length_map] at q2 k2
    exact dis j hj' (by omega) e lf q1 q2 k k1 k2
  · exact (rX (sBs w) (by simp) (sl_ne (by simp)) (sl_ne (by simp)) _).trans (hI3 j hj e)
  · have h3 : f = 152 ∨ f = 153 ∨ f = 154 ∨ f = 155 := by omega
    rcases h3 with e | e | e | e <;> subst e
    · exact hf.Ia (f := 152) rfl rfl w _
    · exact hf.Ia (f := 153) rfl rfl w _
    · exact hf.Ia (f := 154) rfl rfl w _
    · exact hf.Ia (f := 155) rfl rfl w _
  · have h3 : f = 152 ∨ f = 153 ∨ f = 154 ∨ f = 155 := by omega
    rcases h3 with e | e | e | e <;> subst e
    · exact hf.Ia (f := 152) rfl rfl w _
    · exact hf.Ia (f := 153) rfl rfl w _
    · exact hf.Ia (f := 154) rfl rfl w _
    · exact hf.Ia (f := 155) rfl rfl w _
