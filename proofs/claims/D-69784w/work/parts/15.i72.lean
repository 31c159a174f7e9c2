/-! a page is lent: the page's field points to another row, and back -/
abbrev sP1 : Sl := (11, 0, 114, 401)
abbrev sP2 : Sl := (11, 0, 115, 401)
theorem sR_comm {M : Mem} {f i k f' i' k' : Nat} {v v' : Option (Nat × Nat)} (h : ¬ (f = f' ∧ i = i' ∧ k = k')) : sR (sR M f i k v) f' i' k' v' = sR (sR M f' i' k' v') f i k v := by
  unfold sR
  refine Prod.ext rfl (Prod.ext rfl (Prod.ext ?_ rfl))
  funext a b c
  show (if a = f' ∧ b = i' ∧ c = k' then v' else if a = f ∧ b = i ∧ c = k then v else M.2.2.1 a b c) = (if a = f ∧ b = i ∧ c = k then v else if a = f' ∧ b = i' ∧ c = k' then v' else M.2.2.1 a b c)
  by_cases c1 : a = f' ∧ b = i' ∧ c = k'
  · have c2 : ¬ (a = f ∧ b = i ∧ c = k) := fun z => h ⟨z.1.symm.trans c1.1, z.2.1.symm.trans c1.2.1, z.2.2.symm.trans c1.2.2⟩
    rw [if_pos c1, if_neg c2, if_pos c1]
  · rw [if_neg c1, if_neg c1]
theorem sR_two {M : Mem} {f i k : Nat} {v v' : Option (Nat × Nat)} : sR (sR M f i k v) f i k v' = sR M f i k v' := by
  unfold sR
  refine Prod.ext rfl (Prod.ext rfl (Prod.ext ?_ rfl))
  funext a b c
  show (if a = f ∧ b = i ∧ c = k then v' else if a = f ∧ b = i ∧ c = k then v else M.2.2.1 a b c) = (if a = f ∧ b = i ∧ c = k then v' else M.2.2.1 a b c)
  by_cases c1 : a = f ∧ b = i ∧ c = k
  · rw [if_pos c1, if_pos c1]
  · rw [if_neg c1, if_neg c1, if_neg c1]
theorem rs_erase {M : Mem} {p : Sl} : ∀ {G : List Sl}, p ∈ G → rs G M = rl M p + rs (G.erase p) M
  | [], h => by cases h
  | a :: G, h => by
    have e1 : rs (a :: G) M = rl M a + rs G M := by simp [rs]
    by_cases e : a = p
    · subst e
      rw [e1, List.erase_cons_head]
    · rw [e1, List.erase_cons_tail (by simpa using e)]
      have e2 : rs (a :: G.erase p) M = rl M a + rs (G.erase p) M := by simp [rs]
      have := rs_erase (M := M) ((List.mem_cons.1 h).resolve_left (fun z => e z.symm))
      omega
theorem TG.sub {G G' : List Sl} {M : Mem} (h : TG G M) (hs : ∀ s ∈ G', s ∈ G) : TG G' M := fun s h1 => ⟨(h s (hs s h1)).1, fun s' h2 => (h s (hs s h1)).2 s' (hs s' h2)⟩
theorem Gx.er {G : List Sl} {w : Nat} {p : Sl} (h : Gx G w) (hp : p = sPg ∨ p = sP1 ∨ p = sP2) : Gx (G.erase p) w := by
  obtain ⟨⟨⟨g1, g2⟩, ⟨a1, a2, a3⟩, a4⟩, ⟨b1, b2', b3, b4, b5⟩, c, d, e, f⟩ := h
  have up : ∀ s, s ∈ G.erase p → s ∈ G := fun s hs => List.mem_of_mem_erase hs
  have k : ∀ s, s ∈ G → (s.1 = 12 ∨ (s.2.2.1 ≠ 94 ∧ s.2.2.1 ≠ 114 ∧ s.2.2.1 ≠ 115)) → s ∈ G.erase p := fun s hs z => g1.mem_erase_iff.2 ⟨fun q => by
    rw [q] at z
    rcases hp with q | q | q <;> rw [q] at z <;> exact absurd z (by decide), hs⟩
  have hw : ∀ s ∈ XW w, s.1 = 12 := by simp
  have hl : ∀ s ∈ XL, (s.1 = 12 ∨ (s.2.2.1 ≠ 94 ∧ s.2.2.1 ≠ 114 ∧ s.2.2.1 ≠ 115)) := by decide
  exact ⟨⟨⟨g1.erase p, fun s h1 s' h2 => g2 s (up s h1) s' (up s' h2)⟩, ⟨k _ a1 (by decide), k _ a2 (by decide), k _ a3 (by decide)⟩, fun s hs => a4 s (up s hs)⟩, ⟨k _ b1 (by decide), k _ b2' (by decide), k _ b3 (by decide), k _ b4 (by decide), k _ b5 (by decide)⟩, k _ c (by decide), fun s hs => k s (d s hs) (Or.inl (hw s hs)), fun s hs => k s (e s hs) (hl s hs), k _ f (by decide)⟩
section
variable {G : List Sl} {p : Sl} {M M4 : Mem} {v : Option (Nat × Nat)}
theorem ln_pg : rdI (sR M 11 0 94 (some (401, rdI M p))) sPg = rdI M p := by unfold rdI; rw [mR_sR, if_pos ⟨rfl, rfl, rfl⟩]; rfl
theorem ln_mR (hG : Ga G) (hP : sPg ∈ G) : ∀ s ∈ G, s ≠ sPg → mR (sR M 11 0 94 v) s.1 s.2.1 s.2.2.1 = mR M s.1 s.2.1 s.2.2.1 := fun s hs n => by
  rw [mR_sR, if_neg (fun z => n (hG.1.2 s hs sPg hP z.1 z.2.1 z.2.2))]
theorem ln_rd (hG : Ga G) (hP : sPg ∈ G) : ∀ s ∈ G, s ≠ sPg → rdI (sR M 11 0 94 v) s = rdI M s := fun s hs n => by unfold rdI; rw [ln_mR hG hP s hs n]
theorem TG.lend (hG : Ga G) (hT : TG G M) (hp : p ∈ G) (hP : sPg ∈ G) (hf : p.2.2.2 = 401) : TG (G.erase p) (sR M 11 0 94 (some (401, rdI M p))) := by
  intro s hs
  obtain ⟨np, hs⟩ := hG.1.1.mem_erase_iff.1 hs
  by_cases q : s = sPg
  · subst q
    rw [ln_pg]
    refine ⟨⟨by rw [mR_sR, if_pos ⟨rfl, rfl, rfl⟩], ?_⟩, fun s' hs' n ef => ?_⟩
    · have := (hT p hp).1.2
      rw [hf] at this
      exact this
    · obtain ⟨np', hs'⟩ := hG.1.1.mem_erase_iff.1 hs'
      rw [ln_rd hG hP s' hs' n]
      exact (hT p hp).2 s' hs' np' (ef.trans hf.symm)
  · obtain ⟨⟨a, b⟩, c⟩ := hT s hs
    rw [ln_mR hG hP s hs q, ln_rd hG hP s hs q]
    refine ⟨⟨a, b⟩, fun s' hs' n ef => ?_⟩
    obtain ⟨np', hs'⟩ := hG.1.1.mem_erase_iff.1 hs'
    by_cases q' : s' = sPg
    · subst q'
      rw [ln_pg]
      exact (hT s hs).2 p hp (fun z => np z.symm) (hf.trans ef)
    · rw [ln_rd hG hP s' hs' q']; exact c s' hs' n ef
/-- the page is given back -/
theorem GF.lent (hG : Ga G) (hT : TG G M) (hp : p ∈ G) (hP : sPg ∈ G) (hf : p.2.2.2 = 401) (hne : p ≠ sPg) (h : GF (G.erase p) [sPg] (sR M 11 0 94 (some (401, rdI M p))) M4) (hz : Pz (sR M 11 0 94 (some (401, rdI M p))) M4) : GF G [p] M (sR (sR M4 p.1 p.2.1 p.2.2.1 (some (401, rdI M4 sPg))) 11 0 94 (some (401, rdI M sPg))) ∧ rdI (sR (sR M4 p.1 p.2.1 p.2.2.1 (some (401, rdI M4 sPg))) 11 0 94 (some (401, rdI M sPg))) p = rdI M4 sPg := by
  generalize hM3 : sR M 11 0 94 (some (401, rdI M p)) = M3 at h hz
  have n3 : mN M3 = mN M := by rw [← hM3]; rfl
  have s3 : mS M3 = mS M := by rw [← hM3]; rfl
  have l3 : ∀ j, mL M3 401 j = mL M 401 j := fun j => by rw [← hM3]; rfl
  have c3 : ∀ j k, mI M3 401 j k = mI M 401 j k := fun j k => by rw [← hM3]; rfl
  have p3 : rdI M3 sPg = rdI M p := by rw [← hM3]; exact ln_pg
  have r3 : ∀ s ∈ G, s ≠ sPg → rdI M3 s = rdI M s := by rw [← hM3]; exact ln_rd hG hP
  have hpm := (hT p hp).1.2
  rw [hf] at hpm
  have hPm : (401, rdI M sPg) ∈ mN M := (hT sPg hP).1.2
  have hPp : rdI M sPg ≠ rdI M p := (hT p hp).2 sPg hP (fun z => hne z.symm) hf.symm
  obtain ⟨z1, z2, z3⟩ := hz
  obtain ⟨lP, cP⟩ := z1 (rdI M sPg) (by rw [n3]; exact hPm) (by rw [p3]; exact hPp)
  have hP4 : rdI M sPg ≠ rdI M4 sPg := by
    rcases z2 with e | e
    · rw [e, p3]; exact hPp
    · exact fun z => e (by rw [← z, n3]; exact hPm)
  have hPe : sPg ∈ G.erase p := hG.1.1.mem_erase_iff.2 ⟨fun z => hne z.symm, hP⟩
  have hin : ∀ s, s ∈ G → s ≠ p → s ∈ G.erase p := fun s hs n => hG.1.1.mem_erase_iff.2 ⟨n, hs⟩
  have kp : ¬ (p.1 = 11 ∧ p.2.1 = 0 ∧ p.2.2.1 = 94) := fun z => hne (hG.1.2 p hp sPg hP z.1 z.2.1 z.2.2)
  generalize hMe : sR (sR M4 p.1 p.2.1 p.2.2.1 (some (401, rdI M4 sPg))) 11 0 94 (some (401, rdI M sPg)) = Me
  have nE : mN Me = mN M4 := by rw [← hMe]; rfl
  have sE : mS Me = mS M4 := by rw [← hMe]; rfl
  have lE : ∀ f j, mL Me f j = mL M4 f j := fun f j => by rw [← hMe]; rfl
  have cE : ∀ f j k, mI Me f j k = mI M4 f j k := fun f j k => by rw [← hMe]; rfl
  have mP : mR Me 11 0 94 = some (401, rdI M sPg) := by rw [← hMe, mR_sR, if_pos ⟨rfl, rfl, rfl⟩]
  have mp : mR Me p.1 p.2.1 p.2.2.1 = some (401, rdI M4 sPg) := by rw [← hMe, mR_sR, if_neg kp, mR_sR, if_pos ⟨rfl, rfl, rfl⟩]
  have mo : ∀ s ∈ G, s ≠ p → s ≠ sPg → mR Me s.1 s.2.1 s.2.2.1 = mR M4 s.1 s.2.1 s.2.2.1 := fun s hs n1 n2 => by
    rw [← hMe, mR_sR, if_neg (fun z => n2 (hG.1.2 s hs sPg hP z.1 z.2.1 z.2.2)), mR_sR, if_neg (fun z => n1 (hG.1.2 s hs p hp z.1 z.2.1 z.2.2))]
  have iP : rdI Me sPg = rdI M sPg := by
    have : rdI Me sPg = ((mR Me 11 0 94).getD (0, 0)).2 := rfl
    rw [this, mP]; rfl
  have ip : rdI Me p = rdI M4 sPg := by
    have : rdI Me p = ((mR Me p.1 p.2.1 p.2.2.1).getD (0, 0)).2 := rfl
    rw [this, mp]; rfl
  have io : ∀ s ∈ G, s ≠ p → s ≠ sPg → rdI Me s = rdI M4 s := fun s hs n1 n2 => by
    have e : ∀ (X : Mem), rdI X s = ((mR X s.1 s.2.1 s.2.2.1).getD (0, 0)).2 := fun X => rfl
    rw [e, e, mo s hs n1 n2]
  have i4 : ∀ s ∈ G, s ≠ p → s ≠ sPg → rdI M4 s = rdI M s := fun s hs n1 n2 => by
    rw [(h.2.1 s (hin s hs n1) (by simpa using n2)).2.2, r3 s hs n2]
  refine ⟨⟨fun s hs => ?_, fun s hs hx => ?_, ?_⟩, ip⟩
  · by_cases q : s = sPg
    · subst q
      rw [iP, nE]
      refine ⟨⟨mP, z3 _ (by rw [n3]; exact hPm)⟩, fun s' hs' n ef => ?_⟩
      by_cases q' : s' = p
      · rw [q', ip]; exact fun z => hP4 z.symm
      · rw [io s' hs' q' n, i4 s' hs' q' n]; exact (hT sPg hP).2 s' hs' n ef
    · by_cases qp : s = p
      · rw [qp, ip, nE, hf]
        refine ⟨⟨mp, (h.1 sPg hPe).1.2⟩, fun s' hs' n ef => ?_⟩
        by_cases q' : s' = sPg
        · rw [q', iP]; exact hP4
        · rw [io s' hs' n q']; exact (h.1 sPg hPe).2 s' (hin s' hs' n) q' ef
      · obtain ⟨⟨a, b⟩, c⟩ := h.1 s (hin s hs qp)
        rw [io s hs qp q, mo s hs qp q, nE]
        refine ⟨⟨a, b⟩, fun s' hs' n ef => ?_⟩
        by_cases q' : s' = sPg
        · rw [q'] at ef ⊢
          rw [iP, i4 s hs qp q]; exact (hT s hs).2 sPg hP (fun z => q z.symm) ef
        · by_cases qp' : s' = p
          · rw [qp'] at ef ⊢
            rw [ip]; exact c sPg hPe (fun z => q z.symm) (hf.symm.trans ef)
          · rw [io s' hs' qp' q']; exact c s' (hin s' hs' qp') n ef
  · have np : s ≠ p := fun z => hx (by simp [z])
    by_cases q : s = sPg
    · subst q
      refine ⟨fun k => ?_, ?_, iP⟩
      · show mI Me 401 (rdI Me sPg) k = mI M 401 (rdI M sPg) k
        rw [iP, cE, cP, c3]
      · show mL Me 401 (rdI Me sPg) = mL M 401 (rdI M sPg)
        rw [iP, lE, lP, l3]
    · obtain ⟨a, b, c⟩ := h.2.1 s (hin s hs np) (by simpa using q)
      have e3 : ∀ k, rd M3 s k = rd M s k := fun k => by
        unfold rd; rw [r3 s hs q, ← hM3]; rfl
      have f3 : rl M3 s = rl M s := by
        unfold rl; rw [r3 s hs q, ← hM3]; rfl
      refine ⟨fun k => ?_, ?_, ?_⟩
      · rw [← e3 k, ← a k]; unfold rd; rw [io s hs np q, cE]
      · rw [← f3, ← b]; unfold rl; rw [io s hs np q, lE]
      · rw [io s hs np q, i4 s hs np q]
  · have hn : (G.erase p).Nodup := hG.1.1.erase p
    have sub : ∀ s, s ∈ (G.erase p).erase sPg → (s ∈ G ∧ s ≠ p) ∧ s ≠ sPg := fun s hs => by
      obtain ⟨a, b⟩ := hn.mem_erase_iff.1 hs
      obtain ⟨c, d⟩ := hG.1.1.mem_erase_iff.1 b
      exact ⟨⟨d, c⟩, a⟩
    have t0 := h.2.2
    have t1 := rs_erase (M := M) hp
    have t2 := rs_erase (M := M) hPe
    have t3 := rs_erase (M := M3) hPe
    have t4 := rs_erase (M := M4) hPe
    have t5 := rs_erase (M := Me) hp
    have t6 := rs_erase (M := Me) hPe
    have u3 : rs ((G.erase p).erase sPg) M3 = rs ((G.erase p).erase sPg) M := rs_same (fun s hs => by
      obtain ⟨⟨a, b⟩, c⟩ := sub s hs
      unfold rl; rw [r3 s a c, ← hM3]; rfl)
    have u4 : rs ((G.erase p).erase sPg) Me = rs ((G.erase p).erase sPg) M4 := rs_same (fun s hs => by
      obtain ⟨⟨a, b⟩, c⟩ := sub s hs
      unfold rl; rw [io s a b c, lE])
    have v3 : rl M3 sPg = rl M p := by
      show mL M3 401 (rdI M3 sPg) = mL M p.2.2.2 (rdI M p)
      rw [p3, l3, hf]
    have v4 : rl Me p = rl M4 sPg := by
      show mL Me p.2.2.2 (rdI Me p) = mL M4 401 (rdI M4 sPg)
      rw [ip, lE, hf]
    have v5 : rl Me sPg = rl M sPg := by
      show mL Me 401 (rdI Me sPg) = mL M 401 (rdI M sPg)
      rw [iP, lE, lP, l3]
    rw [sE]
    omega
end
