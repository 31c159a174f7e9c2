/-! the works' writer: a frame -/
section
variable {A : List Nm} {W : List Cls} {w c j kf qi : Nat} {br : Int32} {nq nk np nh nr : Nat} {q : LkS} {M M' : Mem} {Q : Mem → Prop} {p p0 : Pen} {ls ss : List Kd}
theorem fk_pk {κ : Kd} (h : fkOk κ) : pkd κ := by
  unfold pkd
  rcases h with z | z | z | z | z | z
  · rw [z]; exact Or.inl rfl
  · rw [z]; exact Or.inr (Or.inl rfl)
  · rw [z]; exact Or.inr (Or.inr (Or.inr (Or.inl rfl)))
  · rw [z]; exact Or.inr (Or.inr (Or.inr (Or.inr (Or.inl rfl))))
  · rw [z]; exact Or.inr (Or.inr (Or.inr (Or.inr (Or.inr (Or.inl rfl)))))
  · exact Or.inr (Or.inr (Or.inr (Or.inr (Or.inr (Or.inr z)))))
theorem gk_ap2 {ks l : List Kd} {i : Nat} : gk (ks ++ l) (ks.length + i) = gk l i := by
  simp [gk, List.getD_eq_getElem?_getD, List.getElem?_append_right]
/-- what a frame's writing needs -/
def FrW (A : List Nm) (w nk qi kf : Nat) (ls ss : List Kd) (M : Mem) : Prop := (mI M 70 w qi = Int32.ofNat kf ∧ mI M 71 w qi = Int32.ofNat ls.length ∧ mI M 72 w qi = Int32.ofNat ss.length ∧ cKs A w kf (ls ++ ss) M) ∧ (qi < mL M 70 w ∧ qi < mL M 71 w ∧ qi < mL M 72 w ∧ kf + (ls.length + ss.length) ≤ mL M 73 w) ∧ qi < 1000000 ∧ kf + (ls.length + ss.length) < 1000000 ∧ ∀ κ ∈ ls ++ ss, fkOk κ
theorem FrW.fr (h : FrW A w nk qi kf ls ss M) (hf : Fr SPn M M') : FrW A w nk qi kf ls ss M' := by
  obtain ⟨⟨a1, a2, a3, a4⟩, ⟨b1, b2', b3, b4⟩, c⟩ := h
  exact ⟨⟨(hf.Ia rfl rfl w _).trans a1, (hf.Ia rfl rfl w _).trans a2, (hf.Ia rfl rfl w _).trans a3, fun i hi => ⟨(hf.Ia rfl rfl w _).trans (a4 i hi).1, (a4 i hi).2⟩⟩, ⟨by rw [hf.L rfl w]; exact b1, by rw [hf.L rfl w]; exact b2', by rw [hf.L rfl w]; exact b3, by rw [hf.L rfl w]; exact b4⟩, c⟩
theorem c_pfr75 (hA : A.length ≤ 200000) (hl : (pnE (pnKs ss ss.length p0)).1.length ≤ LPg) : ∀ n i M, i ≤ ss.length → ss.length - i < n → KWr A W w br nq nk np nh nr q M → FrW A w nk qi kf ls ss M → cP (pnKs ss i p0) M → (∀ M', cP (pnE (pnKs ss ss.length p0)) M' → Fr SPn M M' → Q M') → w_Writer_frame_L75 0 Q n (Int32.ofNat qi) (Int32.ofNat kf) (Int32.ofNat i) M
  | 0, i, M, hi, hn, hW, hF, h, hQ => absurd hn (by omega)
  | n + 1, i, M, hi, hn, hW, hF, h, hQ => by
    obtain ⟨⟨a1, a2, a3, a4⟩, ⟨b1, b2', b3, b4⟩, c1, c2, c3⟩ := id hF
    have lK := Nat.le_trans pnE_le hl
    unfold w_Writer_frame_L75
    refine ⟨w, hW.2.2.2, ?_⟩
    rw [oN_tnc (k := qi) (by omega), a3]
    refine ⟨(vp_oN (by omega)).mpr b3, ?_⟩
    by_cases e : i = ss.length
    · subst e
      exact itp (le_oN (Nat.le_refl _) (by omega)) (c_pe h hl hQ)
    refine itn (nle_oN (by omega) (by omega)) ?_
    have le1 : (pnKs ss (i + 1) p0).1.length ≤ LPg := Nat.le_trans (pnKs_mono (by omega)) lK
    have go : ∀ q1 M1, cP q1 M1 → Fr SPn M M1 → pnK (gk ss i) q1 = pnKs ss (i + 1) p0 → w_Writer_frame_j98 0 Q (w_Writer_frame_L75 0 Q n) (Int32.ofNat qi) (Int32.ofNat kf) (Int32.ofNat i) M1 := fun q1 M1 h1 f1 eq => by
      have hW1 := hW.fr f1
      obtain ⟨⟨-, x2, -, x4⟩, ⟨-, y2, -, y4⟩, -⟩ := hF.fr f1
      obtain ⟨k1, k2⟩ := x4 (ls.length + i) (by rw [List.length_append]; omega)
      rw [gk_ap2] at k1 k2
      have hfk : fkOk (gk ss i) := c3 _ (List.mem_append.2 (Or.inr (getD_mem (by omega))))
      unfold w_Writer_frame_j98
      refine ⟨w, hW1.2.2.2, w, hW1.2.2.2, ?_⟩
      rw [oN_tnc (k := qi) (by omega), x2, oN_add, oN_add, oN_tnc (k := kf + ls.length + i) (by omega), show kf + ls.length + i = kf + (ls.length + i) by omega, k1]
      refine ⟨(vp_oN (by omega)).mpr y2, (vp_oN (by omega)).mpr (by omega), ?_⟩
      refine c_pk hW1.2.1 hW1.2.2.1 hA h1 (fk_pk hfk) k2 (by rw [eq]; exact le1) (fun M2 h2 f2 => ?_)
      rw [eq] at h2
      rw [lit32 1, oN_add]
      have f12 := f1.trans f2
      exact c_pfr75 hA hl n (i + 1) M2 (by omega) (by omega) (hW.fr f12) (hF.fr f12) h2 (fun M3 h3 f3 => hQ M3 h3 (f12.trans f3))
    by_cases e0 : i = 0
    · subst e0
      exact itp (by decide) (go _ M h (Fr.rf _ _) rfl)
    · refine itn (nle_oN (b := 0) (by omega) (by omega)) ?_
      have ek : pnK (gk ss i) (pnS 44 (pnKs ss i p0)) = pnKs ss (i + 1) p0 := by
        show _ = pnK (gk ss i) (if i = 0 then pnKs ss i p0 else pnS 44 (pnKs ss i p0))
        rw [if_neg e0]
      refine c_ps h ?_ (fun M1 h1 f1 => go _ M1 h1 f1 ek)
      refine Nat.le_trans pnK_le (?_ : (pnK (gk ss i) _).1.length ≤ LPg)
      rw [ek]; exact le1
theorem c_pfr23 (hA : A.length ≤ 200000) (hl : (pnE (pnKs ss ss.length (pnS 59 (pnKs ls ls.length p0)))).1.length ≤ LPg) : ∀ n i M, i ≤ ls.length → ls.length - i < n → KWr A W w br nq nk np nh nr q M → FrW A w nk qi kf ls ss M → cP (pnKs ls i p0) M → (∀ M', cP (pnE (pnKs ss ss.length (pnS 59 (pnKs ls ls.length p0)))) M' → Fr SPn M M' → Q M') → w_Writer_frame_L23 0 Q n (Int32.ofNat qi) (Int32.ofNat kf) (Int32.ofNat i) M
  | 0, i, M, hi, hn, hW, hF, h, hQ => absurd hn (by omega)
  | n + 1, i, M, hi, hn, hW, hF, h, hQ => by
    obtain ⟨⟨a1, a2, a3, a4⟩, ⟨b1, b2', b3, b4⟩, c1, c2, c3⟩ := id hF
    have lS : (pnS 59 (pnKs ls ls.length p0)).1.length ≤ LPg := Nat.le_trans pnKs_le (Nat.le_trans pnE_le hl)
    have lK := Nat.le_trans pnS_le lS
    unfold w_Writer_frame_L23
    refine ⟨w, hW.2.2.2, ?_⟩
    rw [oN_tnc (k := qi) (by omega), a2]
    refine ⟨(vp_oN (by omega)).mpr b2', ?_⟩
    by_cases e : i = ls.length
    · subst e
      refine itp (le_oN (Nat.le_refl _) (by omega)) (c_ps h lS (fun M1 h1 f1 => ⟨ss.length + 1, ?_⟩))
      exact c_pfr75 hA hl _ 0 M1 (Nat.zero_le _) (by omega) (hW.fr f1) (hF.fr f1) h1 (fun M2 h2 f2 => hQ M2 h2 (f1.trans f2))
    refine itn (nle_oN (by omega) (by omega)) ?_
    have le1 : (pnKs ls (i + 1) p0).1.length ≤ LPg := Nat.le_trans (pnKs_mono (by omega)) lK
    have go : ∀ q1 M1, cP q1 M1 → Fr SPn M M1 → pnK (gk ls i) q1 = pnKs ls (i + 1) p0 → w_Writer_frame_j46 0 Q (w_Writer_frame_L23 0 Q n) (Int32.ofNat qi) (Int32.ofNat kf) (Int32.ofNat i) M1 := fun q1 M1 h1 f1 eq => by
      have hW1 := hW.fr f1
      obtain ⟨⟨-, x2, -, x4⟩, ⟨-, y2, -, y4⟩, -⟩ := hF.fr f1
      obtain ⟨k1, k2⟩ := x4 i (by rw [List.length_append]; omega)
      rw [gk_app1 (by omega)] at k1 k2
      have hfk : fkOk (gk ls i) := c3 _ (List.mem_append.2 (Or.inl (getD_mem (by omega))))
      unfold w_Writer_frame_j46
      refine ⟨w, hW1.2.2.2, ?_⟩
      rw [oN_add, oN_tnc (k := kf + i) (by omega), k1]
      refine ⟨(vp_oN (by omega)).mpr (by omega), ?_⟩
      refine c_pk hW1.2.1 hW1.2.2.1 hA h1 (fk_pk hfk) k2 (by rw [eq]; exact le1) (fun M2 h2 f2 => ?_)
      rw [eq] at h2
      rw [lit32 1, oN_add]
      have f12 := f1.trans f2
      exact c_pfr23 hA hl n (i + 1) M2 (by omega) (by omega) (hW.fr f12) (hF.fr f12) h2 (fun M3 h3 f3 => hQ M3 h3 (f12.trans f3))
    by_cases e0 : i = 0
    · subst e0
      exact itp (by decide) (go _ M h (Fr.rf _ _) rfl)
    · refine itn (nle_oN (b := 0) (by omega) (by omega)) ?_
      have ek : pnK (gk ls i) (pnS 44 (pnKs ls i p0)) = pnKs ls (i + 1) p0 := by
        show _ = pnK (gk ls i) (if i = 0 then pnKs ls i p0 else pnS 44 (pnKs ls i p0))
        rw [if_neg e0]
      refine c_ps h ?_ (fun M1 h1 f1 => go _ M1 h1 f1 ek)
      refine Nat.le_trans pnK_le (?_ : (pnK (gk ls i) _).1.length ≤ LPg)
      rw [ek]; exact le1
theorem c_pframe (hA : A.length ≤ 200000) (hW : KWr A W w br nq nk np nh nr q M) (hF : FrW A w nk qi kf ls ss M) (h : cP p M) (hl : (pnFr (ls, ss) p).1.length ≤ LPg) (hQ : ∀ M', cP (pnFr (ls, ss) p) M' → Fr SPn M M' → Q M') : w_Writer_frame 0 (Int32.ofNat qi) Q M := by
  unfold pnFr at hl hQ
  dsimp only at hl hQ
  have lA : (pnW (wA 66) (pnL 2 p)).1.length ≤ LPg := Nat.le_trans pnKs_le (Nat.le_trans pnS_le (Nat.le_trans pnKs_le (Nat.le_trans pnE_le hl)))
  have lL := Nat.le_trans pnW_le lA
  unfold w_Writer_frame
  refine c_pl (n := 2) (by omega) h lL (fun M1 h1 f1 => ?_)
  refine c_pw (k := 66) (hW.fr f1).2.1 h1 (hW.2.2.1.at (by decide +kernel)) lA (fun M2 h2 f2 => ?_)
  have f2 := f1.trans f2
  obtain ⟨⟨x1, -⟩, ⟨y1, -⟩, c1, -⟩ := hF.fr f2
  refine ⟨w, (hW.fr f2).2.2.2, (vp_oN (by omega)).mpr y1, ls.length + 1, ?_⟩
  rw [oN_tnc (k := qi) (by omega), x1]
  exact c_pfr23 hA hl _ 0 M2 (Nat.zero_le _) (by omega) (hW.fr f2) (hF.fr f2) h2 (fun M3 h3 f3 => hQ M3 h3 (f2.trans f3))
end
