/-! the works' writer: an instruction -/
noncomputable def pnPk (x : Mth) (l : List Nat) : Nat → Pen → Pen
  | 0, p => p
  | k + 1, p => pnLb x (gtn l k) (if k = 0 then pnPk x l k p else pnS 44 (pnPk x l k p))
noncomputable def pnIn (x : Mth) (i : Ins) (p : Pen) : Pen :=
  if i.1 = 1 ∨ (3 ≤ i.1 ∧ i.1 ≤ 7) then (if i.1 = 7 then pnN i.2.2.1 (pnN (iV i) (pnW (wA i.1) p)) else pnN (iV i) (pnW (wA i.1) p))
  else if isJ i.1 then pnLb x (gtn (iT i) 0) (pnW (wA i.1) p)
  else if i.1 = 40 then pnPk x (iT i) (iT i).length (pnN (iV i) (pnW (wA i.1) p))
  else if isN i.1 then pnW (iK i) (pnW (wA i.1) p)
  else if 46 ≤ i.1 ∧ i.1 ≤ 53 then (if 50 ≤ i.1 then pnT (iA i) (iR i) (pnW (iM i) (pnS 46 (pnW (iK i) (pnW (wA i.1) p)))) else pnK (iR i) (pnW (iM i) (pnS 46 (pnW (iK i) (pnW (wA i.1) p)))))
  else pnW (wA i.1) p
theorem pnPk_le {x : Mth} {l : List Nat} {p : Pen} : ∀ {k : Nat}, p.1.length ≤ (pnPk x l k p).1.length
  | 0 => Nat.le_refl _
  | k + 1 => by
    unfold pnPk
    have := pnPk_le (x := x) (l := l) (p := p) (k := k)
    split
    · exact Nat.le_trans this pnB_le
    · exact Nat.le_trans this (Nat.le_trans pnS_le pnB_le)
theorem pnPk_mono {x : Mth} {l : List Nat} {p : Pen} {i : Nat} : ∀ {k : Nat}, i ≤ k → (pnPk x l i p).1.length ≤ (pnPk x l k p).1.length
  | 0, h => by rw [show i = 0 by omega]; exact Nat.le_refl _
  | k + 1, h => by
    by_cases e : i = k + 1
    · rw [e]; exact Nat.le_refl _
    · have h1 := pnPk_mono (x := x) (l := l) (p := p) (i := i) (k := k) (by omega)
      show _ ≤ (pnLb x (gtn l k) (if k = 0 then pnPk x l k p else pnS 44 (pnPk x l k p))).1.length
      split
      · exact Nat.le_trans h1 pnB_le
      · exact Nat.le_trans h1 (Nat.le_trans pnS_le pnB_le)
theorem A0_at {A : List Nm} (hB : Base A) {o : Nat} (ho : o < 62) : A[o]? = some (wA o) := by
  refine hB.at ?_
  have hl : A0.length = 102 := by decide +kernel
  show A0[o]? = some (A0.getD o [])
  rw [List.getD_eq_getElem?_getD, List.getElem?_eq_getElem (by omega)]; rfl
section
variable {A : List Nm} {W : List Cls} {w qi : Nat} {br : Int32} {nq nk np nh nr : Nat} {q : LkS} {M M' : Mem} {Q : Mem → Prop} {p p0 : Pen} {x : Mth} {i : Ins}
/-- an instruction to be written -/
def InW (A : List Nm) (W : List Cls) (w : Nat) (br : Int32) (nq nk np nh nr : Nat) (q : LkS) (qi : Nat) (x : Mth) (i : Ins) (M : Mem) : Prop := KWr A W w br nq nk np nh nr q M ∧ nbD x M ∧ cFi A w nk np nr qi i M ∧ cRm w M
theorem InW.fr (hq : qi < nq) (hK : KB w nq nk np nh nr) (h : InW A W w br nq nk np nh nr q qi x i M) (hf : Fr SPn M M') : InW A W w br nq nk np nh nr q qi x i M' := by
  obtain ⟨h1, h2, h3, h4⟩ := h
  have lo := (h1.1.fr hf).2
  have hb : ∀ f, 55 ≤ f → bL f = 10000000 := fun f h => by unfold bL; rw [if_neg (by omega)]
  have hL := L_le w
  obtain ⟨k1, k2, k3, k4, k5, k6⟩ := hK
  exact ⟨h1.fr hf, h2.fr hf, h3.lo (nq := nq) lo hq (fun f a b => by rw [hb f (by omega)]; omega) (by rw [hb 73 (by omega)]; omega) (by rw [hb 74 (by omega)]; omega) (by rw [hb 76 (by omega)]; omega) (by rw [hb 212 (by omega)]; omega), h4.lo lo⟩
theorem c_ppk (hq : qi < nq) (hK : KB w nq nk np nh nr) (ho : i.1 = 40) (h80 : (co x).length ≤ 80) (ht : ∀ t ∈ iT i, t ≤ (co x).length ∧ tls x t = true) (hl : (pnPk x (iT i) (iT i).length p0).1.length ≤ LPg) : ∀ n j M, j ≤ (iT i).length → (iT i).length - j < n → InW A W w br nq nk np nh nr q qi x i M → cP (pnPk x (iT i) j p0) M → (∀ M', cP (pnPk x (iT i) (iT i).length p0) M' → Fr SPn M M' → Q M') → w_Writer_instruction_L100 0 Q n (Int32.ofNat qi) (Int32.ofNat j) M
  | 0, j, M, hj, hn, hI, h, hQ => absurd hn (by omega)
  | n + 1, j, M, hj, hn, hI, h, hQ => by
    have hL := L_le w
    obtain ⟨hW, hN, hF, hR⟩ := id hI
    obtain ⟨-, ⟨pf, hop, hpk⟩, -⟩ := id hF
    obtain ⟨hp1, hp2⟩ := hpk ho
    have hop : mI M 67 w qi = iV i ∧ mI M 68 w qi = Int32.ofNat pf ∧ mI M 69 w qi = Int32.ofNat (insO i).2.2.1.length := by
      have hop := hop.1
      unfold cOp0 at hop
      rw [ho, if_neg (by decide), if_neg (by decide), if_pos rfl] at hop
      exact hop
    have e69 : mI M 69 w qi = Int32.ofNat (iT i).length := by
      rw [hop.2.2]
      show Int32.ofNat (List.map _ (iT i)).length = _
      rw [List.length_map]
    have hK1 := hK.1
    have hK3 := hK.2.2.1
    have hp1 : pf + (iT i).length ≤ np := hp1
    unfold w_Writer_instruction_L100
    refine ⟨w, hW.2.2.2, ?_⟩
    rw [oN_tnc (k := qi) (by omega), e69, hR.1 69 (by omega) (by omega)]
    refine ⟨(vp_oN (by omega)).mpr (by omega), ?_⟩
    by_cases e : j = (iT i).length
    · subst e
      exact itp (le_oN (Nat.le_refl _) (by omega)) (hQ M h (Fr.rf _ _))
    refine itn (nle_oN (by omega) (by omega)) ?_
    have le1 : (pnPk x (iT i) (j + 1) p0).1.length ≤ LPg := Nat.le_trans (pnPk_mono (by omega)) hl
    have hjl : j < (iT i).length := by omega
    have htj := ht _ (gtn_mem hjl)
    have go : ∀ q1 M1, cP q1 M1 → Fr SPn M M1 → pnLb x (gtn (iT i) j) q1 = pnPk x (iT i) (j + 1) p0 → w_Writer_instruction_j125 0 Q (w_Writer_instruction_L100 0 Q n) (Int32.ofNat qi) (Int32.ofNat j) M1 := fun q1 M1 h1 f1 eq => by
      obtain ⟨hW1, hN1, hF1, hR1⟩ := hI.fr hq hK f1
      unfold w_Writer_instruction_j125
      refine ⟨w, hW1.2.2.2, w, hW1.2.2.2, ?_⟩
      rw [oN_tnc (k := qi) (by omega), (f1.Ia rfl rfl w _).trans hop.2.1, oN_add, oN_tnc (k := pf + j) (by omega), (f1.Ia rfl rfl w _).trans (hp2 j hjl), hR1.1 68 (by omega) (by omega), hR1.2.2.1]
      refine ⟨(vp_oN (by omega)).mpr (by omega), (vp_oN (by omega)).mpr (by omega), ?_⟩
      refine c_plx hN1 h1 htj.1 h80 htj.2 (by rw [eq]; exact le1) (fun M2 h2 f2 => ?_)
      rw [eq] at h2
      rw [lit32 1, oN_add]
      have f12 := f1.trans f2
      exact c_ppk hq hK ho h80 ht hl n (j + 1) M2 (by omega) (by omega) (hI.fr hq hK f12) h2 (fun M3 h3 f3 => hQ M3 h3 (f12.trans f3))
    by_cases e0 : j = 0
    · subst e0
      exact itp (by decide) (go _ M h (Fr.rf _ _) rfl)
    · refine itn (nle_oN (b := 0) (by omega) (by omega)) ?_
      have ek : pnLb x (gtn (iT i) j) (pnS 44 (pnPk x (iT i) j p0)) = pnPk x (iT i) (j + 1) p0 := by
        show _ = pnLb x (gtn (iT i) j) (if j = 0 then pnPk x (iT i) j p0 else pnS 44 (pnPk x (iT i) j p0))
        rw [if_neg e0]
      refine c_ps h ?_ (fun M1 h1 f1 => go _ M1 h1 f1 ek)
      refine Nat.le_trans pnB_le (?_ : (pnLb x (gtn (iT i) j) _).1.length ≤ LPg)
      rw [ek]; exact le1
end
