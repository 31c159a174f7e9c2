/-! the twin writes a method, whole -/
section
variable {G : List Sl} {US : UST} {A : List Nm} {S : List Sg} {W : List Cls} {w : Nat} {br : Int32} {nq nl nf nk : Nat} {P P' : List Int32} {M M1 M' : Mem} {Q : Mem → Prop} {k f q d m q0 c j : Nat} {v : Int32} {x : Mth} {i : Ins}
theorem ct_pMt (hc : c < W.length) (hj : j < (gc W c).2.2.2.2.2.length) (hx : gmt (gc W c) j = x) (hwf : wfQ x) (h : TPn G US A S W w br nq nl nf nk P M) (h518 : mL M 518 0 = 81) (hl : P.length + (txM x).length ≤ LPt) (hQ : ∀ M', TPn G US A S W w br nq nl nf nk (P ++ txM x) M' → PgF G SPu M M' → Q M') : w_Model_putMethod 0 (Int32.ofNat (12 * c + j)) Q M := by
  have hl : P.length + (txM x).length ≤ 26000 := hl
  have h12 := (h.1.1.mcn hc).2
  have h51 := h.1.1.l51
  have hm : 12 * c + j < 612 := by omega
  unfold txM at hl hQ
  rw [List.length_append] at hl
  have emh : txMh x = stW 34 ++ txF x.2.2.2.1 ++ x.1 ++ txT x.2.1 x.2.2.1 ++ [10] := rfl
  have vin : ∀ (g : Nat) {P2 : List Int32} (M2 : Mem), TPn G US A S W w br nq nl nf nk P2 M2 → 144 ≤ g → g ≤ 151 → vp_in (Int32.ofNat (12 * c + j)) (mL M2 g w) := fun g P2 M2 z z1 z2 => by
    rw [z.1.1.ml z1 z2]; exact (vp_oN (by omega)).mpr (by omega)
  have hd : ∀ {P2 : List Int32} {M2 : Mem}, TPn G US A S W w br nq nl nf nk P2 M2 → tHd A S w (12 * c + j) x M2 := fun z => by
    have := z.1.1.hd hc hj
    rw [hx] at this; exact this
  have hl1 : P.length + ((stW 34).length + ((txF x.2.2.2.1).length + (x.1.length + ((txT x.2.1 x.2.2.1).length + 1)))) ≤ 26000 := by
    rw [emh] at hl
    simp only [List.length_append, List.length_singleton] at hl
    omega
  have tm : ∀ z : Nat, z < 1000000 → (Int32.ofNat z).toNatClampNeg = z := fun z hz => oN_tnc (by omega)
  unfold w_Model_putMethod
  refine ct_pW (k := 34) (by decide) h (show _ ≤ 26000 by omega) (fun M1 h1 f1 => ?_)
  obtain ⟨-, -, -, e146, -⟩ := hd h1
  refine ⟨w, h1.1.1.r45, vin 146 M1 h1 (by omega) (by omega), ?_⟩
  rw [tm (12 * c + j) (by omega), e146]
  refine ct_pFl h1 (by simp only [List.length_append]; show _ ≤ 26000; omega) (fun M2 h2 f2 => ?_)
  obtain ⟨⟨e144, m144⟩, -⟩ := hd h2
  refine ⟨w, h2.1.1.r45, vin 144 M2 h2 (by omega) (by omega), ?_⟩
  rw [e144]
  refine ct_pNm m144 h2 (by simp only [List.length_append]; show _ ≤ 26000; omega) (fun M3 h3 f3 => ?_)
  obtain ⟨-, ⟨e145, m145⟩, ⟨k1, k2, k3⟩, -⟩ := hd h3
  refine ⟨w, h3.1.1.r45, vin 145 M3 h3 (by omega) (by omega), ?_⟩
  rw [e145]
  refine ct_pSg m145 k1 k2 h3 (by simp only [List.length_append]; show _ ≤ 26000; omega) (fun M4 h4 f4 => ?_)
  refine ct_pb h4 (by simp only [List.length_append]; show _ < 26000; omega) (fun M5 h5 f5 => ?_)
  have f5 := ((f1.trans f2).trans f3).trans (f4.trans f5)
  have e5 : P ++ stW 34 ++ txF x.2.2.2.1 ++ x.1 ++ txT x.2.1 x.2.2.1 ++ [10] = P ++ txMh x := by rw [emh]; simp only [List.append_assoc]
  rw [e5] at h5
  obtain ⟨-, -, -, e146, -⟩ := hd h5
  refine ⟨w, h5.1.1.r45, vin 146 M5 h5 (by omega) (by omega), ?_⟩
  rw [e146]
  by_cases c8 : x.2.2.2.1 &&& 8 = 0
  · rw [if_pos c8] at hl hQ
    simp only [List.length_append] at hl
    have erm : txRm x = stW 37 ++ dgi x.2.2.2.2.1 ++ [32] ++ dgi x.2.2.2.2.2.1 ++ [10] := rfl
    have hl2 : P.length + ((txMh x).length + ((stW 37).length + ((dgi x.2.2.2.2.1).length + (1 + ((dgi x.2.2.2.2.2.1).length + 1))))) ≤ 26000 := by
      rw [erm] at hl
      simp only [List.length_append, List.length_singleton] at hl
      omega
    refine itp c8 (ct_pW (k := 37) (by decide) h5 (by simp only [List.length_append]; show _ ≤ 26000; omega) (fun M6 h6 f6 => ?_))
    obtain ⟨-, -, -, -, e147, -⟩ := hd h6
    refine ⟨w, h6.1.1.r45, vin 147 M6 h6 (by omega) (by omega), ?_⟩
    rw [e147]
    refine ct_pI h6 (by simp only [List.length_append]; show _ ≤ 26000; omega) (fun M7 h7 f7 => ?_)
    refine ct_pb h7 (by simp only [List.length_append]; show _ < 26000; omega) (fun M8 h8 f8 => ?_)
    obtain ⟨-, -, -, -, -, e148⟩ := hd h8
    refine ⟨w, h8.1.1.r45, vin 148 M8 h8 (by omega) (by omega), ?_⟩
    rw [e148]
    refine ct_pI h8 (by simp only [List.length_append, List.length_singleton]; show _ ≤ 26000; omega) (fun M9 h9 f9 => ?_)
    refine ct_pb h9 (by simp only [List.length_append, List.length_singleton]; show _ < 26000; omega) (fun Ma ha fa => ?_)
    have fa := f5.trans ((f6.trans f7).trans ((f8.trans f9).trans fa))
    have ea : P ++ txMh x ++ stW 37 ++ dgi x.2.2.2.2.1 ++ [32] ++ dgi x.2.2.2.2.2.1 ++ [10] = P ++ txMh x ++ txRm x := by rw [erm]; simp only [List.append_assoc]
    rw [ea] at ha
    obtain ⟨q0, a1, a2, ⟨a3, a4⟩, hI, ⟨a5, a6⟩, hH⟩ := ha.1.1.ms.2.2 c hc j hj
    rw [hx] at a2 a3 a4 hI a5 a6 hH
    have hT : TMt G US A S W w br nq nl nf nk (12 * c + j) q0 x (P ++ txMh x ++ txRm x) Ma := ⟨⟨ha, (fa.2.1.L rfl 0).trans h518⟩, ⟨⟨a1, a2, a5⟩, hI, hH⟩, ⟨a3, hm, ha.1.1.ms.2.1⟩, hwf⟩
    refine ⟨w, ha.1.1.r45, vin 149 Ma ha (by omega) (by omega), w, ha.1.1.r45, vin 150 Ma ha (by omega) (by omega), w, ha.1.1.r45, vin 151 Ma ha (by omega) (by omega), (co x).length + 2, ?_⟩
    rw [a1, show mI Ma 150 w (12 * c + j) = Int32.ofNat (co x).length from a2, show mI Ma 151 w (12 * c + j) = Int32.ofNat (hs x).length from a5, lit32 8, oN_mul, oN_add]
    refine ct_m152 rfl (fun Mb hb tb fb => ⟨(co x).length + 1, ?_⟩) _ 0 Ma (Nat.zero_le _) (by omega) hT (fun j hj => absurd hj (by omega)) (PgF.rf ha.1.1.1.2.2.2)
    refine ct_m359 (P := P ++ txMh x ++ txRm x) rfl (by simp only [List.length_append]; show _ ≤ 26000; omega) _ 0 Mb (Nat.zero_le _) (by omega) (hb.rw (by show _ = _ ++ []; rw [List.append_nil])) tb (fun Mc hc fc => hQ Mc ?_ ((fa.up.trans fb).trans fc.up))
    have := hc.1.1
    simpa only [List.append_assoc] using this
  · rw [if_neg c8] at hl hQ
    refine itn c8 (hQ M5 ?_ f5.up)
    rw [List.append_nil]; exact h5
end
