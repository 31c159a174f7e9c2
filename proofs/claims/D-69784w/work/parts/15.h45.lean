/-! THE OPERATION name (printed by gen/nm.py) -/
def chO (nm : Nm) (a : Int32) : Int32 := if a < 0 ∨ Int32.ofNat nm.length ≤ a then -1 else gb0 nm a.toNatClampNeg
def nmO (W : List Cls) (i : Nat) (d e a : Int32) : Int32 := if d < 0 ∨ 1 < d then -1 else if e = -1 then chO (gc W i).1 a
  else if d = 0 then (if e < 0 ∨ Int32.ofNat (gc W i).2.2.2.2.1.length ≤ e then -1 else chO (gfl (gc W i) e.toNatClampNeg).1 a)
  else (if e < 0 ∨ Int32.ofNat (gc W i).2.2.2.2.2.length ≤ e then -1 else chO (gmt (gc W i) e.toNatClampNeg).1 a)
def namO (W : List Cls) (c d e a : Int32) : Int32 := if c < 0 ∨ Int32.ofNat W.length ≤ c then -1 else nmO W c.toNatClampNeg d e a
theorem chO_out {nm : Nm} {a : Int32} (h : nm.length ≤ 12) (ha : a < 0 ∨ 11 < a) : chO nm a = -1 := by
  unfold chO
  refine if_pos ?_
  rcases ha with z | z
  · exact Or.inl z
  · refine Or.inr ?_
    rw [Int32.lt_iff_toInt_lt, show (11 : Int32).toInt = 11 from rfl] at z
    rw [Int32.le_iff_toInt_le, oN_toInt (show nm.length < 2147483648 by omega)]
    omega
section
variable {A : List Nm} {W : List Cls} {k C B F K w n : Nat} {br a b c d e : Int32} {nq nk np nh nr : Nat} {s : Ms} {M M' : Mem} {Q : Int32 → Mem → Prop} {on : Nat → Bool} {nm : Nm}
theorem c_ch (hC : CNm A M) (hm : nm ∈ A) (h0 : ¬ a < 0) (h1 : ¬ 11 < a) (hQ : Q (chO nm a) M) : w_Works_name_j128 0 Q a (nc A nm) M := by
  obtain ⟨n, hn, en, en2⟩ := i61 (m := 11) (by decide) h0 h1
  have hi := List.idxOf_lt_length_of_mem hm
  have hk : A[A.idxOf nm]? = some nm := by rw [List.getElem?_eq_getElem hi, List.getElem_idxOf hi]
  obtain ⟨hl, hb⟩ := hC.2.1 nm hm
  unfold chO at hQ
  unfold w_Works_name_j128
  rw [en]
  refine c_at hC hk (by omega) ?_
  rw [en2] at hQ
  by_cases c2 : Int32.ofNat nm.length ≤ a
  · rw [if_pos (Or.inr c2)] at hQ
    rw [en] at c2
    have c2 := (oN_le (by omega) (by omega)).mp c2
    refine itp ?_ hQ
    show nm.getD n 0 = 0
    rw [List.getD_eq_getElem?_getD, List.getElem?_eq_none (by omega)]; rfl
  · rw [if_neg (fun z => z.elim h0 c2)] at hQ
    rw [en] at c2
    have c2 : n < nm.length := by
      rcases Nat.lt_or_ge n nm.length with z | z
      · exact z
      · exact absurd ((oN_le (by omega) (by omega)).mpr z) c2
    obtain ⟨y, y1, y2, ey⟩ := hb (gb0 nm n) (getD_mem c2)
    refine itn (fun z => ?_) hQ
    rw [ey] at z
    have := (oN_inj (b := 0) (by omega) (by omega)).mp z
    omega
theorem c_wname (hk : k < 3) (hOn : cOn on M) (hon : on k = true) (hW : WO W) (hC : CNm A M) (h : RA A W (k + 1) br nq nk np nh nr C B F s M) (hQ : Q (namO W c d e a) M) : w_Works_name 0 (Int32.ofNat k) c d e a Q M := by
  unfold namO at hQ
  unfold w_Works_name
  refine c_isClass hk hOn hon hW.1.1 hW.2.2.2 h.1.1.1.1.1.1.1.1 (fun z => by rw [if_pos z] at hQ; exact itp rfl hQ) (fun i hi ei ei2 nz => ?_)
  rw [if_neg nz, ei2] at hQ
  obtain ⟨a1, a2⟩ := hOn.at hk hon
  have h51 := hW.2.2.2
  have hcw := h.1.1.1
  obtain ⟨e36, m36⟩ := hcw.1.1.1.2 i hi
  have l36 : mL M 36 (k + 1) = 51 := hcw.1.1.1.1.2.1
  refine itn (by decide) ?_
  unfold nmO at hQ
  unfold w_Works_isIn
  by_cases d0 : d < 0
  · rw [if_pos (Or.inl d0)] at hQ
    exact itp d0 (itp rfl hQ)
  refine itn d0 ?_
  by_cases d1 : 1 < d
  · rw [if_pos (Or.inr d1)] at hQ
    exact itp d1 (itp rfl hQ)
  rw [if_neg (fun z => z.elim d0 d1)] at hQ
  refine itn d1 (itn (by decide) ?_)
  obtain ⟨⟨-, ⟨l49, -⟩, l41, l42⟩, fl2, fl3⟩ := hcw.1.2.1
  obtain ⟨⟨e41, e42⟩, h8, -⟩ := fl2 i hi
  obtain ⟨e43, e44, m3, m4, -⟩ := hcw.mo (e := 0) hi
  have l44 : mL M 44 (k + 1) = 51 := hcw.2.1.1.1.2
  have l43 : mL M 43 (k + 1) = 51 := hcw.2.1.1.1.1
  have hfo := foff_le (W := W) (fun c hc => ⟨(fl2 c hc).2.1, (fl2 c hc).2.2⟩) W.length (Nat.le_refl _)
  rw [foff_all] at hfo
  -- a name is short
  have sh : a < 0 ∨ 11 < a → Q (-1) M := fun ha => by
    have so : ∀ nm, nm ∈ A → chO nm a = -1 := fun nm hm => chO_out (hC.2.1 nm hm).1 ha
    by_cases z1 : e = -1
    · rw [if_pos z1, so _ m36] at hQ; exact hQ
    rw [if_neg z1] at hQ
    by_cases z2 : d = 0
    · rw [if_pos z2] at hQ
      by_cases z3 : e < 0 ∨ Int32.ofNat (gc W i).2.2.2.2.1.length ≤ e
      · rw [if_pos z3] at hQ; exact hQ
      · rw [if_neg z3] at hQ
        have hj := idx_lt (by omega) (fun z => z3 (Or.inl z)) (fun z => z3 (Or.inr z))
        obtain ⟨g1, g2⟩ := gF1_at hi hj
        have := (fl3 _ g1).1.2
        rw [g2] at this
        rw [so _ this] at hQ; exact hQ
    · rw [if_neg z2] at hQ
      by_cases z3 : e < 0 ∨ Int32.ofNat (gc W i).2.2.2.2.2.length ≤ e
      · rw [if_pos z3] at hQ; exact hQ
      · rw [if_neg z3] at hQ
        have hj := idx_lt (by omega) (fun z => z3 (Or.inl z)) (fun z => z3 (Or.inr z))
        rw [so _ (hcw.2.1.2.2 i hi _ hj).1.2.1.2] at hQ; exact hQ
  by_cases a0 : a < 0
  · exact itp a0 (itp rfl (sh (Or.inl a0)))
  refine itn a0 ?_
  by_cases a11 : 11 < a
  · exact itp a11 (itp rfl (sh (Or.inr a11)))
  refine itn a11 (itn (by decide) ⟨a1, k + 1, a2, ?_⟩)
  rw [ei, oN_tnc (k := i) (by omega), e36]
  refine ⟨by rw [l36]; exact (vp_oN (by omega)).mpr (by omega), ?_⟩
  by_cases z1 : e = -1
  · rw [if_pos z1] at hQ
    exact itp z1 (c_ch hC m36 a0 a11 hQ)
  rw [if_neg z1] at hQ
  refine itn z1 ?_
  unfold w_Works_name_j87 w_Works_name_j126
  by_cases z2 : d = 0
  · rw [if_pos z2] at hQ
    refine itp z2 ?_
    unfold w_Works_isField
    rw [oN_tnc (k := i) (by omega), e42]
    refine ⟨by rw [l42]; exact (vp_oN (by omega)).mpr (by omega), c_isIn1 (by omega) (fun z => ⟨Or.inl rfl, ?_⟩) (fun j hj ej ej2 nb => ⟨Or.inr rfl, ?_⟩)⟩
    · rw [if_pos z] at hQ; exact itp rfl hQ
    rw [if_neg nb, ej2] at hQ
    obtain ⟨g1, g2⟩ := gF1_at hi hj
    obtain ⟨⟨k49, m49⟩, -⟩ := fl3 _ g1
    rw [g2] at k49 m49
    refine itn (by decide) (itp z2 ⟨by rw [l41]; exact (vp_oN (by omega)).mpr (by omega), ?_⟩)
    rw [ej, e41, oN_add, oN_tnc (k := foff W i + j) (by omega), k49]
    exact ⟨by rw [l49]; exact (vp_oN (by omega)).mpr (by omega), c_ch hC m49 a0 a11 hQ⟩
  · rw [if_neg z2] at hQ
    refine itn z2 ?_
    unfold w_Works_isMethod
    rw [oN_tnc (k := i) (by omega), e44]
    refine ⟨by rw [l44]; exact (vp_oN (by omega)).mpr (by omega), c_isIn1 (by omega) (fun z => ⟨Or.inl rfl, ?_⟩) (fun j hj ej ej2 nb => ⟨Or.inr rfl, ?_⟩)⟩
    · rw [if_pos z] at hQ; exact itp rfl hQ
    rw [if_neg nb, ej2] at hQ
    obtain ⟨k56, m56⟩ := (hcw.2.1.2.2 i hi j hj).1.2.1
    refine itn (by decide) (itn z2 ⟨by rw [l43]; exact (vp_oN (by omega)).mpr (by omega), ?_⟩)
    rw [ej, e43, oN_add, oN_tnc (k := moff W i + j) (by omega), k56]
    exact ⟨by rw [hcw.2.1.1.2.1 56 (by omega) (by omega)]; exact (vp_oN (by omega)).mpr (by omega), c_ch hC m56 a0 a11 hQ⟩
end
section
variable {G : List Sl} {US : UST} {A : List Nm} {S : List Sg} {W : List Cls} {k C B F K ud t w : Nat} {br a b c d e x : Int32} {nq nl nf nk : Nat} {s : Ms} {M M' : Mem} {Q : Int32 → Mem → Prop} {on : Nat → Bool} {nm : Nm}
theorem ct_ch (h : TB G US A S W w br nq nl nf nk M) (hm : nm ∈ A) (hQ : Q (chO nm a) M) : w_Model_name_j110 0 Q a (nc A nm) M := by
  obtain ⟨⟨-, hl, -, q1, q2, -⟩, ⟨-, hok⟩, hr, -⟩ := h.1.2.1.1.1
  have hi := List.idxOf_lt_length_of_mem hm
  have eg : gn A (A.idxOf nm) = nm := by
    show A.getD _ _ = _
    rw [List.getD_eq_getElem?_getD, List.getElem?_eq_getElem hi]
    exact List.getElem_idxOf hi
  obtain ⟨r1, r2, -⟩ := hr _ hi
  rw [eg] at r1 r2
  have hl12 := (hok nm hm).1
  have sB1 := (h.1.2.2.2 sB h.2.1.1.2.1.1).1.1
  have sZ1 := (h.1.2.2.2 sZ h.2.1.1.2.1.2.1).1.1
  have q1 : 12 * A.length ≤ mL M 401 (rdI M sB) := q1
  have q2 : A.length ≤ mL M 401 (rdI M sZ) := q2
  have r1 : mI M 401 (rdI M sZ) (A.idxOf nm) = Int32.ofNat nm.length := r1
  have r2 : ∀ j, j < nm.length → mI M 401 (rdI M sB) (12 * A.idxOf nm + j) = gb0 nm j := r2
  unfold chO at hQ
  unfold w_Model_name_j110
  by_cases a0 : a < 0
  · rw [if_pos (Or.inl a0)] at hQ
    exact itp a0 hQ
  refine itn a0 ⟨_, sZ1, ?_⟩
  show vp_in (Int32.ofNat (A.idxOf nm)) _ ∧ (if a < mI M 401 _ (Int32.ofNat (A.idxOf nm)).toNatClampNeg then _ else _)
  rw [oN_tnc (k := A.idxOf nm) (by omega), r1]
  refine ⟨(vp_oN (by omega)).mpr (by omega), ?_⟩
  by_cases a1 : Int32.ofNat nm.length ≤ a
  · rw [if_pos (Or.inr a1)] at hQ
    exact itn (Int32.not_lt.mpr a1) hQ
  rw [if_neg (fun z => z.elim a0 a1)] at hQ
  have hj := idx_lt (by omega) a0 a1
  refine itp (Int32.not_le.mp a1) ⟨_, sB1, ?_⟩
  have ha := (tnc_oN a0).symm
  generalize a.toNatClampNeg = j at hj ha hQ
  subst ha
  show vp_in ((12 : Int32) * Int32.ofNat (A.idxOf nm) + Int32.ofNat j) _ ∧ Q (mI M 401 _ ((12 : Int32) * Int32.ofNat (A.idxOf nm) + Int32.ofNat j).toNatClampNeg) M
  rw [show (12 : Int32) * Int32.ofNat (A.idxOf nm) = Int32.ofNat (12 * A.idxOf nm) from oN_mul 12 _, oN_add, oN_tnc (k := 12 * A.idxOf nm + j) (by omega), r2 j hj]
  exact ⟨(vp_oN (by omega)).mpr (by omega), hQ⟩
theorem ct_wname (hk : k < 3) (hOn : tOn on M) (hon : on k = true) (hW : WO W) (h : TAx G US A S W k br nq nl nf nk B F x s M) (hQ : Q (namO W c d e a) M) : w_Model_name 0 (Int32.ofNat k) c d e a Q M := by
  have hT : TA G US A S W k br nq nl nf nk B F x s (sR M 11 0 45 (some (12, k))) := h
  have ch : ∀ nm, nm ∈ A → Q (chO nm a) M → w_Model_name_j110 0 Q a (nc A nm) M := fun nm hm hq => by
    have g := ct_ch (Q := fun r _ => Q r M) hT.1.1 hm hq
    unfold w_Model_name_j110 at g ⊢
    exact g
  unfold namO at hQ
  unfold w_Model_name
  refine ct_isClass hk hOn hon hW.2.2.2 (show mI M 12 k 2 = _ from hT.1.1.cl.1.1.1) (fun z => by rw [if_pos z] at hQ; exact itp rfl hQ) (fun i hi ei ei2 nz => ?_)
  rw [if_neg nz, ei2] at hQ
  obtain ⟨a1, a2⟩ := hOn.at hk
  have h51 := hW.2.2.2
  refine itn (by decide) ?_
  unfold nmO at hQ
  by_cases d0 : d < 0
  · rw [if_pos (Or.inl d0)] at hQ
    exact itp d0 hQ
  refine itn d0 ?_
  by_cases d1 : 1 < d
  · rw [if_pos (Or.inr d1)] at hQ
    exact itp d1 hQ
  rw [if_neg (fun z => z.elim d0 d1)] at hQ
  refine itn d1 ?_
  obtain ⟨⟨l139, -⟩, hf⟩ := hT.1.1.1.1.1.2.1
  obtain ⟨⟨e135, h8⟩, hf⟩ := hf i hi
  have l139 : mL M 139 k = 408 := l139
  have l135 : mL M 135 k = 51 := hT.1.1.1.1.1.1.2.2.2.1
  have l136 : mL M 136 k = 51 := hT.1.1.1.1.1.1.2.2.2.2.1
  have l130 : mL M 130 k = 51 := hT.1.1.cl.1.1.2.1
  have e135 : mI M 135 k i = Int32.ofNat (gc W i).2.2.2.2.1.length := e135
  have e136 : mI M 136 k i = Int32.ofNat (gc W i).2.2.2.2.2.length := (hT.1.1.mcn hi).1
  have h12 := (hT.1.1.mcn hi).2
  obtain ⟨e130, m130⟩ := hT.1.1.cl.1.2 i hi
  have e130 : mI M 130 k i = nc A (gc W i).1 := e130
  have vv : ∀ {m : Nat}, m = 51 → vp_in (Int32.ofNat i) m := fun e => by rw [e]; exact (vp_oN (by omega)).mpr (by omega)
  by_cases em : -1 ≤ e
  · refine itp em ⟨a1, k, a2, ?_⟩
    rw [ei, oN_tnc (k := i) (by omega), e135, e136]
    unfold w_Model_name_j57
    -- the class itself
    have own : e = -1 → ∀ n : Nat, n < 1000 → (if e < Int32.ofNat n then (if 0 ≤ e then (if d = 0 then (vp_in (((8 : Int32) * Int32.ofNat i) + e) (mL M 139 k) ∧ w_Model_name_j110 0 Q a (mI M 139 k (((8 : Int32) * Int32.ofNat i) + e).toNatClampNeg) M) else (vp_in (((12 : Int32) * Int32.ofNat i) + e) (mL M 144 k) ∧ w_Model_name_j110 0 Q a (mI M 144 k (((12 : Int32) * Int32.ofNat i) + e).toNatClampNeg) M)) else (vp_in (Int32.ofNat i) (mL M 130 k) ∧ w_Model_name_j110 0 Q a (mI M 130 k (Int32.ofNat i).toNatClampNeg) M)) else (Q (-1 : Int32) M)) := fun z n hn => by
      rw [if_pos z] at hQ
      refine itp (by rw [z]; exact Int32.lt_of_lt_of_le (show (-1 : Int32) < 0 by decide) (oN_zero_le (by omega))) (itn (by rw [z]; decide) ⟨vv l130, ?_⟩)
      rw [oN_tnc (k := i) (by omega), e130]
      exact ch _ m130 hQ
    by_cases z1 : e = -1
    · by_cases z2 : d = 0
      · exact itp z2 ⟨vv l135, own z1 _ (by omega)⟩
      · exact itn z2 ⟨vv l136, own z1 _ (by omega)⟩
    rw [if_neg z1] at hQ
    have e0 : ¬ e < 0 := fun z => z1 (by
      rw [Int32.le_iff_toInt_le, show (-1 : Int32).toInt = -1 from rfl] at em
      rw [Int32.lt_iff_toInt_lt, show (0 : Int32).toInt = 0 from rfl] at z
      exact Int32.toInt_inj.mp (show e.toInt = -1 by omega))
    by_cases z2 : d = 0
    · rw [if_pos z2] at hQ
      refine itp z2 ⟨vv l135, ?_⟩
      by_cases b1 : Int32.ofNat (gc W i).2.2.2.2.1.length ≤ e
      · rw [if_pos (Or.inr b1)] at hQ
        exact itn (Int32.not_lt.mpr b1) hQ
      rw [if_neg (fun z => z.elim e0 b1)] at hQ
      have hj := idx_lt (by omega) e0 b1
      refine itp (Int32.not_le.mp b1) (itp (Int32.not_lt.mp e0) (itp z2 ?_))
      have he := (tnc_oN e0).symm
      generalize e.toNatClampNeg = j at hj he hQ
      rw [he]
      obtain ⟨⟨k139, m139⟩, -⟩ := hf j hj
      have k139 : mI M 139 k (8 * i + j) = nc A (gfl (gc W i) j).1 := k139
      rw [show (8 : Int32) * Int32.ofNat i = Int32.ofNat (8 * i) from oN_mul 8 _, oN_add, oN_tnc (k := 8 * i + j) (by omega), k139]
      exact ⟨by rw [l139]; exact (vp_oN (by omega)).mpr (by omega), ch _ m139 hQ⟩
    · rw [if_neg z2] at hQ
      refine itn z2 ⟨vv l136, ?_⟩
      by_cases b1 : Int32.ofNat (gc W i).2.2.2.2.2.length ≤ e
      · rw [if_pos (Or.inr b1)] at hQ
        exact itn (Int32.not_lt.mpr b1) hQ
      rw [if_neg (fun z => z.elim e0 b1)] at hQ
      have hj := idx_lt (by omega) e0 b1
      refine itp (Int32.not_le.mp b1) (itp (Int32.not_lt.mp e0) (itn z2 ?_))
      have he := (tnc_oN e0).symm
      generalize e.toNatClampNeg = j at hj he hQ
      rw [he]
      obtain ⟨k144, m144⟩ := (hT.1.1.hd hi hj).1
      have k144 : mI M 144 k (12 * i + j) = nc A (gmt (gc W i) j).1 := k144
      have l144 : mL M 144 k = 612 := hT.1.1.ml (f := 144) (by omega) (by omega)
      rw [show (12 : Int32) * Int32.ofNat i = Int32.ofNat (12 * i) from oN_mul 12 _, oN_add, oN_tnc (k := 12 * i + j) (by omega), k144]
      exact ⟨by rw [l144]; exact (vp_oN (by omega)).mpr (by omega), ch _ m144 hQ⟩
  · have he0 : e < 0 := Int32.lt_trans (Int32.not_le.mp em) (by decide)
    rw [if_neg (fun z => em (by rw [z]; decide)), if_pos (Or.inl he0), if_pos (Or.inl he0)] at hQ
    have hQ : Q (-1) M := by split at hQ <;> exact hQ
    exact itn em hQ
end
