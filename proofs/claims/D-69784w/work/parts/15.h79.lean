/-! THE OPERATION foretell: spec, in the works -/
noncomputable def frtC (br : Int32) (W : List Cls) (c : Nat) (x : Mth) : List Ins → Nat → Nat → LkS → (Nat ⊕ (Nat × Int32)) × LkS
  | [], _, left, L => (.inl left, L)
  | i :: is, k, left, L => match fIns br W L c x i with
    | (.inl e, L') => if left = 0 then (.inr (k, e), L') else frtC br W c x is (k + 1) (left - 1) L'
    | (.inr _, L') => frtC br W c x is (k + 1) left L'
noncomputable def frtM (br : Int32) (W : List Cls) (c : Nat) : List Mth → Nat → Nat → LkS → Option (Nat × Nat × Int32) × LkS
  | [], _, _, L => (none, L)
  | x :: xs, j, left, L => match frtC br W c x (co x) 0 left L with
    | (.inr (k, e), L') => (some (j, k, e), L')
    | (.inl left', L') => frtM br W c xs (j + 1) left' L'
theorem frtM_c {br : Int32} {W : List Cls} {c : Nat} {x : Mth} {xs : List Mth} {j left : Nat} {L : LkS} : frtM br W c (x :: xs) j left L = match frtC br W c x (co x) 0 left L with
    | (.inr (k, e), L') => (some (j, k, e), L')
    | (.inl left', L') => frtM br W c xs (j + 1) left' L' := rfl
def frtA (b : Int32) : Option (Nat × Nat × Int32) → Int32
  | none => -2
  | some (j, k, e) => if b = 0 then Int32.ofNat j else if b = 1 then Int32.ofNat k else e / 100
noncomputable def frtO (br : Int32) (W : List Cls) (c a b : Int32) (s : Ms) : Int32 × Ms := if (c < 0 ∨ Int32.ofNat W.length ≤ c) ∨ a < 0 ∨ b < 0 ∨ 2 < b then (-1, s)
  else (frtA b (frtM br W c.toNatClampNeg (gc W c.toNatClampNeg).2.2.2.2.2 0 a.toNatClampNeg (zL s)).1, yL s (frtM br W c.toNatClampNeg (gc W c.toNatClampNeg).2.2.2.2.2 0 a.toNatClampNeg (zL s)).2)
theorem oN_pred {x : Nat} (h : 1 ≤ x) : Int32.ofNat x + (-1) = Int32.ofNat (x - 1) := (Int32.sub_eq_add_neg (Int32.ofNat x) 1).symm.trans (sub_n (n := 1) h)
section
variable {A : List Nm} {W : List Cls} {w k C B F K c j : Nat} {br a b cc : Int32} {nq nk np nh nr : Nat} {s : Ms} {M M' : Mem} {Q : Int32 → Mem → Prop} {on : Nat → Bool} {L : LkS} {x : Mth}
theorem LkM.tr {a b c : LkS} (h : LkM W a b) (h1 : LkM W b c) : LkM W a c := ⟨h1.1, fun k z => h1.2 k (h.2 k z)⟩
theorem wo_ins (hW : WO W) (hc : c < W.length) (hj : j < (gc W c).2.2.2.2.2.length) {i : Ins} (hi : i ∈ co (gmt (gc W c) j)) : wfI (co (gmt (gc W c) j)).length i := by
  by_cases h : 21 ≤ c
  · refine (hW.2.1 c h hc _ ?_).2.2.1.2 i hi
    show (gc W c).2.2.2.2.2.getD j _ ∈ _
    rw [List.getD_eq_getElem?_getD, List.getElem?_eq_getElem hj]; exact List.getElem_mem hj
  · have e := hW.1.2 c (by omega)
    rw [e] at hi hj
    have hm := (W21_m c (by omega)).1
    rw [hm] at hj
    have : j = 0 := by simp at hj; exact hj
    subst this
    have : gmt (gc W21 c) 0 = (nMake, [], (-4, []), 0, 0, 0, [], []) := by show (gc W21 c).2.2.2.2.2.getD 0 _ = _; rw [hm]; rfl
    rw [this] at hi
    exact absurd (show i ∈ ([] : List Ins) from hi) List.not_mem_nil
theorem CWx.rfx {r : Nat} {i : Ins} {n : Nat} (hK : KB w nq nk np nh nr) (h : CWx A W w br nq nk np nh nr M) (hwf : wfI n i) (hr : r < nr) (hc : cRf A w r (iK i) (iM i) (iA i) (iR i) M) : RfX A w r (iK i) (xi i) M := by
  have hL := h.2.2.2.1
  have hLb := L_le w
  obtain ⟨-, -, -, -, k1, k2⟩ := hK
  refine ⟨hc, ⟨hwf.2.2.2.1, fun κ hκ => (hwf.2.1.2.2.2.2.1 κ hκ).kd, hwf.2.1.2.2.2.2.2.1⟩, ⟨?_, ?_⟩, ?_, ?_⟩
  · rw [hL.2.2.2.2.1]; omega
  · rw [hL.2.2.2.2.1]; omega
  · rw [hL.2.2.2.2.2.1]; omega
  · rw [hL.2.2.2.2.2.1]; omega
theorem gin_at {l : List Ins} {k : Nat} {i : Ins} {is : List Ins} (h : l.drop k = i :: is) : k < l.length ∧ gin l k = i ∧ l.drop (k + 1) = is := by
  have hk : k < l.length := Classical.byContradiction fun z => by rw [List.drop_eq_nil_of_le (by omega)] at h; cases h
  rw [List.drop_eq_getElem_cons hk] at h
  have := List.cons.inj h
  refine ⟨hk, ?_, this.2⟩
  show l.getD k _ = i
  rw [List.getD_eq_getElem?_getD, List.getElem?_eq_getElem hk, ← this.1]; rfl
/-- the instructions of a method -/
theorem c_frtC (hW : WO W) (hK : KB w nq nk np nh nr) (hnA : nA A) (hc : c < W.length) (hj : j < (gc W c).2.2.2.2.2.length) {k45 : Int32 → Int32 → Nat → Int32 → Int32 → Mem → Prop} {R : (Nat ⊕ (Nat × Int32)) × LkS} {L0 : LkS}
    (hfin : ∀ left L' M', LKw A W w br nq nk np nh nr L' M' → cSt w M' → LkM W L0 L' → left < 2147483648 → R = (.inl left, L') → k45 (Int32.ofNat c) b w (Int32.ofNat left) (Int32.ofNat (moff W c + j + 1)) M')
    (hhit : ∀ k e L' M', LKw A W w br nq nk np nh nr L' M' → cSt w M' → LkM W L0 L' → R = (.inr (k, e), L') → Q (frtA b (some (j, k, e))) M') :
    ∀ d k left L M, (co (gmt (gc W c) j)).length - k < d → k ≤ (co (gmt (gc W c) j)).length → left < 2147483648 → LKw A W w br nq nk np nh nr L M → cSt w M → LkM W L0 L → R = frtC br W c (gmt (gc W c) j) ((co (gmt (gc W c) j)).drop k) k left L → w_Works_foretell_L68 0 Q k45 d (Int32.ofNat c) b w (Int32.ofNat left) (Int32.ofNat (moff W c + j)) (Int32.ofNat k) M := by
  intro d
  induction d with
  | zero => intro k left L M h; omega
  | succ d ih =>
    intro k left L M hd hk hlf lk ls hm hR
    have h51 := hW.2.2.2
    obtain ⟨u1, u2, u3, u4, u5⟩ := lk.1.mo (e := 0) hc
    obtain ⟨hH, q0, h0, ⟨e62, e63, hq, h80, -⟩, hIs, -⟩ := lk.1.2.1.2.2 c hc j hj
    have f381 := lk.1.2.1.1.2.1
    have h80' : (co (gmt (gc W c) j)).length ≤ 80 := h80
    have hLb := L_le w
    unfold w_Works_foretell_L68
    have hlt : moff W c + j < 381 := by omega
    have hv : ∀ f, 55 ≤ f → f ≤ 65 → vp_in (Int32.ofNat (moff W c + j)) (mL M f w) := fun f h1 h2 => by rw [f381 f h1 h2]; exact (vp_oN (by omega)).mpr hlt
    rw [oN_tnc (k := moff W c + j) (by omega), e63, e62]
    refine ⟨hv 63 (by omega) (by omega), ?_⟩
    by_cases ck : k = (co (gmt (gc W c) j)).length
    · refine itp (le_oN (by show (co (gmt (gc W c) j)).length ≤ k; omega) (by omega)) ?_
      rw [lit32 1, oN_add]
      rw [ck, List.drop_eq_nil_of_le (Nat.le_refl _)] at hR
      exact hfin left L M lk ls hm hlf hR
    · refine itn (nle_oN (by show k < (co (gmt (gc W c) j)).length; omega) (by show (co (gmt (gc W c) j)).length < _; omega)) ⟨hv 62 (by omega) (by omega), ?_⟩
      rw [oN_add]
      have hkl : k < (co (gmt (gc W c) j)).length := by omega
      have hdr := List.drop_eq_getElem_cons hkl
      obtain ⟨-, hgin, -⟩ := gin_at hdr
      have hmem : gin (co (gmt (gc W c) j)) k ∈ co (gmt (gc W c) j) := by rw [hgin]; exact List.getElem_mem hkl
      have hwf := wo_ins hW hc hj hmem
      rw [hdr, ← hgin] at hR
      have hI : cFi A w nk np nr (q0 + k) (gin (co (gmt (gc W c) j)) k) M := hIs k hkl
      have hnL : q0 + k < L6 w := by
        have := hK.1
        have : q0 + (co (gmt (gc W c) j)).length ≤ nq := hq
        omega
      have hok := fIns_ok (br := br) (c := c) (x := gmt (gc W c) j) (i := gin (co (gmt (gc W c) j)) k) h51 hm.1
      refine c_findsL hW hK hnA lk ls hm.1.1 hm.1.2.1 hc hj (fun r hr hc' => lk.1.rfx hK hwf hr hc') hI hnL (fun M1 a1 s1 => ?_)
      unfold frtC at hR
      cases ef : fIns br W L c (gmt (gc W c) j) (gin (co (gmt (gc W c) j)) k) with
      | mk y L1 =>
        rw [ef] at hR hok a1
        have hm1 : LkM W L0 L1 := hm.tr hok.2
        cases y with
        | inl e =>
          dsimp only at hR
          refine itp (hok.1.1.neg hok.1.2.1).1 ?_
          by_cases cl : left = 0
          · rw [if_pos cl] at hR
            refine itp (by rw [cl]; rfl) ?_
            have hfin2 : Q (if b = 0 then Int32.ofNat j else if b = 1 then Int32.ofNat k else e / 100) M1 := hhit k e L1 M1 a1 s1 hm1 hR
            by_cases c0 : b = 0
            · rw [if_pos c0] at hfin2
              obtain ⟨w1, -⟩ := a1.1.mo (e := 0) hc
              have l43 : mL M1 43 w = 51 := a1.1.2.1.1.1.1
              refine itp c0 ⟨by rw [l43]; exact (vp_oN (by omega)).mpr (by omega), ?_⟩
              rw [oN_tnc (k := c) (by omega), w1, oN_sub (by omega), show moff W c + j - moff W c = j by omega]
              exact hfin2
            rw [if_neg c0] at hfin2
            refine itn c0 ?_
            by_cases c1 : b = 1
            · rw [if_pos c1] at hfin2; exact itp c1 hfin2
            rw [if_neg c1] at hfin2
            refine itn c1 ⟨by decide, ?_⟩
            show Q (-(-e) / 100) M1
            rw [Int32.neg_neg]; exact hfin2
          · rw [if_neg cl] at hR
            refine itn (ne_oN (b := 0) cl (by omega) (by omega)) ?_
            unfold w_Works_foretell_j156
            rw [show Int32.ofNat left + (-1) = Int32.ofNat (left - 1) from oN_pred (by omega), lit32 1, oN_add]
            exact ih (k + 1) (left - 1) L1 M1 (by omega) (by omega) (by omega) a1 s1 hm1 hR
        | inr q =>
          dsimp only at hR
          have hnn : ¬ rcJ W (gin (co (gmt (gc W c) j)) k) (.inr q) < 0 := by
            show ¬ (if _ then _ else _) < _
            split
            · rename_i z
              have hq51 : q.1 < 1000 := by
                unfold fIns at ef
                rw [if_pos z] at ef
                cases en : fnd W (iK (gin (co (gmt (gc W c) j)) k)) with
                | none => rw [en] at ef; cases ef
                | some d => rw [en] at ef; cases ef; have := fnd_lt en; show d < 1000; omega
              rw [Int32.not_lt]; exact oN_zero_le (by omega)
            · obtain ⟨n, hn, en⟩ := i36_lt lk.1 (fIns_lt ef)
              rw [en, Int32.not_lt]; exact oN_zero_le (by omega)
          refine itn hnn ?_
          unfold w_Works_foretell_j156
          rw [lit32 1, oN_add]
          exact ih (k + 1) left L1 M1 (by omega) (by omega) hlf a1 s1 hm1 hR
/-- foretell, in the works -/
theorem c_wforetell (hk : k < 3) (hOn : cOn on M) (hon : on k = true) (hW : WO W) (hG : GL W s) (hKB : KB (k + 1) nq nk np nh nr) (hnA : nA A) (h : RA A W (k + 1) br nq nk np nh nr C B F s M) (hQ : ∀ M', RA A W (k + 1) br nq nk np nh nr C B F (frtO br W cc a b s).2 M' → LkM W (zL s) (zL (frtO br W cc a b s).2) → Q (frtO br W cc a b s).1 M') : w_Works_foretell 0 (Int32.ofNat k) cc a b Q M := by
  have hQ' : ∀ y, frtO br W cc a b s = y → ∀ M', RA A W (k + 1) br nq nk np nh nr C B F y.2 M' → LkM W (zL s) (zL y.2) → Q y.1 M' := fun y hy => by rw [← hy]; exact hQ
  unfold frtO at hQ'
  have bad : ((cc < 0 ∨ Int32.ofNat W.length ≤ cc) ∨ a < 0 ∨ b < 0 ∨ 2 < b) → Q (-1) M := fun z => hQ' _ (if_pos z) M h (LkM.rf hG.1)
  unfold w_Works_foretell
  refine c_isClass hk hOn hon hW.1.1 hW.2.2.2 h.1.1.1.1.1.1.1.1 (fun z => itp rfl (bad (Or.inl z))) (fun c hc ei ei2 nz => ?_)
  refine itn (by decide) ?_
  by_cases ca : a < 0
  · exact itp ca (bad (Or.inr (Or.inl ca)))
  refine itn ca ?_
  unfold w_Works_isIn
  by_cases cb : b < 0
  · exact itp cb (itp rfl (bad (Or.inr (Or.inr (Or.inl cb)))))
  refine itn cb ?_
  by_cases cb2 : 2 < b
  · exact itp cb2 (itp rfl (bad (Or.inr (Or.inr (Or.inr cb2)))))
  have hQ2 := hQ' _ (if_neg (fun z => z.elim nz (fun z => z.elim ca (fun z => z.elim cb cb2))))
  rw [ei2] at hQ2
  obtain ⟨a1, a2⟩ := hOn.at hk hon
  have h51 := hW.2.2.2
  obtain ⟨u1, u2, u3, u4, u5⟩ := h.1.1.1.mo (e := 0) hc
  have l43 : mL M 43 (k + 1) = 51 := h.1.1.1.2.1.1.1.1
  refine itn cb2 (itn (by decide) ⟨a1, k + 1, a2, ?_⟩)
  rw [ei, oN_tnc (k := c) (by omega), u1, l43]
  refine ⟨(vp_oN (by omega)).mpr (by omega), (gc W c).2.2.2.2.2.length + 1, ?_⟩
  have ea := tnc_oN ca
  have hlf : a.toNatClampNeg < 2147483648 := tnc_lt _
  generalize a.toNatClampNeg = l0 at hQ2 ea hlf
  rw [← ea]
  -- frames
  have fin : ∀ y L1 M1, frtM br W c (gc W c).2.2.2.2.2 0 l0 (zL s) = (y, L1) → LKw A W (k + 1) br nq nk np nh nr L1 M1 → cSt (k + 1) M1 → LkM W (zL s) L1 → Fr F_Works_foretell M M1 → Q (frtA b y) M1 := fun y L1 M1 e lk ls hm hf => by
    rw [e] at hQ2
    exact hQ2 M1 (h.lk hf rfl lk ls) hm
  have main : ∀ d j left L M1, (gc W c).2.2.2.2.2.length - j < d → j ≤ (gc W c).2.2.2.2.2.length → left < 2147483648 → LKw A W (k + 1) br nq nk np nh nr L M1 → cSt (k + 1) M1 → LkM W (zL s) L → frtM br W c (gc W c).2.2.2.2.2 0 l0 (zL s) = frtM br W c ((gc W c).2.2.2.2.2.drop j) j left L → w_Works_foretell_L45 0 (fun v M' => Fr F_Works_foretell M M' → Q v M') d (Int32.ofNat c) b (k + 1) (Int32.ofNat left) (Int32.ofNat (moff W c + j)) M1 := by
    intro d
    induction d with
    | zero => intro j left L M1 hd; omega
    | succ d ih =>
      intro j left L M1 hd hj hlf' lk ls hm he
      unfold w_Works_foretell_L45
      obtain ⟨w1, w2, w3, w4, w5⟩ := lk.1.mo (e := 0) hc
      have m43 : mL M1 43 (k + 1) = 51 := lk.1.2.1.1.1.1
      have m44 : mL M1 44 (k + 1) = 51 := lk.1.2.1.1.1.2
      rw [oN_tnc (k := c) (by omega), w1, w2, m43, m44, oN_add]
      refine ⟨(vp_oN (by omega)).mpr (by omega), (vp_oN (by omega)).mpr (by omega), ?_⟩
      by_cases cj : j = (gc W c).2.2.2.2.2.length
      · refine itp (le_oN (by omega) (by omega)) (fun hf => ?_)
        rw [cj, List.drop_eq_nil_of_le (Nat.le_refl _)] at he
        exact fin none L M1 he lk ls hm hf
      · have hjl : j < (gc W c).2.2.2.2.2.length := by omega
        refine itn (nle_oN (by omega) (by omega)) ⟨(co (gmt (gc W c) j)).length + 1, ?_⟩
        have hdr := List.drop_eq_getElem_cons hjl
        have hg : (gc W c).2.2.2.2.2[j] = gmt (gc W c) j := by
          show _ = (gc W c).2.2.2.2.2.getD j _
          rw [List.getD_eq_getElem?_getD, List.getElem?_eq_getElem hjl]; rfl
        rw [hdr, hg, frtM_c] at he
        refine c_frtC (R := frtC br W c (gmt (gc W c) j) (co (gmt (gc W c) j)) 0 left L) (L0 := L) hW hKB hnA hc hjl (fun left' L' M' a1 a2 a3 a4 a5 => ?_) (fun q e L' M' a1 a2 a3 a4 => ?_) _ 0 left L M1 (by omega) (Nat.zero_le _) hlf' lk ls (LkM.rf hm.1) rfl
        · rw [a5] at he
          exact ih (j + 1) left' L' M' (by omega) (by omega) a4 a1 a2 (hm.tr a3) he
        · rw [a4] at he
          exact fin (some (j, q, e)) L' M' he a1 a2 (hm.tr a3)
  refine mf_w_Works_foretell_L45 (M0 := M) (Q := fun v M' => Fr F_Works_foretell M M' → Q v M') (fun _ _ hf hp => hp hf) _ _ _ _ _ _ _ (Fr.rf _ _) ?_
  have := main ((gc W c).2.2.2.2.2.length + 1) 0 l0 (zL s) M (by omega) (Nat.zero_le _) hlf h.1.1 h.1.2 (LkM.rf hG.1) rfl
  rw [Nat.add_zero] at this
  exact this
end
