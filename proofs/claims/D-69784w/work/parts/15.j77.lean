/-! KINDS in the works: what is told -/
/-- what is told at instructions, in the works -/
def cTd (L : Tl) (this : Nat) (M : Mem) : Prop := (mL M 31 this = 20 ∧ mL M 32 this = 24) ∧ (mL M 510 this = 80 ∧ mL M 33 this = 80 ∧ mL M 34 this = 3200 ∧ mL M 35 this = 3200) ∧ (mI M 4 this 9 = 0 ∧ mI M 4 this 10 = 0) ∧ (L.length ≤ 80 ∧ mI M 4 this 15 = Int32.ofNat L.length) ∧ ∃ rm, rm ≤ 20 ∧ mI M 4 this 16 = Int32.ofNat rm ∧ ∀ i, i < L.length → mI M 510 this i = b2 (tlG L i).isSome ∧ ∀ l t, tlG L i = some (l, t) → (mI M 33 this i = Int32.ofNat t.length ∧ l.length = rm ∧ t.length ≤ 20) ∧ (∀ k, k < l.length → mI M 35 this (40 * i + k) = gi l k) ∧ ∀ k, k < t.length → mI M 35 this (40 * i + 20 + k) = gi t k
theorem tlG_R {W : List Cls} {R : Tr} {i : Nat} : tlG (tlR W R) i = (gR R i).map (fun y => (y.1.map (tlK W), y.2.map (tlK W))) := by
  unfold tlG tlR gR
  rw [List.getD_eq_getElem?_getD, List.getD_eq_getElem?_getD, List.getElem?_map]
  cases R[i]? with
  | none => rfl
  | some o => rfl
theorem gi_mapK {l : List Kd} {f : Kd → Int32} {i : Nat} (h : i < l.length) : gi (l.map f) i = f (gk l i) := by
  show (l.map f).getD i 0 = f (l.getD i (0, []))
  rw [List.getD_eq_getElem?_getD, List.getD_eq_getElem?_getD, List.getElem?_map, List.getElem?_eq_getElem h]
  rfl
theorem lt39 {z : Int32} (h : Int32.ofNat 40 ≤ z) : (39 : Int32) < z := by
  rw [Int32.lt_iff_toInt_lt]
  rw [Int32.le_iff_toInt_le] at h
  have e1 : (Int32.ofNat 40).toInt = 40 := by decide
  have e2 : (39 : Int32).toInt = 39 := by decide
  omega
theorem le40 {z : Int32} (h : (39 : Int32) < z) : Int32.ofNat 40 ≤ z := by
  rw [Int32.le_iff_toInt_le]
  rw [Int32.lt_iff_toInt_lt] at h
  have e1 : (Int32.ofNat 40).toInt = 40 := by decide
  have e2 : (39 : Int32).toInt = 39 := by decide
  omega
theorem tnc_ge {n : Nat} {i : Int32} (h : Int32.ofNat n ≤ i) (c0 : ¬ i < 0) (hn : n < 2147483648) : n ≤ i.toNatClampNeg := by
  rw [← tnc_oN c0] at h
  exact (oN_le hn (tnc_lt i)).mp h
def kndV (l t : List Int32) (b : Nat) : Int32 := if b < 20 then gi l b else gi t (b - 20)
section
variable {A : List Nm} {W : List Cls} {w c k this : Nat} {br : Int32} {nq nk np nh nr a : Nat} {lo st st2 : List Kd} {M M' : Mem} {Q : Int32 → Mem → Prop} {Q' : Mem → Prop} {R : Tr}
theorem c_toldKind {co : List Ins} {κ : Kd} (hr : mR M 4 this 4 = some (5, w)) (h : cCl A W w M) (hA : nA A) (hκ : kwf A co κ) (hQ : Q (tlK W κ) M) : w_Checker_toldKind this (kC A κ) Q M := by
  have hla := hA.1
  unfold w_Checker_toldKind
  unfold tlK at hQ
  have lit : ∀ n : Int, kC A κ = Int32.ofInt n ↔ kC A κ = Int32.ofInt n := fun n => Iff.rfl
  have g0 : (0 : Int32) ≤ kC A κ ↔ 0 ≤ κ.1 := kC_ge (n := 0) hκ hla (by omega)
  have g2 : (2 : Int32) ≤ kC A κ ↔ 2 ≤ κ.1 := kC_ge (n := 2) hκ hla (by omega)
  have q1 : kC A κ = -1 ↔ κ.1 = -1 := by
    rw [show (-1 : Int32) = Int32.ofInt (-1) from by decide]; exact kC_eq (n := -1) hκ hla (by omega)
  have q2 : kC A κ = -2 ↔ κ.1 = -2 := by
    rw [show (-2 : Int32) = Int32.ofInt (-2) from by decide]; exact kC_eq (n := -2) hκ hla (by omega)
  have q3 : kC A κ = -3 ↔ κ.1 = -3 := by
    rw [show (-3 : Int32) = Int32.ofInt (-3) from by decide]; exact kC_eq (n := -3) hκ hla (by omega)
  have z0 : kC A κ = 0 ↔ κ.1 = 0 := kC_eq (n := 0) hκ hla (by omega)
  have z1 : kC A κ = 1 ↔ κ.1 = 1 := kC_eq (n := 1) hκ hla (by omega)
  by_cases c2 : κ.1 = 2
  · rw [if_pos c2] at hQ
    refine itp (g0.mpr (by omega)) (itp (g2.mpr (by omega)) ⟨w, hr, ?_⟩)
    rw [kC_sub c2]
    have hm : κ.2 ∈ A := by
      rcases hκ with z | z
      · exact z.2
      · exfalso
        rcases z.2 with y | ⟨j, y, -⟩ <;> omega
    refine c_find h.1 hm ?_
    cases e : fnd W κ.2 with
    | none =>
      rw [e] at hQ
      exact itn (by show ¬ (0 : Int32) ≤ -2; decide) hQ
    | some c =>
      rw [e] at hQ
      have hc := fnd_lt e
      have := h.1.1.2.2.1
      refine itp (oN_zero_le (by omega)) ?_
      show Q ((100 : Int32) + Int32.ofNat c) M
      rw [show (100 : Int32) + Int32.ofNat c = Int32.ofNat (100 + c) from oN_add 100 c]
      exact hQ
  · rw [if_neg c2] at hQ
    have hle : ¬ 2 ≤ κ.1 := by
      rcases hκ.rg with z | z
      · exact absurd z c2
      · omega
    by_cases p0 : 0 ≤ κ.1
    · refine itp (g0.mpr p0) (itn (fun q => hle (g2.mp q)) ?_)
      by_cases e0 : κ.1 = 0
      · rw [if_pos e0] at hQ; rw [z0.mpr e0]; exact hQ
      · rw [if_neg e0, if_pos (by omega)] at hQ; rw [z1.mpr (by omega)]; exact hQ
    · refine itn (fun q => p0 (g0.mp q)) ?_
      rw [if_neg (by omega), if_neg (by omega)] at hQ
      by_cases e1 : κ.1 = -1
      · rw [if_pos e1] at hQ; exact itp (q1.mpr e1) hQ
      rw [if_neg e1] at hQ
      refine itn (fun q => e1 (q1.mp q)) ?_
      by_cases e2 : κ.1 = -2
      · rw [if_pos e2] at hQ; exact itp (q2.mpr e2) hQ
      rw [if_neg e2] at hQ
      refine itn (fun q => e2 (q2.mp q)) ?_
      by_cases e3 : κ.1 = -3
      · rw [if_pos e3] at hQ; exact itp (q3.mpr e3) hQ
      rw [if_neg e3] at hQ
      exact itn (fun q => e3 (q3.mp q)) hQ
/-- told so far: instructions below i whole, of i the places below j -/
def tdS (A : List Nm) (W : List Cls) (x : Mth) (R : Tr) (this i j : Nat) (M : Mem) : Prop := ∀ i' l t, gR R i' = some (l, t) → i' < R.length → (∀ k, k < l.length → (i' < i ∨ (i' = i ∧ k < j)) → mI M 35 this (40 * i' + k) = tlK W (gk l k)) ∧ ∀ k, k < t.length → (i' < i ∨ (i' = i ∧ 20 + k < j)) → mI M 35 this (40 * i' + 20 + k) = tlK W (gk t k)
theorem c_tell (h : KE A W w c k br nq nk np nh nr this M) (hT : TbC A (gmt (gc W c) k) R this M) (h15 : mI M 4 this 15 = Int32.ofNat (co (gmt (gc W c) k)).length) (h35 : mL M 35 this = 3200) (hQ : ∀ M', Fr (4682438972324590935107345090020944030197829563088176720753021222186883041677992176265689953086748756383726196955934714933182594540792695278540450833233741497140746528382826576356174156430340660567296239493708358823195021005153699562983484301302302899544182408118870863374895494291352001975238934046534747906783748237500099344703400190932753905717897582455420523838748548516587115334510526629495265241567464182546137698000753654052600996454825767040240348964459608153237868495593548091756095996712563406031489568076156061892907537527755594902011904) M M' → TbC A (gmt (gc W c) k) R this M' → mI M' 4 this 16 = Int32.ofNat (lr (gmt (gc W c) k)) → tdS A W (gmt (gc W c) k) R this R.length 0 M' → Q' M') : w_Checker_tell this Q' M := by
  have hm := h.mlt
  have h80 := h.wf.2.2.1.1
  have hlr := h.lr
  have hsr := h.sr
  have hRl := hT.1
  have loop : ∀ n i M1, R.length - i < n → i ≤ R.length → Fr (4682438972324590935107345090020944030197829563088176720753021222186883041677992176265689953086748756383726196955934714933182594540792695278540450833233741497140746528382826576356174156430340660567296239493708358823195021005153699562983484301302302899544182408118870863374895494291352001975238934046534747906783748237500099344703400190932753905717897582455420523838748548516587115334510526629495265241567464182546137698000753654052600996454825767040240348964459608153237868495593548091756095996712563406031489568076156061892907537527755594902011904) M M1 → mI M1 4 this 16 = Int32.ofNat (lr (gmt (gc W c) k)) → tdS A W (gmt (gc W c) k) R this i 0 M1 → w_Checker_tell_L18 this Q' n (Int32.ofNat i) M1 := by
    intro n
    induction n with
    | zero => intro i M1 hn; exact absurd hn (by omega)
    | succ n ih =>
      intro i M1 hn hi hf h16 hd
      unfold w_Checker_tell_L18
      rw [(hf.I (f := 4) (k := 15) rfl this).trans h15]
      by_cases ci : (co (gmt (gc W c) k)).length ≤ i
      · refine itp (le_oN ci (by omega)) (hQ M1 hf (hT.fr hf) h16 ?_)
        rw [show R.length = i by omega]; exact hd
      refine itn (nle_oN (by omega) (by omega)) ?_
      obtain ⟨x1, x2⟩ := hT.2.2 i (by omega)
      -- the next one
      have next : ∀ M2, Fr (4682438972324590935107345090020944030197829563088176720753021222186883041677992176265689953086748756383726196955934714933182594540792695278540450833233741497140746528382826576356174156430340660567296239493708358823195021005153699562983484301302302899544182408118870863374895494291352001975238934046534747906783748237500099344703400190932753905717897582455420523838748548516587115334510526629495265241567464182546137698000753654052600996454825767040240348964459608153237868495593548091756095996712563406031489568076156061892907537527755594902011904) M M2 → mI M2 4 this 16 = Int32.ofNat (lr (gmt (gc W c) k)) → tdS A W (gmt (gc W c) k) R this (i + 1) 0 M2 → w_Checker_tell_j105 this Q' (w_Checker_tell_L18 this Q' n) (Int32.ofNat i) M2 := fun M2 f2 g2 d2 => by
        unfold w_Checker_tell_j105
        rw [show Int32.ofNat i + (1 : Int32) = Int32.ofNat (i + 1) from oN_add i 1]
        exact ih (i + 1) M2 (by omega) (by omega) f2 g2 d2
      have loop2 : ∀ m j M2, 40 - j < m → j ≤ 40 → Fr (4682438972324590935107345090020944030197829563088176720753021222186883041677992176265689953086748756383726196955934714933182594540792695278540450833233741497140746528382826576356174156430340660567296239493708358823195021005153699562983484301302302899544182408118870863374895494291352001975238934046534747906783748237500099344703400190932753905717897582455420523838748548516587115334510526629495265241567464182546137698000753654052600996454825767040240348964459608153237868495593548091756095996712563406031489568076156061892907537527755594902011904) M M2 → mI M2 4 this 16 = Int32.ofNat (lr (gmt (gc W c) k)) → tdS A W (gmt (gc W c) k) R this i j M2 → w_Checker_tell_L28 this Q' (w_Checker_tell_L18 this Q' n) m (Int32.ofNat i) (Int32.ofNat j) M2 := by
        intro m
        induction m with
        | zero => intro j M2 hm; exact absurd hm (by omega)
        | succ m im =>
          intro j M2 hm hj f2 g2 d2
          unfold w_Checker_tell_L28
          by_cases c40 : 40 ≤ j
          · refine itp (le_oN (a := 40) c40 (by omega)) (next M2 f2 g2 (fun i' l t hR hi' => ?_))
            obtain ⟨⟨-, q1, q2⟩, -⟩ := (hT.2.2 i' hi').2 l t hR
            obtain ⟨d3, d4⟩ := d2 i' l t hR hi'
            exact ⟨fun k' hk' _ => d3 k' hk' (by omega), fun k' hk' _ => d4 k' hk' (by omega)⟩
          refine itn (nle_oN (a := 40) (by omega) (by omega)) ?_
          rw [f2.L (f := 510) rfl, hT.2.1.1, oN_tnc (k := i) (by omega), f2.Ia (f := 510) rfl rfl, x1]
          refine ⟨(vp_oN (by omega)).mpr (by omega), ?_⟩
          cases e : gR R i with
          | none =>
            refine itp rfl (next M2 f2 g2 (fun i' l t hR hi' => ?_))
            obtain ⟨d3, d4⟩ := d2 i' l t hR hi'
            have ne : i' ≠ i := fun z => by rw [z, e] at hR; cases hR
            exact ⟨fun k' hk' z => d3 k' hk' (by omega), fun k' hk' z => d4 k' hk' (by omega)⟩
          | some y =>
            obtain ⟨l, t⟩ := y
            obtain ⟨⟨y1, y2, y3⟩, y4, y5⟩ := x2 l t e
            refine itn (by show ¬ (1 : Int32) = 0; decide) ?_
            -- nothing at this place
            have skip : ¬ ((j < 20 ∧ j < l.length) ∨ (20 ≤ j ∧ j - 20 < t.length)) → w_Checker_tell_j99 this Q' (w_Checker_tell_L18 this Q' n) (w_Checker_tell_L28 this Q' (w_Checker_tell_L18 this Q' n) m) (Int32.ofNat i) (Int32.ofNat j) M2 := fun hno => by
              unfold w_Checker_tell_j99
              rw [show Int32.ofNat j + (1 : Int32) = Int32.ofNat (j + 1) from oN_add j 1]
              refine im (j + 1) M2 (by omega) (by omega) f2 g2 (fun i' l' t' hR hi' => ?_)
              obtain ⟨⟨-, q1, q2⟩, -⟩ := (hT.2.2 i' hi').2 l' t' hR
              obtain ⟨d3, d4⟩ := d2 i' l' t' hR hi'
              refine ⟨fun k' hk' z => d3 k' hk' ?_, fun k' hk' z => d4 k' hk' ?_⟩
              · by_cases z1 : i' = i
                · subst z1
                  rw [e] at hR
                  cases hR
                  omega
                · omega
              · by_cases z1 : i' = i
                · subst z1
                  rw [e] at hR
                  cases hR
                  omega
                · omega
            -- a kind is told
            have put : ∀ κ, (j < 20 → j < l.length ∧ gk l j = κ) → (20 ≤ j → j - 20 < t.length ∧ gk t (j - 20) = κ) → kwf A (co (gmt (gc W c) k)) κ → mI M 34 this (40 * i + j) = kC A κ → w_Checker_tell_j73 this Q' (w_Checker_tell_L18 this Q' n) (w_Checker_tell_L28 this Q' (w_Checker_tell_L18 this Q' n) m) (Int32.ofNat i) (Int32.ofNat j) M2 := fun κ k1 k2 hκ eκ => by
              unfold w_Checker_tell_j73
              rw [show (40 : Int32) * Int32.ofNat i = Int32.ofNat (40 * i) from oN_mul 40 i, oN_add, oN_tnc (k := 40 * i + j) (by omega), f2.L (f := 34) rfl, hT.2.1.2.2, f2.Ia (f := 34) rfl rfl, eκ]
              have hK2 := h.fr f2
              refine ⟨(vp_oN (by omega)).mpr (by omega), c_toldKind hK2.r hK2.cl hK2.na hκ ?_⟩
              refine ⟨by rw [f2.L (f := 35) rfl, h35]; exact (vp_oN (by omega)).mpr (by omega), ?_⟩
              unfold w_Checker_tell_j99
              rw [show Int32.ofNat j + (1 : Int32) = Int32.ofNat (j + 1) from oN_add j 1]
              refine im (j + 1) _ (by omega) (by omega) (Fr.wIa rfl rfl f2) (by rw [mI_sI, if_neg (fun z => absurd z.1 (by decide))]; exact g2) (fun i' l' t' hR hi' => ?_)
              obtain ⟨⟨-, q1, q2⟩, -⟩ := (hT.2.2 i' hi').2 l' t' hR
              obtain ⟨d3, d4⟩ := d2 i' l' t' hR hi'
              refine ⟨fun k' hk' z => ?_, fun k' hk' z => ?_⟩
              · by_cases z1 : i' = i ∧ k' = j
                · obtain ⟨z1, z2⟩ := z1
                  subst z1 z2
                  rw [e] at hR
                  cases hR
                  rw [mI_sI, if_pos ⟨rfl, rfl, rfl⟩, (k1 (by omega)).2]
                · rw [mI_sI, if_neg (fun z => z1 (by omega))]
                  exact d3 k' hk' (by omega)
              · by_cases z1 : i' = i ∧ 20 + k' = j
                · obtain ⟨z1, z2⟩ := z1
                  subst z1
                  rw [e] at hR
                  cases hR
                  obtain ⟨-, k4⟩ := k2 (by omega)
                  rw [mI_sI, if_pos ⟨rfl, rfl, by omega⟩, ← k4]
                  congr 2; omega
                · rw [mI_sI, if_neg (fun z => z1 (by omega))]
                  exact d4 k' hk' (by omega)
            by_cases c20 : 20 ≤ j
            · refine itp (le_oN (a := 20) c20 (by omega)) ?_
              rw [f2.L (f := 33) rfl, hT.2.1.2.1, f2.Ia (f := 33) rfl rfl, y1, show Int32.ofNat j - (20 : Int32) = Int32.ofNat (j - 20) from oN_sub (b := 20) c20]
              refine ⟨(vp_oN (by omega)).mpr (by omega), ?_⟩
              by_cases ct : t.length ≤ j - 20
              · exact itp (le_oN ct (by omega)) (skip (by omega))
              · obtain ⟨p1, p2⟩ := y5 (j - 20) (by omega)
                rw [show 40 * i + 20 + (j - 20) = 40 * i + j by omega] at p1
                exact itn (nle_oN (by omega) (by omega)) (put _ (fun z => absurd z (by omega)) (fun _ => ⟨by omega, rfl⟩) p2 p1)
            · refine itn (nle_oN (a := 20) (by omega) (by omega)) ?_
              rw [g2]
              by_cases cl : lr (gmt (gc W c) k) ≤ j
              · exact itp (le_oN cl (by omega)) (skip (by omega))
              · obtain ⟨p1, p2⟩ := y4 j (by omega)
                exact itn (nle_oN (by omega) (by omega)) (put _ (fun _ => ⟨by omega, rfl⟩) (fun z => absurd z c20) p2 p1)
      exact ⟨41, loop2 _ 0 M1 (by omega) (by omega) hf h16 hd⟩
  unfold w_Checker_tell
  refine ⟨w, h.r, ?_⟩
  rw [h.m6, oN_tnc (k := moff W c + k) (by omega), hlr.1, h.ml (by omega) (by omega)]
  exact ⟨(vp_oN (by omega)).mpr hm, R.length + 1, loop _ 0 _ (by omega) (by omega) (Fr.wI rfl (Fr.rf _ _)) (by rw [mI_sI, if_pos ⟨rfl, rfl, rfl⟩]) (fun i' l t hR hi' => ⟨fun k' _ z => absurd z (by omega), fun k' _ z => absurd z (by omega)⟩)⟩
/-- the told table -/
theorem cTd_of (hT : TbC A (gmt (gc W c) k) R this M) (hd : tdS A W (gmt (gc W c) k) R this R.length 0 M) (h3 : mL M 31 this = 20 ∧ mL M 32 this = 24) (h35 : mL M 35 this = 3200) (h9 : mI M 4 this 9 = 0 ∧ mI M 4 this 10 = 0) (hl : (co (gmt (gc W c) k)).length ≤ 80) (hr : lr (gmt (gc W c) k) ≤ 20 ∧ sr (gmt (gc W c) k) ≤ 20) (h15 : mI M 4 this 15 = Int32.ofNat (co (gmt (gc W c) k)).length) (h16 : mI M 4 this 16 = Int32.ofNat (lr (gmt (gc W c) k))) : cTd (tlR W R) this M := by
  have el : (tlR W R).length = R.length := List.length_map _
  refine ⟨h3, ⟨hT.2.1.1, hT.2.1.2.1, hT.2.1.2.2, h35⟩, h9, ⟨by rw [el, hT.1]; exact hl, by rw [el, hT.1]; exact h15⟩, lr (gmt (gc W c) k), hr.1, h16, fun i hi => ?_⟩
  rw [el] at hi
  obtain ⟨x1, x2⟩ := hT.2.2 i hi
  rw [tlG_R]
  refine ⟨by rw [x1, Option.isSome_map], fun l t e => ?_⟩
  cases e1 : gR R i with
  | none => rw [e1] at e; cases e
  | some y =>
    obtain ⟨l', t'⟩ := y
    rw [e1] at e
    have e2 : (l'.map (tlK W), t'.map (tlK W)) = (l, t) := Option.some.inj e
    obtain ⟨⟨y1, y2, y3⟩, -⟩ := x2 l' t' e1
    obtain ⟨d1, d2⟩ := hd i l' t' e1 hi
    have el : l'.map (tlK W) = l := congrArg Prod.fst e2
    have et : t'.map (tlK W) = t := congrArg Prod.snd e2
    subst el et
    rw [List.length_map, List.length_map]
    exact ⟨⟨y1, y2, by omega⟩, fun k' hk' => by rw [gi_mapK hk']; exact d1 k' hk' (Or.inl hi), fun k' hk' => by rw [gi_mapK hk']; exact d2 k' hk' (Or.inl hi)⟩
theorem c_toldAt {L : Tl} {i j : Int32} (h : cTd L this M) (hQ : Q (kndO L i j) M) : w_Checker_toldAt this i j Q M := by
  obtain ⟨-, ⟨l1, l2, l3, l4⟩, -, ⟨h80, h15⟩, rm, hrm, h16, ht⟩ := h
  unfold w_Checker_toldAt
  unfold kndO at hQ
  rw [h15]
  refine c_isIn1 (by omega) (fun z => ?_) (fun a ha ea ea2 nz => ?_)
  · refine itp rfl ?_
    by_cases c0 : i < 0
    · rw [if_pos c0] at hQ; exact hQ
    · rw [if_neg c0] at hQ
      have hz := z.resolve_left c0
      have e : tlG L i.toNatClampNeg = none := by
        unfold tlG
        rw [List.getD_eq_getElem?_getD, List.getElem?_eq_none (tnc_ge hz c0 (by omega))]; rfl
      rw [e] at hQ; exact hQ
  rw [if_neg (fun z => nz (Or.inl z)), ea2] at hQ
  obtain ⟨t1, t2⟩ := ht a ha
  refine itn (by decide) ?_
  rw [l1, ea, oN_tnc (k := a) (by omega), t1]
  refine ⟨(vp_oN (by omega)).mpr (by omega), ?_⟩
  cases e : tlG L a with
  | none => rw [e] at hQ; exact itp rfl hQ
  | some y =>
    obtain ⟨l, t⟩ := y
    rw [e] at hQ
    obtain ⟨⟨y1, y2, y3⟩, y4, y5⟩ := t2 l t e
    refine itn (by show ¬ (1 : Int32) = 0; decide) ?_
    dsimp only at hQ
    by_cases c1 : j = -1
    · rw [if_pos c1] at hQ
      refine itp c1 ⟨by rw [l2]; exact (vp_oN (by omega)).mpr (by omega), ?_⟩
      rw [y1]; exact hQ
    rw [if_neg c1] at hQ
    refine itn c1 ?_
    rw [show (39 : Int32) = Int32.ofNat 40 - 1 by decide]
    refine c_isIn1 (n := 40) (by omega) (fun z => ?_) (fun b hb eb eb2 nb => ?_)
    · rw [if_pos (by
        rcases z with z | z
        · exact Or.inl z
        · exact Or.inr (lt39 z))] at hQ
      exact itp rfl hQ
    rw [if_neg (fun z => nb (by
      rcases z with z | z
      · exact Or.inl z
      · exact Or.inr (le40 z))), eb2] at hQ
    refine itn (by decide) ?_
    have j79 : mI M 35 this (40 * a + b) = kndV l t b → Q (kndV l t b) M → w_Checker_toldAt_j79 this Q (Int32.ofNat a) j M := fun z hq => by
      unfold w_Checker_toldAt_j79
      rw [eb, show (40 : Int32) * Int32.ofNat a = Int32.ofNat (40 * a) from oN_mul 40 a, oN_add, oN_tnc (k := 40 * a + b) (by omega), l4, z]
      exact ⟨(vp_oN (by omega)).mpr (by omega), hq⟩
    by_cases c20 : 20 ≤ b
    · rw [if_neg (by rw [eb]; exact nlt_oN (b := 20) c20 (by omega))] at hQ
      refine itp (by rw [eb]; exact le_oN (a := 20) c20 (by omega)) ⟨by rw [l2]; exact (vp_oN (by omega)).mpr (by omega), ?_⟩
      rw [y1, eb, show Int32.ofNat b - (20 : Int32) = Int32.ofNat (b - 20) from oN_sub (b := 20) c20, ← eb]
      by_cases ct : b - 20 < t.length
      · rw [if_pos ct] at hQ
        have := y5 (b - 20) ct
        rw [show 40 * a + 20 + (b - 20) = 40 * a + b by omega] at this
        have ev : kndV l t b = gi t (b - 20) := by unfold kndV; rw [if_neg (by omega)]
        exact itp (lt_oN ct (by omega)) (j79 (by rw [ev]; exact this) (by rw [ev]; exact hQ))
      · rw [if_neg ct] at hQ
        exact itn (nlt_oN (by omega) (by omega)) hQ
    · rw [if_pos (by rw [eb]; exact lt_oN (b := 20) (by omega) (by omega))] at hQ
      refine itn (by rw [eb]; exact nle_oN (a := 20) (by omega) (by omega)) ?_
      rw [h16]
      by_cases cl : b < l.length
      · rw [if_pos cl] at hQ
        have ev : kndV l t b = gi l b := by unfold kndV; rw [if_pos (by omega)]
        exact itp (by rw [eb]; exact lt_oN (by omega) (by omega)) (j79 (by rw [ev]; exact y4 b cl) (by rw [ev]; exact hQ))
      · rw [if_neg cl] at hQ
        exact itn (by rw [eb]; exact nlt_oN (by omega) (by omega)) hQ
end
