/-! THE OPERATION object -/
def objO (s : Ms) (a b : Int32) : Int32 := if a < 1 ∨ 800 < a then -1 else if thr s a.toNatClampNeg = false then -1
  else if b = -1 then (match (gOb s a.toNatClampNeg).1 with | none => -2 | some d => Int32.ofNat d) else if b = -2 then (gOb s a.toNatClampNeg).2.2.2.1 else if b = -3 then Int32.ofNat (gOb s a.toNatClampNeg).2.2.1
  else if b < 0 ∨ Int32.ofNat (gOb s a.toNatClampNeg).2.2.1 ≤ b then -1 else shO (gCell s ((gOb s a.toNatClampNeg).2.1 + b.toNatClampNeg), decide ((gKd s ((gOb s a.toNatClampNeg).2.1 + b.toNatClampNeg)).1 ≠ 0))
theorem i800 {a : Int32} (h1 : ¬ a < 1) (h2 : ¬ 800 < a) : ∃ n, 1 ≤ n ∧ n ≤ 800 ∧ a = Int32.ofNat n ∧ a.toNatClampNeg = n := by
  have h0 : ¬ a < 0 := fun z => h1 (Int32.lt_trans z (by decide))
  refine ⟨a.toNatClampNeg, ?_, ?_, (tnc_oN h0).symm, rfl⟩
  · rw [Int32.lt_iff_toInt_lt, show (1 : Int32).toInt = 1 from rfl] at h1
    show 1 ≤ (a.toInt).toNat
    omega
  · rw [Int32.lt_iff_toInt_lt, show (800 : Int32).toInt = 800 from rfl] at h2
    show (a.toInt).toNat ≤ 800
    omega
/-- what an object is -/
theorem ob_in {W : List Cls} {s : Ms} {r : Nat} (hG : GL W s) (ht : thr s r = true) : ((gOb s r).2.1 + (gOb s r).2.2.1 ≤ 4000 ∧ (gOb s r).2.1 + (gOb s r).2.2.1 ≤ (zH s).2.1) ∧ (((gOb s r).1 = none ∧ ∀ k, k < (gOb s r).2.2.1 → gKd s ((gOb s r).2.1 + k) = (0, [])) ∨ ∃ d, (gOb s r).1 = some d ∧ d < W.length ∧ (zL s).1 d = 1 ∧ (gOb s r).2.2.1 = osz W d ∧ ∀ k, k < osz W d → gKd s ((gOb s r).2.1 + k) = gk (ofk W d) k) := by
  obtain ⟨⟨-, -, h4⟩, h5, -⟩ := hG.2.1
  obtain ⟨h6, h7⟩ := h5 r ht
  refine ⟨⟨by omega, h6⟩, ?_⟩
  unfold obO at h7
  cases e : (gOb s r).1 with
  | none => rw [e] at h7; exact Or.inl ⟨rfl, h7.2⟩
  | some d => rw [e] at h7; exact Or.inr ⟨d, rfl, h7.1.1, h7.1.2, h7.2.1, h7.2.2⟩
section
variable {A : List Nm} {W : List Cls} {k C B F K : Nat} {br a b : Int32} {nq nk np nh nr : Nat} {s : Ms} {M M' : Mem} {Q : Int32 → Mem → Prop} {on : Nat → Bool}
theorem c_object (hk : k < 3) (hOn : cOn on M) (hon : on k = true) (hW : WO W) (hG : GL W s) (hnA : nA A) (h : RA A W (k + 1) br nq nk np nh nr C B F s M) (hQ : Q (objO s a b) M) : w_Works_object 0 (Int32.ofNat k) a b Q M := by
  unfold w_Works_object
  refine c_isWorld hOn (fun j hj e _ _ => ?_) (fun q => by rw [wOf_k hk, hon] at q; cases q)
  refine itn (by decide) ?_
  obtain ⟨a1, a2⟩ := hOn.at hk hon
  unfold objO at hQ
  unfold w_Works_isIn
  by_cases c0 : a < 1
  · rw [if_pos (Or.inl c0)] at hQ
    exact itp c0 (itp rfl hQ)
  refine itn c0 ?_
  by_cases c1 : 800 < a
  · rw [if_pos (Or.inr c1)] at hQ
    exact itp c1 (itp rfl hQ)
  rw [if_neg (fun z => z.elim c0 c1)] at hQ
  obtain ⟨r, r1, r8, er, er2⟩ := i800 c0 c1
  rw [er2] at hQ
  obtain ⟨⟨⟨l79, l80, l81, l512, l84⟩, l301, -⟩, -, e512, eO, e84, -⟩ := h.2.2.1.1
  refine itn c1 (itn (by decide) ⟨a1, k + 1, a2, ?_⟩)
  rw [er, oN_tnc (k := r) (by omega), e512 r (by omega)]
  refine ⟨by rw [l512]; exact (vp_oN (by omega)).mpr (by omega), ?_⟩
  cases ht : thr s r with
  | false =>
    rw [if_pos ht] at hQ
    exact itp rfl hQ
  | true =>
    rw [if_neg (by rw [ht]; decide)] at hQ
    obtain ⟨o79, o80, o81, o301, -⟩ := eO r ht
    obtain ⟨⟨h4, h4'⟩, hob⟩ := ob_in hG ht
    have v79 : vp_in (Int32.ofNat r) (mL M 79 (k + 1)) := by rw [l79]; exact (vp_oN (by omega)).mpr (by omega)
    have v80 : vp_in (Int32.ofNat r) (mL M 80 (k + 1)) := by rw [l80]; exact (vp_oN (by omega)).mpr (by omega)
    have v81 : vp_in (Int32.ofNat r) (mL M 81 (k + 1)) := by rw [l81]; exact (vp_oN (by omega)).mpr (by omega)
    have h51 := hW.2.2.2
    refine itn (by decide) ⟨a1, k + 1, a2, ?_⟩
    rw [o79, o81, o301]
    by_cases b1 : b = -1
    · rw [if_pos b1] at hQ
      refine itp b1 ⟨v79, ?_⟩
      cases eo : (gOb s r).1 with
      | none => rw [eo] at hQ; exact itn (show ¬ (0 : Int32) ≤ -1 by decide) hQ
      | some d =>
        rw [eo] at hQ
        have hd : d < W.length := by
          rcases hob with z | ⟨d', z, hd, -⟩
          · rw [eo] at z; cases z.1
          · rw [eo] at z; cases z; exact hd
        exact itp (show (0 : Int32) ≤ Int32.ofNat d from oN_zero_le (by omega)) ⟨v79, hQ⟩
    rw [if_neg b1] at hQ
    refine itn b1 ?_
    by_cases b2' : b = -2
    · rw [if_pos b2'] at hQ
      exact itp b2' ⟨by rw [l301]; exact (vp_oN (by omega)).mpr (by omega), hQ⟩
    rw [if_neg b2'] at hQ
    refine itn b2' ?_
    by_cases b3 : b = -3
    · rw [if_pos b3] at hQ
      exact itp b3 ⟨v81, hQ⟩
    rw [if_neg b3] at hQ
    refine itn b3 ⟨v81, ?_⟩
    by_cases c2 : b < 0
    · rw [if_pos (Or.inl c2)] at hQ
      exact itp c2 (itp rfl hQ)
    refine itn c2 ?_
    by_cases c3 : Int32.ofNat (gOb s r).2.2.1 ≤ b
    · rw [if_pos (Or.inr c3)] at hQ
      refine itp ?_ (itp rfl hQ)
      rw [← tnc_oN c2] at c3 ⊢
      have hdb := tnc_lt b
      have c3 := (oN_le (by omega) hdb).mp c3
      rcases Nat.eq_zero_or_pos (gOb s r).2.2.1 with z | z
      · rw [z]
        exact Int32.lt_of_lt_of_le (show Int32.ofNat 0 - 1 < 0 by decide) (oN_zero_le hdb)
      · rw [show Int32.ofNat (gOb s r).2.2.1 - (1 : Int32) = Int32.ofNat ((gOb s r).2.2.1 - 1) from sub_n (n := 1) z]
        exact (oN_lt (by omega) hdb).mpr (by omega)
    rw [if_neg (fun z => z.elim c2 c3)] at hQ
    have hi := idx_lt (by omega) c2 c3
    have eb := (tnc_oN c2).symm
    generalize b.toNatClampNeg = i at hi eb hQ
    subst eb
    refine itn (fun z => ?_) (itn (by decide) ⟨v80, ?_⟩)
    · rw [show Int32.ofNat (gOb s r).2.2.1 - (1 : Int32) = Int32.ofNat ((gOb s r).2.2.1 - 1) from sub_n (n := 1) (by omega)] at z
      have := (oN_lt (by omega) (by omega)).mp z
      omega
    rw [o80, o79, oN_add, oN_tnc (k := (gOb s r).2.1 + i) (by omega), e84 _ (by omega)]
    refine ⟨by rw [l84]; exact (vp_oN (by omega)).mpr (by omega), _, rfl, v79, ?_⟩
    rcases hob with ⟨eo, hk0⟩ | ⟨d, eo, hd, hl, hsz, hkd⟩
    · rw [eo]
      rw [hk0 i hi] at hQ
      exact itn (show ¬ (0 : Int32) ≤ -1 by decide) hQ
    · rw [eo]
      rw [hkd i (by omega)] at hQ
      refine itp (show (0 : Int32) ≤ Int32.ofNat d from oN_zero_le (by omega)) ⟨a1, k + 1, a2, v79, ?_⟩
      refine c_fieldKind hW.1 h.1.1 h51 hG.1.1 hd hl (by omega) (fun ko => ?_)
      have hty : tyOk (gk (ofk W d) i) := ofkN_ty hW.2.2.1 52 d hd _ (getD_mem (by show i < (ofk W d).length; rw [ofk_len]; omega))
      unfold w_Works_object_j184
      have hkc : kC A (gk (ofk W d) i) = 0 ↔ (gk (ofk W d) i).1 = 0 := by
        rw [kC_num hty ko hnA.1]
        constructor
        · intro z; rw [z]
        · intro z
          rcases hty with y | y | y
          · exact y
          · rw [y] at z; exact absurd z (by decide)
          · rw [y] at z; exact absurd z (by decide)
      by_cases k0 : (gk (ofk W d) i).1 = 0
      · rw [decide_eq_false (fun z => z k0)] at hQ
        exact itp (hkc.mpr k0) (c_shown (v := (gCell s ((gOb s r).2.1 + i), false)) hQ)
      · rw [decide_eq_true k0] at hQ
        exact itn (fun z => k0 (hkc.mp z)) (c_shown (v := (gCell s ((gOb s r).2.1 + i), true)) hQ)
end
section
variable {G : List Sl} {US : UST} {A : List Nm} {S : List Sg} {W : List Cls} {k C B F K ud t : Nat} {br a b x : Int32} {nq nl nf nk : Nat} {s : Ms} {M M' : Mem} {Q : Int32 → Mem → Prop} {on : Nat → Bool}
theorem ct_object (hk : k < 3) (hOn : tOn on M) (hon : on k = true) (hW : WO W) (hG : GL W s) (h : TAx G US A S W k br nq nl nf nk B F x s M) (hQ : ∀ M', TAx G US A S W k br nq nl nf nk B F x s M' → Fr (69556213141345269407515067115786764991705262549735948303537359111522614176378895669990532984393877424257869264331680209358104836822935374614554679608043721543799333994078233166448732839509381338884749875141583345849788064702954612877462466104677421689448088294080777773965362174599308044327164417092088846031042047278365580585966720455145967136585436087833973984505353126613550736388181582785893315094229488730062957948409704252857268529221075377285067062755595332929103886865297150820576930048624213679773234781064639103418048462727563158233601126703792262163018387042296687430434915196125330685777119717767970019341806901981510528366365657011400439883787084893751229924829447152769796462326141284670937650906274428797367613626454026848298648969369286983979169519208976077834399557390296948941219899625597632161323087361696526000865772268255307923110197940977474400891396850517544211016799549379926055142573277403100946091498432294529676854420081353757434477181439477999992832) M M' → Q (objO s a b) M') : w_Model_object 0 (Int32.ofNat k) a b Q M := by
  unfold w_Model_object
  refine ct_isWorld hOn (fun j hj e _ _ => ?_) (fun q => by rw [wOf_k hk, hon] at q; cases q)
  refine itn (by decide) ?_
  obtain ⟨a1, a2⟩ := hOn.at hk
  have hT : TA G US A S W k br nq nl nf nk B F x s (sR M 11 0 45 (some (12, k))) := h
  have hQM := hQ M h (Fr.rf _ _)
  have hQX := hQ (sR M 11 0 45 (some (12, k))) (TA.xx hT) (Fr.wR rfl (Fr.rf _ _))
  have h51 := hW.2.2.2
  unfold objO at hQM hQX
  by_cases c0 : a < 1
  · rw [if_pos (Or.inl c0)] at hQM
    exact itp c0 hQM
  refine itn c0 ?_
  by_cases c1 : 800 < a
  · rw [if_pos (Or.inr c1)] at hQM
    exact itp c1 hQM
  rw [if_neg (fun z => z.elim c0 c1)] at hQM hQX
  obtain ⟨r, r1, r8, er, er2⟩ := i800 c0 c1
  rw [er2] at hQM hQX
  obtain ⟨⟨l7, l8, l9, l0, l2, l4, l1⟩, -, e524, eO, e161⟩ := hT.2.2.1.1
  have l4 : mL M 524 k = 801 := l4
  have e524 : mI M 524 k r = b2 (thr s r) := e524 r (by omega)
  refine itn c1 ⟨a1, k, a2, ?_⟩
  rw [er, oN_tnc (k := r) (by omega), e524]
  refine ⟨by rw [l4]; exact (vp_oN (by omega)).mpr (by omega), ?_⟩
  cases ht : thr s r with
  | false =>
    rw [if_pos ht] at hQM
    exact itp rfl hQM
  | true =>
    rw [if_neg (by rw [ht]; decide)] at hQM hQX
    obtain ⟨o7, o8, o9, o0, -⟩ := eO r ht
    obtain ⟨⟨h4, h4'⟩, hob⟩ := ob_in hG ht
    refine itn (by decide) ?_
    by_cases bm : -3 ≤ b
    · refine itp bm ⟨a1, k, a2, ?_⟩
      generalize sR M 11 0 45 (some (12, k)) = M1 at hT hQX l7 l8 l9 l0 l2 l1 eO e161 o7 o8 o9 o0 ⊢
      have vr : ∀ {m : Nat}, m = 801 → vp_in (Int32.ofNat r) m := fun e => by rw [e]; exact (vp_oN (by omega)).mpr (by omega)
      refine ⟨k, hT.r45, vr l7, _, rfl, ?_⟩
      rw [o7]
      by_cases b0 : 0 ≤ b
      · have n0 : ¬ b < 0 := Int32.not_lt.mpr b0
        rw [if_neg (fun z => by rw [z] at b0; exact absurd b0 (by decide)), if_neg (fun z => by rw [z] at b0; exact absurd b0 (by decide)), if_neg (fun z => by rw [z] at b0; exact absurd b0 (by decide))] at hQX
        refine itp b0 ⟨k, hT.r45, vr l9, ?_⟩
        rw [o9]
        by_cases c3 : Int32.ofNat (gOb s r).2.2.1 ≤ b
        · rw [if_pos (Or.inr c3)] at hQX
          exact itn (Int32.not_lt.mpr c3) hQX
        rw [if_neg (fun z => z.elim n0 c3)] at hQX
        have hi := idx_lt (by omega) n0 c3
        refine itp (Int32.not_le.mp c3) ⟨k, hT.r45, k, hT.r45, vr l8, ?_⟩
        have eb := (tnc_oN n0).symm
        generalize b.toNatClampNeg = i at hi eb hQX
        subst eb
        have hcv := (hG.2.1.2.2 ((gOb s r).2.1 + i) (by omega)).2.2
        rw [o8, oN_add, oN_tnc (k := (gOb s r).2.1 + i) (by omega), e161 _ (by omega)]
        refine ⟨by rw [l1]; exact (vp_oN (by omega)).mpr (by omega), ?_⟩
        unfold w_Model_object_j170 w_Model_object_j171
        rcases hob with ⟨eo, hk0⟩ | ⟨d, eo, hd, hl, hsz, hkd⟩
        · rw [eo]
          rw [hk0 i hi] at hQX hcv ⊢
          exact itp rfl (ct_shown (v := (gCell s ((gOb s r).2.1 + i), false)) hcv hQX)
        · rw [eo]
          rw [hkd i (by omega)] at hQX hcv ⊢
          refine itn (fun z => ?_) ?_
          · have := oN_nonneg (show d < 2147483648 by omega)
            have z : Int32.ofNat d = -1 := z
            rw [z] at this
            exact this (by decide)
          show w_Model_isRefField 0 (Int32.ofNat d) (Int32.ofNat i) _ M1
          unfold w_Model_isRefField
          refine ct_parentOf hT.r45 hT.1.1.cl hd ⟨53, ct_refField hW.1 hW.2.2.1 hT.1.1 hG.1.1 53 d (by have := mu_lt (c := d) h51; omega) hd hl (by omega) ?_⟩
          by_cases k0 : (gk (ofk W d) i).1 = 0
          · rw [decide_eq_false (fun z => z k0)] at hQX hcv ⊢
            exact itp rfl (ct_shown (v := (gCell s ((gOb s r).2.1 + i), false)) hcv hQX)
          · rw [decide_eq_true k0] at hQX hcv ⊢
            exact itn (by decide) (ct_shown (v := (gCell s ((gOb s r).2.1 + i), true)) hcv hQX)
      · refine itn b0 ?_
        by_cases b1 : b = -1
        · rw [if_pos b1] at hQX
          refine itp b1 ?_
          cases eo : (gOb s r).1 with
          | none => rw [eo] at hQX; exact itp rfl hQX
          | some d =>
            rw [eo] at hQX
            have hd : d < W.length := by
              rcases hob with z | ⟨d', z, hd, -⟩
              · rw [eo] at z; cases z.1
              · rw [eo] at z; cases z; exact hd
            refine itn (fun z => ?_) hQX
            have := oN_nonneg (show d < 2147483648 by omega)
            have z : Int32.ofNat d = -1 := z
            rw [z] at this
            exact this (by decide)
        rw [if_neg b1] at hQX
        refine itn b1 ?_
        by_cases b2' : b = -2
        · rw [if_pos b2'] at hQX
          refine itp b2' ⟨k, hT.r45, vr l0, ?_⟩
          rw [o0]; exact hQX
        rw [if_neg b2'] at hQX
        refine itn b2' ⟨k, hT.r45, vr l9, ?_⟩
        have b3 : b = -3 := by
          rw [Int32.le_iff_toInt_le, show (-3 : Int32).toInt = -3 from rfl] at bm
          have b0 : ¬ (0 : Int32) ≤ b := b0
          rw [Int32.le_iff_toInt_le, show (0 : Int32).toInt = 0 from rfl] at b0
          have n1 : b.toInt ≠ -1 := fun z => b1 (Int32.toInt_inj.mp z)
          have n2 : b.toInt ≠ -2 := fun z => b2' (Int32.toInt_inj.mp z)
          exact Int32.toInt_inj.mp (show b.toInt = -3 by omega)
        rw [if_pos b3] at hQX
        rw [o9]; exact hQX
    · have hb0 : b < 0 := Int32.lt_trans (Int32.not_le.mp bm) (by decide)
      rw [if_neg (fun z => bm (by rw [z]; decide)), if_neg (fun z => bm (by rw [z]; decide)), if_neg (fun z => bm (by rw [z]; decide)), if_pos (Or.inl hb0)] at hQM
      exact itn bm hQM
end
