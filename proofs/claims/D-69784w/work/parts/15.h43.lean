/-! THE OPERATIONS link, told (printed by gen/tl2.py) -/
noncomputable def lnkO (br : Int32) (W : List Cls) (c : Int32) (s : Ms) : Int32 × Ms := if c < 0 ∨ Int32.ofNat W.length ≤ c then (-1, s)
  else (if (lkN br W 60 (zL s) c.toNatClampNeg).1 = 1 then 0 else (lkN br W 60 (zL s) c.toNatClampNeg).1, yL s (lkN br W 60 (zL s) c.toNatClampNeg).2)
def tldO (W : List Cls) (s : Ms) (i : Nat) (a : Int32) : Int32 := if a = 0 then (if i = 0 then -2 else oC (fnd W (gc W i).2.1)) else if a = 1 then Int32.ofNat (gc W i).2.2.1.length else if a = 2 then Int32.ofNat (gc W i).2.2.2.2.1.length else if a = 3 then Int32.ofNat (gc W i).2.2.2.2.2.length else if a = 4 then (gc W i).2.2.2.1 else if a = 5 then zC s i else if a = 6 then (zL s).1 i else -1
def tolO (W : List Cls) (s : Ms) (c a : Int32) : Int32 := if c < 0 ∨ Int32.ofNat W.length ≤ c then -1 else tldO W s c.toNatClampNeg a
section
variable {A : List Nm} {W : List Cls} {k C B F K w : Nat} {br a b c : Int32} {nq nk np nh nr : Nat} {s : Ms} {M M' : Mem} {Q : Int32 → Mem → Prop} {on : Nat → Bool} {S : Nat} {L' : LkS} {par : Nm}
theorem RA.lk (h : RA A W w br nq nk np nh nr C B F s M) (hf : Fr S M M') (hS : rmO S = true) (hL : LKw A W w br nq nk np nh nr L' M') (hc : cSt w M') : RA A W w br nq nk np nh nr C B F (yL s L') M' := by
  obtain ⟨-, ⟨b1, b2'⟩, ⟨c1, c2⟩, ⟨d1, d2, d3⟩, ⟨e2, e3⟩, g⟩ := h
  have o := fun {b : Nat} (hb : ([b].all (fun b => rmL.contains b)) = true) => okF_in (rmO_in hS hb) (List.mem_singleton.mpr rfl)
  exact ⟨⟨hL, hc⟩, ⟨b1.fr hf (rmO_in hS rfl), b2'.fr hf (o rfl)⟩, ⟨c1.fr hf (rmO_in hS rfl), c2.fr hf (hf.ms (o rfl)) (rmO_in hS rfl)⟩, ⟨d1.fr hf (rmO_in hS rfl), d2.fr hf (rmO_in hS rfl), d3.fr hf (rmO_in hS rfl)⟩, ⟨(hf.L (f := 700) (o rfl) w).trans e2, fun t' ht => (hf.Ra (f := 700) rfl (o rfl) w t').trans (e3 t' ht)⟩, fun t' ht => (g t' ht).fr hf (rmO_in hS rfl)⟩
/-- whether a class is there -/
theorem c_isClass (hk : k < 3) (hOn : cOn on M) (hon : on k = true) (h21 : 21 ≤ W.length) (h51 : W.length ≤ 51) (e2 : mI M 5 (k + 1) 2 = Int32.ofNat W.length) (h0 : (c < 0 ∨ Int32.ofNat W.length ≤ c) → Q 0 M) (h1 : ∀ i, i < W.length → c = Int32.ofNat i → c.toNatClampNeg = i → ¬ (c < 0 ∨ Int32.ofNat W.length ≤ c) → Q 1 M) : w_Works_isClass 0 (Int32.ofNat k) c Q M := by
  unfold w_Works_isClass
  refine c_isWorld hOn (fun j hj e _ _ => ?_) (fun q => by rw [wOf_k hk, hon] at q; cases q)
  refine itn (by decide) ?_
  obtain ⟨a1, a2⟩ := hOn.at hk hon
  refine ⟨a1, k + 1, a2, ?_⟩
  rw [e2, show Int32.ofNat W.length - (1 : Int32) = Int32.ofNat (W.length - 1) from sub_n (n := 1) (by omega)]
  unfold w_Works_isIn
  by_cases c0 : c < 0
  · exact itp c0 (itp rfl (h0 (Or.inl c0)))
  refine itn c0 ?_
  by_cases c1 : Int32.ofNat W.length ≤ c
  · refine itp ?_ (itp rfl (h0 (Or.inr c1)))
    rw [← tnc_oN c0] at c1 ⊢
    have := (oN_le (by omega) (tnc_lt c)).mp c1
    exact (oN_lt (by omega) (tnc_lt c)).mpr (by omega)
  have hi := idx_lt (by omega) c0 c1
  refine itn (fun z => ?_) (itn (by decide) (h1 c.toNatClampNeg hi (tnc_oN c0).symm rfl (fun z => z.elim c0 c1)))
  rw [← tnc_oN c0] at z
  have := (oN_lt (by omega) (by omega)).mp z
  omega
theorem c_findQ (h : cCl A W w M) (hp : par = [] ∨ par ∈ A) (hQ : Q (oC (fnd W par)) M) : w_World_find w (pcC A par) Q M := by
  by_cases e : par = []
  · have hn : fnd W par = none := by
      have hs := fnd_spec (nm := par) (W := W)
      cases ef : fnd W par with
      | none => rfl
      | some j =>
        rw [ef] at hs
        exact absurd (hs.2.1.trans e) (h.2.2 j hs.1).1.2.2
    rw [hn] at hQ
    unfold pcC
    rw [if_pos e]
    obtain ⟨⟨h1, h2, h3, h4⟩, h5⟩ := h.1
    have main : ∀ d k, W.length - k < d → k ≤ W.length → w_World_find_L2 w Q d (-1) (Int32.ofNat k) M := by
      intro d
      induction d with
      | zero => intro k h; omega
      | succ d ih =>
        intro k hd hk
        unfold w_World_find_L2
        rw [h1]
        by_cases e : k = W.length
        · exact itp (le_oN (by omega) (by omega)) hQ
        · refine itn (nle_oN (by omega) (by omega)) ?_
          rw [oN_tnc (by omega), h2]
          refine ⟨(vp_oN (by omega)).mpr (by omega), itn (fun z => ?_) ?_⟩
          · obtain ⟨e1, e2⟩ := h5 k (by omega)
            rw [e1] at z
            have hl := List.idxOf_lt_length_of_mem e2
            have := oN_nonneg (show A.idxOf (gc W k).1 < 2147483648 by omega)
            have z : Int32.ofNat (A.idxOf (gc W k).1) = -1 := z
            rw [z] at this
            exact this (by decide)
          · rw [show Int32.ofNat k + (1 : Int32) = Int32.ofNat (k + 1) from oN_add k 1]
            exact ih (k + 1) (by omega) (by omega)
    unfold w_World_find
    exact ⟨W.length + 1, main (W.length + 1) 0 (by omega) (by omega)⟩
  · unfold pcC
    rw [if_neg e]
    exact c_find h.1 (hp.resolve_left e) hQ
/-- link, in the works -/
theorem c_wlink (hk : k < 3) (hOn : cOn on M) (hon : on k = true) (hW : WO W) (hI : LInv W (zL s).1) (hKB : KB (k + 1) nq nk np nh nr) (hnA : nA A) (h : RA A W (k + 1) br nq nk np nh nr C B F s M) (hQ : ∀ M', RA A W (k + 1) br nq nk np nh nr C B F (lnkO br W c s).2 M' → Q (lnkO br W c s).1 M') : w_Works_link 0 (Int32.ofNat k) c Q M := by
  have hQ' : ∀ y, lnkO br W c s = y → ∀ M', RA A W (k + 1) br nq nk np nh nr C B F y.2 M' → Q y.1 M' := fun y hy => by rw [← hy]; exact hQ
  unfold lnkO at hQ'
  unfold w_Works_link
  refine c_isClass hk hOn hon hW.1.1 hW.2.2.2 h.1.1.1.1.1.1.1.1 (fun z => itp rfl (hQ' _ (if_pos z) M h)) (fun i hi ei ei2 nz => ?_)
  obtain ⟨a1, a2⟩ := hOn.at hk hon
  have hQ' := hQ' _ (if_neg nz)
  rw [ei2] at hQ'
  refine itn (by decide) ⟨a1, k + 1, a2, ?_⟩
  rw [ei]
  refine c_link hnA hKB hW.2.1 h.1.1 hI hi (fun M1 b1 i1 lo1 fr1 => ?_)
  have h1 := hQ' M1 (h.lk fr1 rfl b1 (h.1.2.fr fr1))
  dsimp only at h1
  by_cases c1 : (lkN br W 60 (zL s) i).1 = 1
  · rw [if_pos c1] at h1; exact itp c1 h1
  · rw [if_neg c1] at h1; exact itn c1 h1
/-- told, in the works -/
theorem c_wtold (hk : k < 3) (hOn : cOn on M) (hon : on k = true) (hW : WO W) (h : RA A W (k + 1) br nq nk np nh nr C B F s M) (hQ : Q (tolO W s c a) M) : w_Works_told 0 (Int32.ofNat k) c a Q M := by
  unfold tolO at hQ
  unfold w_Works_told
  refine c_isClass hk hOn hon hW.1.1 hW.2.2.2 h.1.1.1.1.1.1.1.1 (fun z => by rw [if_pos z] at hQ; exact itp rfl hQ) (fun i hi ei ei2 nz => ?_)
  rw [if_neg nz, ei2] at hQ
  obtain ⟨a1, a2⟩ := hOn.at hk hon
  have h51 := hW.2.2.2
  have hcw := h.1.1.1
  obtain ⟨⟨l37, -, l39, l40⟩, hcl⟩ := hcw.1.1.2
  obtain ⟨⟨e37, hpar, -⟩, ⟨e39, -, -⟩, e40⟩ := hcl i hi
  obtain ⟨⟨-, -, l41, l42⟩, fl2, -⟩ := hcw.1.2.1
  obtain ⟨⟨-, e42⟩, -, -⟩ := fl2 i hi
  obtain ⟨-, e44, -, -, -⟩ := hcw.mo (e := 0) hi
  have l44 : mL M 44 (k + 1) = 51 := hcw.2.1.1.1.2
  have l45 : mL M 45 (k + 1) = 51 := hcw.2.2.2.1.2.2.2.2.2.2 45 (by omega) (by omega)
  have l46 : mL M 46 (k + 1) = 51 := hcw.2.2.2.1.2.2.2.2.2.2 46 (by omega) (by omega)
  have e46 : mI M 46 (k + 1) i = zC s i := (h.2.1.1.2.1 i hi).1
  have e45 : mI M 45 (k + 1) i = (zL s).1 i := h.1.1.2.1 i hi
  have vv : ∀ {m : Nat}, m = 51 → vp_in (Int32.ofNat i) m := fun e => by rw [e]; exact (vp_oN (by omega)).mpr (by omega)
  refine itn (by decide) ⟨a1, k + 1, a2, ?_⟩
  rw [ei, oN_tnc (k := i) (by omega)]
  unfold tldO at hQ
  by_cases z0 : a = 0
  · rw [if_pos z0] at hQ
    refine itp z0 ?_
    by_cases i0 : i = 0
    · rw [if_pos i0] at hQ
      exact itp (by rw [i0]; rfl) hQ
    · rw [if_neg i0] at hQ
      refine itn (fun z => i0 ((oN_inj (b := 0) (by omega) (by omega)).mp z)) ⟨vv l37, ?_⟩
      rw [e37]
      exact c_findQ hcw.1.1 hpar hQ
  rw [if_neg z0] at hQ
  refine itn z0 ?_
  by_cases z1 : a = 1
  · rw [if_pos z1] at hQ
    exact itp z1 ⟨vv l39, by rw [e39]; exact hQ⟩
  rw [if_neg z1] at hQ
  refine itn z1 ?_
  by_cases z2 : a = 2
  · rw [if_pos z2] at hQ
    exact itp z2 ⟨vv l42, by rw [e42]; exact hQ⟩
  rw [if_neg z2] at hQ
  refine itn z2 ?_
  by_cases z3 : a = 3
  · rw [if_pos z3] at hQ
    exact itp z3 ⟨vv l44, by rw [e44]; exact hQ⟩
  rw [if_neg z3] at hQ
  refine itn z3 ?_
  by_cases z4 : a = 4
  · rw [if_pos z4] at hQ
    exact itp z4 ⟨vv l40, by rw [e40]; exact hQ⟩
  rw [if_neg z4] at hQ
  refine itn z4 ?_
  by_cases z5 : a = 5
  · rw [if_pos z5] at hQ
    exact itp z5 ⟨vv l46, by rw [e46]; exact hQ⟩
  rw [if_neg z5] at hQ
  refine itn z5 ?_
  by_cases z6 : a = 6
  · rw [if_pos z6] at hQ
    exact itp z6 ⟨vv l45, by rw [e45]; exact hQ⟩
  rw [if_neg z6] at hQ
  refine itn z6 ?_
  exact hQ
end
section
variable {G : List Sl} {US : UST} {A : List Nm} {S : List Sg} {W : List Cls} {k C B F K ud t w : Nat} {br a b c x : Int32} {nq nl nf nk : Nat} {s : Ms} {M M' : Mem} {Q : Int32 → Mem → Prop} {on : Nat → Bool} {R : Nat} {L' : LkS} {par : Nm}
theorem TA.lk (h : TA G US A S W w br nq nl nf nk B F x s M) (hf : Fr R M M') (hL : LKt G US A S W w br nq nl nf nk L' M') (hR : tmO R = true := by rfl) : TA G US A S W w br nq nl nf nk B F x (yL s L') M' := by
  have hg := h.ga
  unfold tmO at hR
  simp only [Bool.and_eq_true, Bool.not_eq_true'] at hR
  obtain ⟨⟨r1, r2, r3, r4, r5, r6, r7, r8, r9⟩, r10⟩ := hR
  have o := fun {b : Nat} (hb : b ∈ [cd 11 46, cd 11 47, 5704, 704, 5110]) => okF_in r10 hb
  obtain ⟨a1, ⟨b1, b2'⟩, ⟨c1, c2⟩, ⟨d1, d2, d3⟩, ⟨e3, e4⟩, ⟨m1, m2, m3⟩, g⟩ := h
  have hr := hf.rsl hg r4
  exact ⟨hL, ⟨b1.fr hf r1, b2'.fr hf r2⟩, ⟨c1.fr hf r3, c2.fr hg hf r4 r5⟩, ⟨d1.fr hf r6, d2.fr hf r7, d3.fr hf r8⟩, ⟨(hf.L (f := 704) (o (by simp)) w).trans e3, fun t' ht => (hf.Ra (f := 704) rfl (o (by simp)) w t').trans (e4 t' ht)⟩, ⟨by rw [hr.1, hr.2]; exact m1, by rw [hf.L (f := 110) (o (by simp))]; exact ⟨m2, m3⟩⟩, fun t' ht => (g t' ht).eq (fun f k hl h23 => unO_I r9 hf hl h23 _) (fun f hl => unO_L r9 hf hl _)⟩
theorem ct_isClass (hk : k < 3) (hOn : tOn on M) (hon : on k = true) (h51 : W.length ≤ 51) (e2 : mI M 12 k 2 = Int32.ofNat W.length) (h0 : (c < 0 ∨ Int32.ofNat W.length ≤ c) → Q 0 M) (h1 : ∀ i, i < W.length → c = Int32.ofNat i → c.toNatClampNeg = i → ¬ (c < 0 ∨ Int32.ofNat W.length ≤ c) → Q 1 M) : w_Model_isClass 0 (Int32.ofNat k) c Q M := by
  unfold w_Model_isClass
  refine ct_isWorld hOn (fun j hj e _ _ => ?_) (fun q => by rw [wOf_k hk, hon] at q; cases q)
  refine itn (by decide) ?_
  obtain ⟨a1, a2⟩ := hOn.at hk
  by_cases c0 : c < 0
  · exact itp c0 (h0 (Or.inl c0))
  refine itn c0 ⟨a1, k, a2, ?_⟩
  rw [e2]
  by_cases c1 : Int32.ofNat W.length ≤ c
  · exact itp c1 (h0 (Or.inr c1))
  exact itn c1 (h1 c.toNatClampNeg (idx_lt (by omega) c0 c1) (tnc_oN c0).symm rfl (fun z => z.elim c0 c1))
theorem ct_classP (hw : mR M 11 0 45 = some (12, w)) (h : tCl A W w M) (hp : par = [] ∨ par ∈ A) (hQ : Q (oC (fnd W par)) M) : w_Model_classOf 0 (pcT A par) Q M := by
  by_cases e : par = []
  · have hn : fnd W par = none := by
      have hs := fnd_spec (nm := par) (W := W)
      cases ef : fnd W par with
      | none => rfl
      | some j =>
        rw [ef] at hs
        exact absurd (hs.2.1.trans e) (h.2.2 j hs.1).1.2.2
    rw [hn] at hQ
    unfold pcT
    rw [if_pos e]
    obtain ⟨⟨h1, h2, h3, h4⟩, h5⟩ := h.1
    have main : ∀ d k, W.length - k < d → k ≤ W.length → w_Model_classOf_L2 0 Q d (-2) (Int32.ofNat k) M := by
      intro d
      induction d with
      | zero => intro k h; omega
      | succ d ih =>
        intro k hd hk
        unfold w_Model_classOf_L2
        refine ⟨w, hw, ?_⟩
        rw [h1]
        by_cases e : k = W.length
        · exact itp (le_oN (by omega) (by omega)) hQ
        · refine itn (nle_oN (by omega) (by omega)) ⟨w, hw, ?_⟩
          rw [oN_tnc (by omega), h2]
          refine ⟨(vp_oN (by omega)).mpr (by omega), itn (fun z => ?_) ?_⟩
          · obtain ⟨e1, e2⟩ := h5 k (by omega)
            rw [e1] at z
            have hl := List.idxOf_lt_length_of_mem e2
            have := oN_nonneg (show A.idxOf (gc W k).1 < 2147483648 by omega)
            have z : Int32.ofNat (A.idxOf (gc W k).1) = -2 := z
            rw [z] at this
            exact this (by decide)
          · rw [show Int32.ofNat k + (1 : Int32) = Int32.ofNat (k + 1) from oN_add k 1]
            exact ih (k + 1) (by omega) (by omega)
    unfold w_Model_classOf
    exact ⟨W.length + 1, main (W.length + 1) 0 (by omega) (by omega)⟩
  · unfold pcT
    rw [if_neg e]
    exact ct_classOf hw h.1 (hp.resolve_left e) hQ
/-- link, in the twin -/
theorem ct_wlink (hk : k < 3) (hOn : tOn on M) (hon : on k = true) (hW : WO W) (hI : LInv W (zL s).1) (hB : LB (zL s)) (h : TAx G US A S W k br nq nl nf nk B F x s M) (hQ : ∀ M', TAx G US A S W k br nq nl nf nk B F x (lnkO br W c s).2 M' → Q (lnkO br W c s).1 M') : w_Model_link 0 (Int32.ofNat k) c Q M := by
  have hQ' : ∀ y, lnkO br W c s = y → ∀ M', TAx G US A S W k br nq nl nf nk B F x y.2 M' → Q y.1 M' := fun y hy => by rw [← hy]; exact hQ
  unfold lnkO at hQ'
  have hT : TA G US A S W k br nq nl nf nk B F x s (sR M 11 0 45 (some (12, k))) := h
  unfold w_Model_link
  refine ct_isClass hk hOn hon hW.2.2.2 (show mI M 12 k 2 = _ from hT.1.1.cl.1.1.1) (fun z => itp rfl (hQ' _ (if_pos z) M h)) (fun i hi ei ei2 nz => ?_)
  obtain ⟨a1, a2⟩ := hOn.at hk
  have hQ' := hQ' _ (if_neg nz)
  rw [ei2] at hQ'
  have h51 := hW.2.2.2
  refine itn (by decide) ⟨a1, k, a2, ?_⟩
  rw [ei]
  refine ct_isLinked hW.2.1 hT.1 hI hi (fun M1 b1 i1 lo1 fr1 => ?_)
  have h1 := hT.lk fr1 b1
  have hq := hQ' M1 h1.xx
  dsimp only at hq
  have l138 : mL M1 138 k = 51 := b1.1.1.1.1.1.2.2.2.2.2.2
  by_cases c1 : (lkN br W 60 (zL s) i).1 = 1
  · rw [if_pos c1] at hq
    rw [decide_eq_true c1]
    exact itn (by decide) hq
  · rw [if_neg c1] at hq
    rw [decide_eq_false c1]
    refine itp rfl ⟨k, h1.r45, by rw [l138]; exact (vp_oN (by omega)).mpr (by omega), ?_⟩
    rw [oN_tnc (k := i) (by omega), b1.2.1 i hi, show (lkN br W 60 (zL s) i).2.1 i = (lkN br W 60 (zL s) i).1 from lkN_own (n := 59)]
    exact hq
/-- told, in the twin -/
theorem ct_wtold (hk : k < 3) (hOn : tOn on M) (hon : on k = true) (hW : WO W) (h : TAx G US A S W k br nq nl nf nk B F x s M) (hQ : ∀ M', TAx G US A S W k br nq nl nf nk B F x s M' → Fr (69556213141345269407515067115786764991705262549735948303537359111522614176378895669990532984393877424257869264331680209358104836822935374614554679608043721543799333994078233166448732839509381338884749875141583345849788064702954612877462466104677421689448088294080777773965362174599308044327164417092088846031042047278365580585966720455145967136585436087833973984505353126613550736388181582785893315094229488730062957948409704252857268529221075377285067062755595332929103886865297150820576930048624213679773234781064639103418048462727563158233601126703792262163018387042296687430434915196125330685777119717767970019341806901981510528366365657011400439883787084893751229924829447152769796462326141284670937650906274428797367613626454026848298648969369286983979169519208976077834399557390296948941219899625597632161323087361696526000865772268255307923110197940977474400891396850517544211016799549379926055142573277403100946091498432294529676854420081353757434477181439477999992832) M M' → Q (tolO W s c a) M') : w_Model_told 0 (Int32.ofNat k) c a Q M := by
  have hT : TA G US A S W k br nq nl nf nk B F x s (sR M 11 0 45 (some (12, k))) := h
  have hQM := hQ M h (Fr.rf _ _)
  have hQX := hQ (sR M 11 0 45 (some (12, k))) (TA.xx hT) (Fr.wR rfl (Fr.rf _ _))
  unfold tolO at hQM hQX
  unfold w_Model_told
  refine ct_isClass hk hOn hon hW.2.2.2 (show mI M 12 k 2 = _ from hT.1.1.cl.1.1.1) (fun z => by rw [if_pos z] at hQM; exact itp rfl hQM) (fun i hi ei ei2 nz => ?_)
  rw [if_neg nz, ei2] at hQM hQX
  obtain ⟨a1, a2⟩ := hOn.at hk
  have h51 := hW.2.2.2
  refine itn (by decide) ?_
  unfold tldO at hQM hQX
  have out : a < 0 ∨ 6 < a → Q (-1) M := fun ho => by
    have hn : ∀ m : Int32, ¬ (m < 0 ∨ 6 < m) → a ≠ m := fun m hm e => hm (by rw [← e]; exact ho)
    rw [if_neg (hn 0 (by decide)), if_neg (hn 1 (by decide)), if_neg (hn 2 (by decide)), if_neg (hn 3 (by decide)), if_neg (hn 4 (by decide)), if_neg (hn 5 (by decide)), if_neg (hn 6 (by decide))] at hQM
    exact hQM
  by_cases c0 : a < 0
  · exact itp c0 (out (Or.inl c0))
  refine itn c0 ?_
  by_cases c6 : 6 < a
  · exact itn (Int32.not_le.mpr c6) (out (Or.inr c6))
  refine itp (Int32.not_lt.mp c6) ⟨a1, k, a2, ?_⟩
  generalize sR M 11 0 45 (some (12, k)) = M1 at hT hQX ⊢
  obtain ⟨⟨l131, -, l134, l132⟩, hcl⟩ := hT.1.1.cl.2
  obtain ⟨⟨e131, hpar, -⟩, ⟨e134, -, -⟩, e132⟩ := hcl i hi
  obtain ⟨l135, l136, l137, l138⟩ := hT.1.1.1.1.1.1.2.2.2
  have e135 := (hT.1.1.1.1.1.2.1.2 i hi).1.1
  have e136 := (hT.1.1.mcn hi).1
  have e137 := (hT.2.1.1.2.1 i hi).1
  have e138 := hT.1.2.1 i hi
  have vv : ∀ {m : Nat}, m = 51 → vp_in (Int32.ofNat i) m := fun e => by rw [e]; exact (vp_oN (by omega)).mpr (by omega)
  rw [ei]
  by_cases z0 : a = 0
  · rw [if_pos z0] at hQX
    refine itp z0 ?_
    by_cases i0 : i = 0
    · rw [if_pos i0] at hQX
      exact itp (by rw [i0]; rfl) hQX
    · rw [if_neg i0] at hQX
      refine itn (fun z => i0 ((oN_inj (b := 0) (by omega) (by omega)).mp z)) ⟨k, hT.r45, vv l131, ?_⟩
      rw [oN_tnc (k := i) (by omega), e131]
      refine ct_classP hT.r45 hT.1.1.cl hpar ?_
      cases ef : fnd W (gc W i).2.1 with
      | none => rw [ef] at hQX; exact itn (show ¬ (0 : Int32) ≤ -2 by decide) hQX
      | some d =>
        have hd := fnd_lt ef
        refine itp (show (0 : Int32) ≤ Int32.ofNat d from oN_zero_le (by omega)) ⟨k, hT.r45, vv l131, ?_⟩
        rw [e131]
        exact ct_classP hT.r45 hT.1.1.cl hpar hQX
  rw [if_neg z0] at hQX
  refine itn z0 ?_
  by_cases z1 : a = 1
  · rw [if_pos z1] at hQX
    refine itp z1 ⟨k, hT.r45, vv l134, ?_⟩
    rw [oN_tnc (k := i) (by omega), e134]; exact hQX
  rw [if_neg z1] at hQX
  refine itn z1 ?_
  by_cases z2 : a = 2
  · rw [if_pos z2] at hQX
    refine itp z2 ⟨k, hT.r45, vv l135, ?_⟩
    rw [oN_tnc (k := i) (by omega), e135]; exact hQX
  rw [if_neg z2] at hQX
  refine itn z2 ?_
  by_cases z3 : a = 3
  · rw [if_pos z3] at hQX
    refine itp z3 ⟨k, hT.r45, vv l136, ?_⟩
    rw [oN_tnc (k := i) (by omega), e136]; exact hQX
  rw [if_neg z3] at hQX
  refine itn z3 ?_
  by_cases z4 : a = 4
  · rw [if_pos z4] at hQX
    refine itp z4 ⟨k, hT.r45, vv l132, ?_⟩
    rw [oN_tnc (k := i) (by omega), e132]; exact hQX
  rw [if_neg z4] at hQX
  refine itn z4 ?_
  by_cases z5 : a = 5
  · rw [if_pos z5] at hQX
    refine itp z5 ⟨k, hT.r45, vv l137, ?_⟩
    rw [oN_tnc (k := i) (by omega), e137]; exact hQX
  rw [if_neg z5] at hQX
  refine itn z5 ?_
  have z6 : a = 6 := by
    obtain ⟨n, hn, en, -⟩ := i61 (m := 6) (by decide) c0 c6
    have : n = 0 ∨ n = 1 ∨ n = 2 ∨ n = 3 ∨ n = 4 ∨ n = 5 ∨ n = 6 := by omega
    rcases this with z | z | z | z | z | z | z <;> subst z
    · exact absurd en z0
    · exact absurd en z1
    · exact absurd en z2
    · exact absurd en z3
    · exact absurd en z4
    · exact absurd en z5
    · exact en
  rw [if_pos z6] at hQX
  refine ⟨k, hT.r45, vv l138, ?_⟩
  rw [oN_tnc (k := i) (by omega), e138]; exact hQX
end
