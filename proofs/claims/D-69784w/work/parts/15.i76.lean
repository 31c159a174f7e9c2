/-! THE OPERATION differ, twin, whole -/
noncomputable def dPd (a : Int32) (L : List Mth) : Mth → Bool := if a = 2 then (fun x => (lkf x L).isNone) else dif3 L
theorem difO_23 {C D : Cls} {a : Int32} (ha : a = 2 ∨ a = 3) : difO C D a = Int32.ofNat (C.2.2.2.2.2.countP (dPd a D.2.2.2.2.2)) := by
  unfold difO dPd
  rcases ha with e | e
  · rw [e, if_neg (by decide), if_neg (by decide), if_pos rfl, if_pos rfl]
  · rw [e, if_neg (by decide), if_neg (by decide), if_neg (by decide), if_neg (by decide)]
/-- only the lent pages have changed -/
def DfI (G : List Sl) (P : List Int32) (M M' : Mem) : Prop := (tPo P M' ∧ dPo M') ∧ Fr SPe M M' ∧ GF G [sP1, sP2] M M'
section
variable {G X : List Sl} {US : UST} {A : List Nm} {S : List Sg} {W V : List Cls} {w w' : Nat} {br br' x0 x1 : Int32} {nq nl nf nk nq' nl' nf' nk' B B' F F' : Nat} {P P' : List Int32} {M M1 M' : Mem} {Q : Int32 → Mem → Prop} {R k k' c d j i m f : Nat} {v a ca da : Int32} {x y : Mth} {p : Sl} {s s' : Ms} {on : Nat → Bool}
theorem DfI.tx (hI : DfI G P M M') (h : TAx G US A S W k br nq nl nf nk B F x0 s M) : TAx G US A S W k br nq nl nf nk B F x0 s M' := h.gx hI.2.2 (by simp) hI.2.1
theorem DfI.s45 {u : Option (Nat × Nat)} (hI : DfI G P M M') (hG : sPg ∈ G ∧ sP1 ∈ G ∧ sP2 ∈ G) (hGa : Ga G) : DfI G P M (sR M' 11 0 45 u) := by
  obtain ⟨⟨⟨⟨p1, p2, p3, p4⟩, p5⟩, d1, d2⟩, f, g⟩ := hI
  have el : ∀ s ∈ G, rl (sR M' 11 0 45 u) s = rl M' s := fun s hs => by unfold rl; rw [rdI45 hGa hs]; rfl
  have ec : ∀ s ∈ G, ∀ i, rd (sR M' 11 0 45 u) s i = rd M' s i := fun s hs i => by unfold rd; rw [rdI45 hGa hs]; rfl
  exact ⟨⟨⟨⟨p1, by rw [el _ hG.1]; exact p2, by rw [el _ hG.1]; exact p3, fun i hi => (ec _ hG.1 i).trans (p4 i hi)⟩, p5⟩, by rw [el _ hG.2.1]; exact d1, by rw [el _ hG.2.2]; exact d2⟩, Fr.wR rfl f, g.fr (S := (69556213141345269407515067115786764991705262549735948303537359111522614176378895669990532984393877424257869264331680209358104836822935374614554679608043721543799333994078233166448732839509381338884749875141583345849788064702954612877462466104677421689448088294080777773965362174599308044327164417092088846031042047278365580585966720455145967136585436087833973984505353126613550736388181582785893315094229488730062957948409704252857268529221075377285067062755595332929103886865297150820576930048624213679773234781064639103418048462727563158233601126703792262163018387042296687430434915196125330685777119717767970019341806901981510528366365657011400439883787084893751229924829447152769796462326141284670937650906274428797367613626454026848298648969369286983979169519208976077834399557390296948941219899625597632161323087361696526000865772268255307923110197940977474400891396850517544211016799549379926055142573277403100946091498432294529676854420081353757434477181439477999992832)) (Fr.wR rfl (Fr.rf _ _)) hGa⟩
theorem ct_df257 (hG : sPg ∈ G ∧ sP1 ∈ G ∧ sP2 ∈ G) (h : TAx G US A S W k br nq nl nf nk B F x0 s M) (h' : TAx G US A S V k' br' nq' nl' nf' nk' B' F' x1 s' M) (hc : c < W.length) (hd : d < V.length) (hD : DfT W) (hD' : DfT V) (ha : a = 2 ∨ a = 3) (hQ : ∀ M', DfI G P M M' → Q (difO (gc W c) (gc V d) a) M') : ∀ n i M1, DfI G P M M1 → i ≤ (gc W c).2.2.2.2.2.length → (gc W c).2.2.2.2.2.length - i < n → w_Model_differ_L257 0 Q n (Int32.ofNat c) (Int32.ofNat d) a k k' (Int32.ofNat (((gc W c).2.2.2.2.2.take i).countP (dPd a (gc V d).2.2.2.2.2))) (Int32.ofNat (12 * c + i)) M1
  | 0, i, M1, hI, hi, hn => absurd hn (by omega)
  | n + 1, i, M1, hI, hi, hn => by
    have hX := hI.tx h
    have hY := hI.tx h'
    have hB := hX.tb
    have hB' := hY.tb
    have hGa := hB.2.1.1
    have h51 := hB.l51
    have h51' := hB'.l51
    obtain ⟨e136, h12⟩ := hB.mcn hc
    have e136 : mI M1 136 k c = Int32.ofNat (gc W c).2.2.2.2.2.length := e136
    have l136 : mL M1 136 k = 51 := hB.1.1.1.1.2.2.2.2.1
    unfold w_Model_differ_L257
    refine ⟨by rw [l136]; exact (vp_oN (by omega)).mpr (by omega), ?_⟩
    rw [oN_tnc (k := c) (by omega), e136, lit32 12, oN_mul, oN_add]
    by_cases ek : i = (gc W c).2.2.2.2.2.length
    · refine itp (by rw [ek]; exact le_oN (Nat.le_refl _) (by omega)) ?_
      rw [ek, List.take_length, ← difO_23 ha]
      exact hQ M1 hI
    have hil : i < (gc W c).2.2.2.2.2.length := by omega
    have hcl := cnt_leQ (p := dPd a (gc V d).2.2.2.2.2) (l := (gc W c).2.2.2.2.2) (k := i)
    have hck := cnt_k (p := dPd a (gc V d).2.2.2.2.2) (d := ([], [], (0, []), 0, 0, 0, [], [])) hil
    have hck : ((gc W c).2.2.2.2.2.take (i + 1)).countP (dPd a (gc V d).2.2.2.2.2) = ((gc W c).2.2.2.2.2.take i).countP (dPd a (gc V d).2.2.2.2.2) + (if dPd a (gc V d).2.2.2.2.2 (gmt (gc W c) i) = true then 1 else 0) := hck
    have ih : ∀ M2, DfI G P M M2 → w_Model_differ_L257 0 Q n (Int32.ofNat c) (Int32.ofNat d) a k k' (Int32.ofNat (((gc W c).2.2.2.2.2.take i).countP (dPd a (gc V d).2.2.2.2.2) + (if dPd a (gc V d).2.2.2.2.2 (gmt (gc W c) i) = true then 1 else 0))) (Int32.ofNat (12 * c + (i + 1))) M2 := fun M2 h2 => by
      rw [← hck]
      exact ct_df257 hG h h' hc hd hD hD' ha hQ n (i + 1) M2 h2 (by omega) (by omega)
    generalize ((gc W c).2.2.2.2.2.take i).countP (dPd a (gc V d).2.2.2.2.2) = N at ih hcl ⊢
    have add : ∀ (e : Nat) M2, DfI G P M M2 → (if dPd a (gc V d).2.2.2.2.2 (gmt (gc W c) i) = true then 1 else 0) = e → w_Model_differ_j351 0 Q (w_Model_differ_L257 0 Q n) (Int32.ofNat c) (Int32.ofNat d) a k k' (Int32.ofNat (12 * c + i)) (Int32.ofNat e) (Int32.ofNat N) M2 := fun e M2 h2 he => by
      unfold w_Model_differ_j351
      rw [lit32 1, oN_add, oN_add, ← he]; exact ih M2 h2
    obtain ⟨⟨y1, y2⟩, ⟨y3, y4⟩, ⟨y5, y6, -⟩, -⟩ := hB.hd hc hil
    have y1 : mI M1 144 k (12 * c + i) = nc A (gmt (gc W c) i).1 := y1
    have y3 : mI M1 145 k (12 * c + i) = Int32.ofNat (S.idxOf (sg A (gmt (gc W c) i).2.1 (gmt (gc W c) i).2.2.1)) := y3
    have l144 : mL M1 144 k = 612 := hB.ml (by omega) (by omega)
    have l145 : mL M1 145 k = 612 := hB.ml (by omega) (by omega)
    have hI2 : DfI G P M (sR M1 11 0 45 (some (12, k'))) := hI.s45 hG hGa
    refine itn (nle_oN (by omega) (by omega)) ?_
    rw [mL_sR, mL_sR, mI_sR, mI_sR, l144, l145, oN_tnc (k := 12 * c + i) (by omega), y1, y3]
    refine ⟨(vp_oN (by omega)).mpr (by omega), (vp_oN (by omega)).mpr (by omega), ct_methodIn hB' hd y2 y4 ⟨y5, y6⟩ ?_⟩
    generalize sR M1 11 0 45 (some (12, k')) = M2 at hI2 ⊢
    rcases own_lkf (x := gmt (gc W c) i) (d := ([], [], (0, []), 0, 0, 0, [], [])) (gc V d).2.2.2.2.2 0 with ⟨e1, e2⟩ | ⟨j, e1, hj, e2, hl⟩
    · rw [e1]
      refine itn (show ¬ (0 : Int32) ≤ -2 by decide) ?_
      rcases ha with e | e
      · refine itp e (add 1 M2 hI2 ?_)
        unfold dPd
        rw [if_pos e]
        show (if (lkf (gmt (gc W c) i) (gc V d).2.2.2.2.2).isNone = true then 1 else 0) = 1
        rw [e2]; rfl
      · refine itn (by rw [e]; decide) (add 0 M2 hI2 ?_)
        have e4 : dPd a (gc V d).2.2.2.2.2 (gmt (gc W c) i) = false := by
          unfold dPd
          rw [if_neg (show ¬ a = 2 by rw [e]; decide)]
          unfold dif3
          rw [e2]
        rw [e4]; rfl
    · rw [e1, Nat.zero_add]
      have e2 : lkf (gmt (gc W c) i) (gc V d).2.2.2.2.2 = some (gmt (gc V d) j) := e2
      have hl : lkM (gmt (gc W c) i) (gmt (gc V d) j) := hl
      obtain ⟨-, h12'⟩ := hB'.mcn hd
      refine itp (oN_zero_le (by omega)) ?_
      rcases ha with e | e
      · refine itn (by rw [e]; decide) ?_
        unfold w_Model_differ_j350
        refine add 0 M2 hI2 ?_
        unfold dPd
        rw [if_pos e]
        show (if (lkf (gmt (gc W c) i) (gc V d).2.2.2.2.2).isNone = true then 1 else 0) = 0
        rw [e2]; rfl
      · refine itp e ?_
        obtain ⟨nx, lx⟩ := hD c hc i hil
        obtain ⟨ny, ly⟩ := hD' d hd j hj
        have e3 : dPd a (gc V d).2.2.2.2.2 (gmt (gc W c) i) = !eqQ (gmt (gc W c) i) (gmt (gc V d) j) := by
          unfold dPd
          rw [if_neg (by rw [e]; decide)]
          unfold dif3
          rw [e2]
        refine ct_isWr hG (hI2.tx h) (hI2.tx h') hI2.1.1 hI2.1.2 hc hil rfl hd hj rfl nx ny lx ly (fun b M3 hb hq tp dp f3 g3 => ?_)
        have hI3 : DfI G P M M3 := ⟨⟨tp, dp⟩, hI2.2.1.trans f3, hI2.2.2.trans g3⟩
        by_cases z : gmt (gc W c) i = gmt (gc V d) j
        · have b1 : b = 1 := hq.2 (by rw [z])
          rw [b1]
          refine itn (by decide) ?_
          unfold w_Model_differ_j350
          refine add 0 M3 hI3 ?_
          rw [e3, eqQ_t z]; rfl
        · have b0 : b = 0 := by
            rcases hb with q | q
            · exact q
            · exact absurd (txM_inj nx ny hl.1 hl.2.2 hl.2.1 (hq.1 q)) z
          rw [b0]
          refine itp rfl (add 1 M3 hI3 ?_)
          rw [e3, eqQ_f z]; rfl
theorem ct_wdiffer (hk : k < 3) (hk' : k' < 3) (hOn : tOn on M) (hon : on k = true) (hon' : on k' = true) (hW : WO W) (hV : WO V) (hD : DfW W) (hD' : DfW V) (hT : DfT W) (hT' : DfT V) (hG : sPg ∈ G ∧ sP1 ∈ G ∧ sP2 ∈ G) (h : TAx G US A S W k br nq nl nf nk B F x0 s M) (h' : TAx G US A S V k' br' nq' nl' nf' nk' B' F' x1 s' M) (hp : tPo P M) (hdp : dPo M) (hQ : ∀ M', DfI G P M M' → Q (dfrO W V ca da a) M') : w_Model_differ 0 (Int32.ofNat k) ca (Int32.ofNat k') da a Q M := by
  have h51 := hW.2.2.2
  have h51' := hV.2.2.2
  have hI0 : DfI G P M M := ⟨⟨hp, hdp⟩, Fr.rf _ _, GF.rf h.tg⟩
  unfold dfrO at hQ
  unfold w_Model_differ
  refine ct_isClass hk hOn hon hW.2.2.2 (show mI M 12 k 2 = _ from h.tb.cl.1.1.1) (fun z => ?_) (fun c hc ec ec2 nz => ?_)
  · rw [if_pos z] at hQ
    exact itp rfl (hQ M hI0)
  rw [if_neg nz] at hQ
  refine itn (by decide) ?_
  refine ct_isClass hk' hOn hon' hV.2.2.2 (show mI M 12 k' 2 = _ from h'.tb.cl.1.1.1) (fun z => ?_) (fun d hd ed ed2 nz' => ?_)
  · rw [if_pos z] at hQ
    exact itp rfl (hQ M hI0)
  rw [if_neg nz'] at hQ
  refine itn (by decide) ?_
  by_cases c0 : a < 0
  · rw [if_pos (Or.inl c0)] at hQ
    exact itp c0 (hQ M hI0)
  refine itn c0 ?_
  by_cases c3 : (3 : Int32) < a
  · rw [if_pos (Or.inr c3)] at hQ
    exact itn (Int32.not_le.mpr c3) (hQ M hI0)
  rw [if_neg (fun z => z.elim c0 c3), ec2, ed2] at hQ
  obtain ⟨a1, a2⟩ := hOn.at hk
  obtain ⟨b1, b2'⟩ := hOn.at hk'
  refine itp (Int32.not_lt.mp c3) ⟨a1, k, a2, b1, k', b2', ?_⟩
  rw [ec, ed]
  have a4 : a = 0 ∨ a = 1 ∨ a = 2 ∨ a = 3 := by
    have e := tnc_oN c0
    have hlt : a.toNatClampNeg < 4 := idx_lt (n := 4) (by omega) c0 (fun z => c3 (by rw [Int32.le_iff_toInt_le] at z; rw [Int32.lt_iff_toInt_lt]; exact Int.lt_of_lt_of_le (by decide) z))
    rw [← e]
    have : a.toNatClampNeg = 0 ∨ a.toNatClampNeg = 1 ∨ a.toNatClampNeg = 2 ∨ a.toNatClampNeg = 3 := by omega
    rcases this with q | q | q | q <;> rw [q]
    · exact Or.inl rfl
    · exact Or.inr (Or.inl rfl)
    · exact Or.inr (Or.inr (Or.inl rfl))
    · exact Or.inr (Or.inr (Or.inr rfl))
  have hB := h.tb
  have hB' := h'.tb
  have hA := hB.2.2.1
  have tW : tCl A W k M := hB.cl
  have tV : tCl A V k' M := hB'.cl
  have fW : tFl A W k M := hB.fl
  have fV : tFl A V k' M := hB'.fl
  have l135 : mL M 135 k = 51 := hB.1.1.1.1.2.2.2.1
  have l135' : mL M 135 k' = 51 := hB'.1.1.1.1.2.2.2.1
  obtain ⟨-, ⟨l131, l133, l134, l132⟩, hcl⟩ := id tW
  obtain ⟨⟨e131, par, -⟩, ⟨e134, h4, hfc⟩, e132⟩ := hcl c hc
  obtain ⟨-, ⟨l131', l133', l134', l132'⟩, hcl'⟩ := id tV
  obtain ⟨⟨e131', par', -⟩, ⟨e134', h4', hfc'⟩, e132'⟩ := hcl' d hd
  have vc : ∀ {g : Nat}, g = 51 → vp_in (Int32.ofNat c) g := fun e => by rw [e]; exact (vp_oN (by omega)).mpr (by omega)
  have vd : ∀ {g : Nat}, g = 51 → vp_in (Int32.ofNat d) g := fun e => by rw [e]; exact (vp_oN (by omega)).mpr (by omega)
  rcases a4 with e | e | e | e
  · rw [e] at hQ
    have hQ := hQ M hI0
    refine itp e ⟨vc l132, vd l132', ?_⟩
    rw [oN_tnc (k := c) (by omega), oN_tnc (k := d) (by omega), e132, e132', e131, e131', e134, e134']
    have no : ¬ ((gc W c).2.2.2.1 = (gc V d).2.2.2.1 ∧ (gc W c).2.1 = (gc V d).2.1 ∧ (gc W c).2.2.1 = (gc V d).2.2.1) → w_Model_differ_j111 0 Q (Int32.ofNat c) (Int32.ofNat d) k k' M := fun z => by
      unfold difO at hQ
      rw [if_pos rfl, if_neg z] at hQ
      have g : w_Model_differ_j175 0 Q 0 M := by
        unfold w_Model_differ_j175
        exact itp rfl hQ
      unfold w_Model_differ_j111 w_Model_differ_j112
      refine ⟨1, ?_⟩
      unfold w_Model_differ_L117
      refine ⟨vc l134, ?_⟩
      split
      · exact g
      · exact itp rfl g
    by_cases c1 : (gc W c).2.2.2.1 = (gc V d).2.2.2.1
    · refine itp c1 ⟨vc l131, vd l131', ?_⟩
      have inj := pcT_inj hA par par'
      by_cases c2 : (gc W c).2.1 = (gc V d).2.1
      · refine itp (inj.2 c2) ⟨vc l134, vd l134', ?_⟩
        by_cases c5 : (gc W c).2.2.1.length = (gc V d).2.2.1.length
        · refine itp (by rw [c5]) ?_
          unfold w_Model_differ_j112
          exact ⟨(gc W c).2.2.1.length + 1, ct_df117 hA tW tV h51 h51' hc hd ⟨c1, c2⟩ c5 hQ _ 0 true (Nat.zero_le _) (by omega) ⟨fun _ i hi => absurd hi (by omega), fun _ => rfl⟩⟩
        · exact itn (ne_oN c5 (by omega) (by omega)) (no (fun z => c5 (by rw [z.2.2])))
      · exact itn (fun z => c2 (inj.1 z)) (no (fun z => c2 z.2.1))
    · exact itn c1 (no (fun z => c1 z.1))
  · rw [e] at hQ
    refine itn (by rw [e]; decide) (itp e ⟨(gc W c).2.2.2.2.1.length + 1, ?_⟩)
    rw [show (8 : Int32) * Int32.ofNat c = Int32.ofNat (8 * c + 0) from oN_mul 8 c]
    exact ct_df201 hA fW fV l135 l135' h51 h51' hc hd (hD c hc).1 (hD' d hd).1 (hQ M hI0) _ 0 (Nat.zero_le _) (by omega)
  · have ha : a = 2 ∨ a = 3 := Or.inl e
    refine itn (by rw [e]; decide) (itn (by rw [e]; decide) ⟨(gc W c).2.2.2.2.2.length + 1, ?_⟩)
    rw [show (12 : Int32) * Int32.ofNat c = Int32.ofNat (12 * c + 0) from oN_mul 12 c]
    exact ct_df257 hG h h' hc hd hT hT' ha hQ _ 0 M hI0 (Nat.zero_le _) (by omega)
  · have ha : a = 2 ∨ a = 3 := Or.inr e
    refine itn (by rw [e]; decide) (itn (by rw [e]; decide) ⟨(gc W c).2.2.2.2.2.length + 1, ?_⟩)
    rw [show (12 : Int32) * Int32.ofNat c = Int32.ofNat (12 * c + 0) from oN_mul 12 c]
    exact ct_df257 hG h h' hc hd hT hT' ha hQ _ 0 M hI0 (Nat.zero_le _) (by omega)
end
