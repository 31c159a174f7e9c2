/-! THE OPERATION call: the line, in the twin: types, the whole -/
def pN1 (d j : Nat) (t : List Tok) : Rz Nat := if isWd nNum t = true ∧ j ≠ 6 then pNumsF d (j + 1) t.tail else .inl (er t)
theorem pNumsF_0 {d : Nat} {t : List Tok} (h : (hd t).1 ≠ 41) : pNumsF (d + 1) 0 t = pN1 d 0 t := by
  conv => lhs; unfold pNumsF
  rw [if_neg h, if_pos rfl]; rfl
theorem pNumsF_s {d j : Nat} {t : List Tok} (h : (hd t).1 = 44) : pNumsF (d + 1) (j + 1) t = pN1 d (j + 1) t.tail := by
  conv => lhs; unfold pNumsF
  rw [if_neg (by omega), if_neg (by omega), show pSign 44 t = .inr ((), t.tail) from if_pos h]; rfl
theorem pNumsF_e {d j : Nat} {t : List Tok} (h : (hd t).1 ≠ 41) (h2 : (hd t).1 ≠ 44) : pNumsF (d + 1) (j + 1) t = .inl (er t) := by
  conv => lhs; unfold pNumsF
  rw [if_neg h, if_neg (by omega), show pSign 44 t = .inl (er t) from if_neg h2]
theorem pNumsF_r {d j : Nat} {t : List Tok} (h : (hd t).1 = 41) : pNumsF (d + 1) j t = .inr (j, t.tail) := by
  conv => lhs; unfold pNumsF
  rw [if_pos h]
section
variable {G : List Sl} {US : UST} {A : List Nm} {S S' : List Sg} {w : Nat} {L ts : List Tok} {Q X : Mem → Prop} {M M' M0 M1 : Mem} {F : Nat} {a b c : Int32} {vs : List Int32} {k m : Nm}
theorem gs_ins {s : Sg} : S.idxOf s < (ins S s).length ∧ gs1 (ins S s) (S.idxOf s) = s := by
  have hix := List.idxOf_lt_length_iff.mpr (ins_mem S s)
  rw [← ins_idx S s]
  refine ⟨hix, ?_⟩
  show (ins S s).getD _ _ = _
  rw [List.getD_eq_getElem?_getD, List.getElem?_eq_getElem hix, List.getElem_idxOf]; rfl
theorem TR.fr {ks : List Kd} (h : TR A ks M) (hx : Gx G w) (hf : Fr F M M') (hS : sOk F = true := by rfl) (h56 : F.testBit (cd 11 56) = false := by rfl) : TR A ks M' := by
  obtain ⟨r1, r2, r3, r4, r5⟩ := h
  have := rd_fr hf hx.1 hS hx.2.2.1
  exact ⟨(hf.I h56 0).trans r1, by rw [this.2]; exact r2, by rw [this.2]; exact r3, r4, fun k hk => (this.1 k).trans (r5 k hk)⟩
theorem ct_cw135 {n : Nat} {t : List Tok} (hx : Gx G w) (hz : lz L) (hn : n ≤ 6) (hmem : ∀ κ t2, (hd t).1 = 41 → pRes t.tail = .inr (κ, t2) → (kNs n, κ) ∈ US.1) (hq : TQ A L t M1) (hne : t ≠ []) (hT : Tc G US A S M0 M1) (hR : TR A (kNs n) M1) (h8 : mI M1 11 0 88 = a ∧ mI M1 11 0 89 = b)
    (hQ : ∀ κ vs M', (hd t).1 = 41 → pCall2 k m n t.tail = .inr (k, m, κ, vs) → vs.length = n → kok A κ → Jv G US A (ins S (sg A (kNs n) κ)) M0 a b (Int32.ofNat (S.idxOf (sg A (kNs n) κ))) vs M' → Q M')
    (hX : ∀ e S' M', ((hd t).1 ≠ 41 ∧ e = er t ∨ (hd t).1 = 41 ∧ pCall2 k m n t.tail = .inl e) → S <+: S' → ThT e M' → Tc G US A S' M0 M' → X M') : w_Model_callWords_j135 0 Q X M1 := by
  show w_Model_wholeSignature_j60 0 (fun r17 M16 => ∃ n27 : Nat, w_Model_callWords_L178 0 Q X n27 (0 : Int32) (sI M16 11 0 90 r17)) X M1
  obtain ⟨hV, hg, h113⟩ := id hT
  obtain ⟨hU, hSU, hrow, h38⟩ := id hV
  have len := hSU.len hU.2.2.2.1
  have hkl : (kNs n).length = n := List.length_replicate
  have hkk : ∀ κ ∈ kNs n, kok A κ := fun κ hκ => by rw [List.eq_of_mem_replicate hκ]; exact fun z => absurd z (by decide)
  refine mf_w_Model_wholeSignature_j60 (M0 := M1) (Q := fun v M' => Fr F_Model_wholeSignature M1 M' → ∃ n27 : Nat, w_Model_callWords_L178 0 Q X n27 (0 : Int32) (sI M' 11 0 90 v)) (X := fun M' => Fr F_Model_wholeSignature M1 M' → X M') (fun _ _ hf hp => hp hf) (fun _ hf hp => hp hf) (Fr.rf _ _) (ct_sigTail (ks := kNs n) hx.1 hx.2.1 hx.2.2.1 hz hg hq hne hR (by omega) hU len.1 len.2 (fun κ t2 M' c1 c2 c3 c4 c5 c6 c7 hf => ?_) (fun M' c1 c2 c3 c4 c5 hf => hX _ S M' (Or.inl ⟨c1, rfl⟩) (List.prefix_refl _) c2 ⟨⟨c3, hSU, c5, (hf.I (f := 11) (k := 38) rfl 0).trans h38.1, h38.2⟩, c4, (hf.L (f := 113) rfl 0).trans h113⟩) (fun e M' c1 c2 c3 c4 c5 c6 hf => hX e S M' (Or.inr ⟨c1, by unfold pCall2; rw [c2]⟩) (List.prefix_refl _) c3 ⟨⟨c4, hSU, c6, (hf.I (f := 11) (k := 38) rfl 0).trans h38.1, h38.2⟩, c5, (hf.L (f := 113) rfl 0).trans h113⟩))
  have hpre : S <+: ins S (sg A (kNs n) κ) := ins_pre _ _
  obtain ⟨hix, hgs⟩ := gs_ins (S := S) (s := sg A (kNs n) κ)
  have hV2 : TV US A (ins S (sg A (kNs n) κ)) M' := ⟨c5, hSU.add (hmem κ t2 c1 c2) hkk c3, c7, by rw [idxS_pre hpre h38.2]; exact (hf.I (f := 11) (k := 38) rfl 0).trans h38.1, hpre.subset h38.2⟩
  have hf9 : Fr (2447291684255198065046212689015187054174304779650739989702571118577231828188965540718226209157783403887167615475287210360205258151476625217052843659430345790003189932778676790193027743795888206116476467829745122017960731168197197962289493994595107133733114736744836062588312869082722057868205174749801881714931343309713129283164402326726460733504923345773732673463626157389713798293290656227122613112625060351298936638746156523315643047025824064302204717495927288593946485396872685323029360463142262272396016517781932810331941109461466797853800775413772616050016437805001395742661445515869320980173602664717436365614133641949656394268780304820154515361471525439453898074414440561859842798569613499625775950498181230042200264797513187375193691345423771183866093641975747346791998231370040938524107745650576133935824244378077081618436359451262486827074912114774710606434351044368222233072036060947860025227146402559834967019107490122467534453073366240952709839227757697566419195508116867252224) M' (sI M' 11 0 90 (Int32.ofNat (S.idxOf (sg A (kNs n) κ)))) := Fr.wI rfl (Fr.rf _ _)
  have hT2 : Tc G US A (ins S (sg A (kNs n) κ)) M0 M' := ⟨hV2, c6, (hf.L (f := 113) rfl 0).trans h113⟩
  have hpr := pRes_ne c2
  have hne41 : t.tail ≠ [] := tl_ne hq hz hne (by omega)
  have hnet : t2 ≠ [] := by
    rw [hpr.2]
    refine lz_tl hz ((List.tail_suffix t).trans hq.suf) hne41 (by rw [hpr.1]; decide)
  have hc2 : pCall2 k m n t.tail = match pValsF n [] t2 with
      | .inl e => .inl e
      | .inr (vs, t7) => match pEnd t7 with
        | some e => .inl e
        | none => .inr (k, m, κ, vs) := by
    unfold pCall2; rw [c2]
    dsimp only
    cases pValsF n [] t2 with
    | inl e => rfl
    | inr p => obtain ⟨ws, t7⟩ := p; cases pEnd t7 <;> rfl
  refine ⟨n + 1, ?_⟩
  refine ct_vals (nn := n) (S' := ins S (sg A (kNs n) κ)) (x := S.idxOf (sg A (kNs n) κ)) (a := a) (b := b) (M0 := M0) (US := US) hx hz hn hix (by rw [hgs]; simp [sg]) (n + 1) [] t2 _ (by simp) (Nat.zero_le _) (c4.fr hf9) hnet ⟨hT2.fr hx hf9, ⟨?_, ?_, ?_⟩, fun i hi => absurd hi (Nat.not_lt_zero i)⟩ (fun ws t3 M2 y1 y2 y3 => ?_) (fun e M2 y1 y2 y3 => hX e _ M2 (Or.inr ⟨c1, ?_⟩) hpre y2 y3)
  · rw [mI_sI, if_neg (fun z => absurd z.2.2 (by decide))]; exact (hf.I (f := 11) (k := 88) rfl 0).trans h8.1
  · rw [mI_sI, if_neg (fun z => absurd z.2.2 (by decide))]; exact (hf.I (f := 11) (k := 89) rfl 0).trans h8.2
  · rw [mI_sI, if_pos ⟨rfl, rfl, rfl⟩]
  · have y1 : pValsF n [] t2 = .inr (ws, t3) := y1
    refine hQ κ ws M2 c1 ?_ ?_ c3 y3
    · rw [hc2, y1]; dsimp only; rw [y2]
    · have := pValsF_len _ _ _ _ _ y1; simpa using this
  · rcases y1 with y1 | ⟨ws, t3, y1, y2⟩
    · have y1 : pValsF n [] t2 = .inl e := y1
      rw [hc2, y1]
    · have y1 : pValsF n [] t2 = .inr (ws, t3) := y1
      rw [hc2, y1]; dsimp only; rw [y2]
theorem ct_cw49 (hx : Gx G w) (hz : lz L) {R : (Nat × Nat) ⊕ (Nat × List Tok) → Prop}
    (hQ : ∀ n t M1, (hd t).1 = 41 → R (.inr (n, t.tail)) → n ≤ 6 → TQ A L t M1 → t ≠ [] → Tc G US A S M0 M1 → TR A (kNs n) M1 → (mI M1 11 0 88 = a ∧ mI M1 11 0 89 = b) → w_Model_callWords_j135 0 Q X M1)
    (hX : ∀ e M1, R (.inl e) → ThT e M1 → Tc G US A S M0 M1 → X M1) :
    ∀ d j t M1, t.length ≤ d → j ≤ 6 → TQ A L t M1 → t ≠ [] → Tc G US A S M0 M1 → TR A (kNs j) M1 → (mI M1 11 0 88 = a ∧ mI M1 11 0 89 = b) → (∀ z, pN1 d j t = z → R z) → w_Model_callWords_L49 0 Q X (d + 1) 1 M1 := by
  intro d
  induction d with
  | zero => intro j t M1 h _ _ hne; exact absurd (List.length_eq_zero_iff.mp (by omega)) hne
  | succ d ih =>
    intro j t M1 hlen hj hq hne hT hR h8 hr
    have hI : PZ (fun M => Tc G US A S M0 M ∧ TR A (kNs j) M ∧ (mI M 11 0 88 = a ∧ mI M 11 0 89 = b)) := fun M M' h hf => ⟨h.1.fr hx hf, h.2.1.fr hx hf, (hf.I (f := 11) (k := 88) rfl 0).trans h.2.2.1, (hf.I (f := 11) (k := 89) rfl 0).trans h.2.2.2⟩
    have hkl : (kNs j).length = j := List.length_replicate
    unfold w_Model_callWords_L49
    refine itn (by decide) ?_
    have e56 : mI M1 11 0 56 = Int32.ofNat j := by have := hR.1; rw [hkl] at this; exact this
    rw [e56]
    have bad : ¬ (isWd nNum t = true ∧ j ≠ 6) → R (.inl (er t)) := fun q => hr _ (by unfold pN1; rw [if_neg q])
    by_cases c6 : j = 6
    · refine itp (by rw [c6]; rfl) ?_
      exact z_wrong hI hq hne ⟨hT, hR, h8⟩ (fun M2 y1 y2 => hX _ M2 (bad (fun q => q.2 c6)) y1 y2.1)
    refine itn (ne_oN (b := 6) c6 (by omega) (by omega)) ?_
    unfold w_Model_callWords_j66
    have k27 := hq.1.2.1 (27, nNum) (by simp [kF])
    simp only [] at k27
    rw [k27.1]
    refine z_needWord hI hq hne ⟨hT, hR, h8⟩ k27.2 (fun M2 y1 y2 ⟨y3, y4, y5⟩ => ?_) (fun M2 y1 y2 y3 => hX _ M2 (bad (fun q => by rw [y1] at q; exact absurd q.1 (by decide))) y2 y3.1)
    have hne2 : t.tail ≠ [] := tl_ne hq hz hne (by have := of_decide_eq_true y1; omega)
    have hr2 : ∀ z, pNumsF (d + 1) (j + 1) t.tail = z → R z := fun z hzz => hr z (by unfold pN1; rw [if_pos ⟨y1, c6⟩]; exact hzz)
    have hTG := y3.2.1.1
    have e56 : mI M2 11 0 56 = Int32.ofNat j := by have := y4.1; rw [hkl] at this; exact this
    have hrow := y4.2.2.1
    have erl : rl M2 sTr = mL M2 300 (rdI M2 sTr) := rfl
    refine ⟨rdI M2 sTr, (hTG sTr hx.2.2.1).1.1, ?_⟩
    rw [e56, oN_tnc (k := j) (by omega)]
    refine ⟨(vp_oN (by omega)).mpr (by omega), _, rfl, ?_⟩
    have e8 : mI (sI M2 300 (rdI M2 sTr) j 1) 11 0 56 = Int32.ofNat j := e56
    rw [e8, lit32 1, oN_add]
    obtain ⟨M3, hM3⟩ : ∃ M3, M3 = sI (sI M2 300 (rdI M2 sTr) j (Int32.ofNat 1)) 11 0 56 (Int32.ofNat (j + 1)) := ⟨_, rfl⟩
    rw [← hM3]
    have g3 : GF G X6 M0 (sI M2 300 (rdI M2 sTr) j (Int32.ofNat 1)) := y3.2.1.wr (s := sTr) hx.2.2.1 (by simp) rfl
    have eI : ∀ f i k, f ≠ 11 → mI M3 f i k = mI (sI M2 300 (rdI M2 sTr) j (Int32.ofNat 1)) f i k := fun f i k hf => by rw [hM3, mI_sI, if_neg (fun q => hf q.1)]
    have eR : ∀ f i k, mR M3 f i k = mR M2 f i k := fun f i k => by rw [hM3]; rfl
    have eL : ∀ f i, mL M3 f i = mL M2 f i := fun f i => by rw [hM3]; rfl
    have e11 : ∀ k, k ≠ 56 → mI M3 11 0 k = mI M2 11 0 k := fun k hk => by rw [hM3, mI_sI, if_neg (fun q => hk q.2.2)]; rfl
    have g4 : GF G X6 M0 M3 := g3.of (fun s hs => eR _ _ _) (fun s hs i k => eI _ i k (by have := hx.1.ob s hs; omega)) (fun s hs i => eL _ _) (by rw [hM3]; rfl) (by rw [hM3]; rfl)
    have rdE : ∀ s : Sl, s ∈ G → s ≠ sTr → (∀ k, rd M3 s k = rd M2 s k) ∧ rl M3 s = rl M2 s := fun s hs hn => by
      have eid : rdI M3 s = rdI M2 s := by unfold rdI; rw [eR]
      refine ⟨fun k => ?_, by show mL M3 _ (rdI M3 s) = mL M2 _ (rdI M2 s); rw [eid, eL]⟩
      show mI M3 _ (rdI M3 s) k = _
      rw [eid, eI _ _ _ (by have := hx.1.ob s hs; omega)]
      have := rd_upd (s := sTr) (s' := s) (k := k) (k0 := j) (v := Int32.ofNat 1) (i := rdI M2 sTr) hTG hx.2.2.1 hs rfl
      rw [if_neg (fun z => hn z.1)] at this
      exact this
    have eT : rdI M3 sTr = rdI M2 sTr := by unfold rdI; rw [eR]
    have lT : rl M3 sTr = rl M2 sTr := by show mL M3 300 (rdI M3 sTr) = mL M2 300 (rdI M2 sTr); rw [eT, eL]
    have hV3 : TV US A S M3 := by
      obtain ⟨⟨v1, v2⟩, v3, v4, v5, v6⟩ := y3.1
      refine ⟨⟨?_, v2.of (e11 36 (by decide)) (e11 37 (by decide)) (eL _ _) (fun k => by rw [eI 106 0 k (by decide)]; rfl) (fun s hs => rdE s (X5_in hx.2.1 hs) (fun q => by rw [q] at hs; revert hs; decide))⟩, v3, by rw [lT]; exact v4, (e11 38 (by decide)).trans v5, v6⟩
      have b1 := rdE sB hx.1.2.1.1 (by decide)
      have b2 := rdE sZ hx.1.2.1.2.1 (by decide)
      have b3 := rdE sX hx.1.2.1.2.2 (by decide)
      exact v1.of (e11 4 (by decide)) (eL _ _) (fun k => by rw [eI 105 0 k (by decide)]; rfl) b1.1 b2.1 b3.1 b1.2 b2.2 b3.2
    have hT3 : Tc G US A S M0 M3 := ⟨hV3, g4, (eL 113 0).trans y3.2.2⟩
    have hR3 : TR A (kNs (j + 1)) M3 := by
      refine ⟨by rw [List.length_replicate, hM3, mI_sI, if_pos ⟨rfl, rfl, rfl⟩], by rw [List.length_replicate, lT]; omega, by rw [lT]; exact hrow, fun κ hκ => by rw [List.eq_of_mem_replicate hκ]; exact fun z => absurd z (by decide), fun i hi => ?_⟩
      rw [List.length_replicate] at hi
      rw [gk_kNs]
      show mI M3 300 (rdI M3 sTr) i = _
      rw [eT, eI _ _ _ (by decide), mI_sI]
      by_cases ci : i = j
      · rw [if_pos ⟨rfl, rfl, ci⟩]; rfl
      · rw [if_neg (fun z => ci z.2.2)]
        have := y4.2.2.2.2 i (by rw [hkl]; omega)
        rw [gk_kNs] at this
        exact this
    have hq3 : TQ A L t.tail M3 := y2.of (fun k hk => e11 k (by omega)) (fun k => by rw [eI 411 0 k (by decide)]; rfl) (fun k => by rw [eI 107 0 k (by decide)]; rfl) (fun k => by rw [eI 108 0 k (by decide)]; rfl) (eL _ _) (eL _ _) (eL _ _)
    have h83 : mI M3 11 0 88 = a ∧ mI M3 11 0 89 = b := ⟨(e11 88 (by decide)).trans y5.1, (e11 89 (by decide)).trans y5.2⟩
    clear hM3 eI eR eL e11 g3 rdE eT lT
    obtain ⟨q, q1, q2, ⟨q3, q4, q5⟩, q6, q7, q8⟩ := hq3.top hne2
    rw [q2, q3, oN_tnc (k := q) (by omega), q6.1]
    refine ⟨(vp_oN (by omega)).mpr q1, ?_⟩
    unfold w_Model_callWords_j113 w_Model_callWords_j128
    have fr43 : ∀ v, Fr (17389053285336317351878766778946691247926315637433987075884339777880653544094723917497633246098469356064467316082920052339526209205733843653638669902010930385949833498519558291612183209877345334721187468785395836462447016175738653219365616526169355422362022073520194443491340543649827011081791104273022211507760511819591395146491680113786491784146359021958493496126338281653387684097045395696473328773557372182515739487102426063214317132305268844321266765688898833232275971716324287705144232512156053419943308695266159775854512115681890789558400281675948065540754596760574171857608728799031332671444279929441992504835451725495377632091591414252850109970946771223437807481207361788192449115581535321167734412726568607199341903406613506712074662242342321745994792379802244019458599889347574237235304974906399408040330771840424131500216443067063826980777549485244368600222849212629386052754199887344981513785643319350775236522874608073632419213605020338439358619295359869499998208) M3 (sI M3 11 0 43 v) := fun v => Fr.wI rfl (Fr.rf _ _)
    have keep : ∀ v, Tc G US A S M0 (sI M3 11 0 43 v) ∧ TR A (kNs (j + 1)) (sI M3 11 0 43 v) ∧ (mI (sI M3 11 0 43 v) 11 0 88 = a ∧ mI (sI M3 11 0 43 v) 11 0 89 = b) := fun v => ⟨hT3.fr hx (fr43 v), hR3.fr hx (fr43 v), ((fr43 v).I (f := 11) (k := 88) rfl 0).trans h83.1, ((fr43 v).I (f := 11) (k := 89) rfl 0).trans h83.2⟩
    by_cases c44 : (hd t.tail).1 = 44
    · refine itp (by rw [c44]; rfl) (itn (by decide) ?_)
      have hne3 : t.tail.tail ≠ [] := tl_ne hq3 hz hne2 (by omega)
      have kk := keep (mI M3 11 0 43 + 1)
      refine ih (j + 1) t.tail.tail _ ?_ (by omega) (hq3.next hne2) hne3 kk.1 kk.2.1 kk.2.2 (fun z hzz => hr2 z (by rw [pNumsF_s c44]; exact hzz))
      rw [List.length_tail, List.length_tail]; omega
    · refine itn (ne_oN (b := 44) c44 (by omega) (by omega)) (itp rfl ?_)
      have kk := keep (mI M3 11 0 43 + 0)
      unfold w_Model_callWords_L49
      refine itp rfl ?_
      by_cases c41 : (hd t.tail).1 = 41
      · exact hQ (j + 1) t.tail _ c41 (hr2 _ (pNumsF_r c41)) (by omega) hq3.same hne2 kk.1 kk.2.1 kk.2.2
      · unfold w_Model_callWords_j135
        exact z_need (b := 41) (Tc.pz hx) hq3.same hne2 kk.1 (by omega) (fun M4 u1 => absurd u1 c41) (fun M4 u1 u2 u3 => hX _ M4 (hr2 _ (pNumsF_e c41 c44)) u2 u3)
end
