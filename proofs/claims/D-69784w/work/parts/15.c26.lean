/-! B: the twin takes a text -/
/-- what a line leaves as it was, for the next -/
def TI (B : List Nm) (r n : Nat) (p : Nat → Int32) (w : Nat) (br : Int32) (A A1 : List Nm) (M : Mem) : Prop := (TXt r n p M ∧ TKs A1 M ∧ (mL M 411 0 = 6002 ∧ mL M 107 0 = 6002 ∧ mL M 108 0 = 6002)) ∧ mI M 12 w 1 = br ∧ A <+: A1 ∧ A1 ⊆ B
theorem TI.fr {B : List Nm} {r n : Nat} {p : Nat → Int32} {w : Nat} {br : Int32} {A A1 : List Nm} {M M' : Mem} {F : Nat} (h : TI B r n p w br A A1 M) (hf : Fr F M M') (h1 : F.testBit 402 = false := by rfl) (h2 : F.testBit (5000 + 402) = false := by rfl) (h3 : kOk F = true := by rfl) (h4 : F.testBit (5000 + 411) = false := by rfl) (h5 : F.testBit (5000 + 107) = false := by rfl) (h6 : F.testBit (5000 + 108) = false := by rfl) (h7 : F.testBit (cd 12 1) = false := by rfl) : TI B r n p w br A A1 M' :=
  ⟨⟨h.1.1.fr hf h1 h2, h.1.2.1.fr hf h3, (hf.L h4 0).trans h.1.2.2.1, (hf.L h5 0).trans h.1.2.2.2.1, (hf.L h6 0).trans h.1.2.2.2.2⟩, (hf.I h7 w).trans h.2.1, h.2.2⟩
theorem LSt.less {G : List Sl} {US : UST} {A : List Nm} {w : Nat} {br : Int32} {z : Nat × Nat × Nat × Nat × Nat × Nat} {K : Nat × Nat × Nat × Nat} {R R' pl : Nat} {st : PSt} {M0 M : Mem} (h : LSt G US A w br z K R pl st M0 M) (hR : R' ≤ R) : LSt G US A w br z K R' pl st M0 M := by
  obtain ⟨S, q0, nl0, nq, nl, nf, nk, NL, a, b, c⟩ := h
  exact ⟨S, q0, nl0, nq, nl, nf, nk, NL, a, b.less hR, c⟩
theorem LSt.je {G : List Sl} {US : UST} {A : List Nm} {w : Nat} {br : Int32} {z : Nat × Nat × Nat × Nat × Nat × Nat} {K : Nat × Nat × Nat × Nat} {R pl : Nat} {st : PSt} {M0 M : Mem} (h : LSt G US A w br z K R pl st M0 M) : JE G US A w z M0 M := by
  obtain ⟨S, q0, nl0, nq, nl, nf, nk, NL, ⟨a1, a2, a3, a4, a5, a6⟩, b, c, d⟩ := h
  rcases d with ⟨d1, d2, d3, d4⟩ | ⟨d1, d2, d3, d4, d5⟩
  · exact ⟨S, a1, a2, d2.1.1.2.1, d3⟩
  · exact ⟨S, a1, a2, d3.1.1.2.1, XLb_of d4.1.2.2.1.1 d4.2.1 d4.2.2⟩
theorem tk_tail (l : List (List Tok)) : tk l.tail ≤ tk l := by
  cases l with
  | nil => exact Nat.le_refl _
  | cons a l => show tk l ≤ a.length + tk l; omega
theorem runL_l {br : Int32} {n : Nat} {st : PSt} {l : List Tok} {ls : List (List Tok)} {e : Nat × Nat} (h : stp br st l = .inl e) : runL br n st (l :: ls) = .inl e := by unfold runL; rw [h]
theorem runL_r {br : Int32} {n : Nat} {st st' : PSt} {l : List Tok} {ls : List (List Tok)} (h : stp br st l = .inr st') : runL br n st (l :: ls) = runL br n st' ls := by
  conv => lhs; unfold runL
  rw [h]
set_option maxRecDepth 4000 in
theorem ct_take {G : List Sl} {US : UST} {B A : List Nm} {S : List Sg} {W : List Cls} {w r n : Nat} {p : Nat → Int32} {br : Int32} {nq nl' nf nk : Nat} {K : Nat × Nat × Nat × Nat} {Q : Int32 → Mem → Prop} {M : Mem} (hx : Gx G w) (hTG : TG G M) (hV : TV US A S M) (hUS : US.2 = S) (hW : TW A S W w br 0 nq nl' nq nl' nf nk M) (hXb : XLb M) (hrow : rl M sFr ≤ 20000) (hB : AT0 <+: A) (hn : n ≤ 1400) (hBl : B.length ≤ 50000) (hTI : TI B r n p w br A A M) (hNB : ∀ l ∈ lns p n 0, NB B l ∧ UL US l) (hK : Kk K) (hBd : Bd K (tk (lns p n 0).tail) nq nl' nf nk [] noM)
    (hQ : ∀ A' S' W' M' nq' nl'' nf' nk', runL br n (0, W, noM) (lns p n 0) = .inr W' → A <+: A' → A' ⊆ B → TV US A' S' M' → TW A' S' W' w br 0 nq' nl'' nq' nl'' nf' nk' M' → XLb M' → rl M' sFr ≤ 20000 → tNw W.length W' w M' → W.length ≤ W'.length → KR G w W.length nq nl' nf nk M M' → Bd K 0 nq' nl'' nf' nk' [] noM → mI M' 11 0 50 = -2 → Q (Int32.ofNat (W'.length - W.length)) M')
    (hX : ∀ A' S' e M', runL br n (0, W, noM) (lns p n 0) = .inl e → A <+: A' → A' ⊆ B → TV US A' S' M' → TW A' S' W w br 0 nq nl' nq nl' nf nk M' → XLb M' → rl M' sFr ≤ 20000 → KR G w W.length nq nl' nf nk M M' → mI M' 11 0 50 = Int32.ofNat e.2 → mI M' 11 0 49 = Int32.ofNat e.1 → Q (-10 - Int32.ofNat e.1) M') : w_Model_take 0 r (Int32.ofNat n) Q M := by
  have hw := hx.2.2.2.1
  have hsF : sFr ∈ G := hx.2.2.2.2.2
  have e45 : mR M 11 0 45 = some (12, w) := hW.1.1.2.1
  have e2 : mI M 12 w 2 = Int32.ofNat W.length := hW.1.1.1.1.1.1
  have hW51 := hW.1.1.1.1.1.2.2.1
  have hp : tend p n := hTI.1.1.2.2.2
  obtain ⟨k35, k37, k41, k43⟩ := id hW.2.1
  -- a refused text
  have bad : ∀ A1 e M1, A <+: A1 → A1 ⊆ B → runL br n (0, W, noM) (lns p n 0) = .inl e → ThT e M1 → JE G US A1 w (W.length, nq, nl', nf, nk, 99) M M1 → rl M1 sFr ≤ 20000 → mI M1 12 w 1 = br → w_Model_take_j135 0 Q (Int32.ofNat W.length) (Int32.ofNat nq) (Int32.ofNat nl') (Int32.ofNat nf) (Int32.ofNat nk) 0 M1 := by
    intro A1 e M1 hA1 hs1 he hT hJ hr h1
    obtain ⟨S', v, k, e45', xb⟩ := hJ
    have hA1l : A1.length ≤ B.length := nd_le v.1.1.2.1.1 hs1
    unfold w_Model_take_j135
    refine ⟨w, e45', w, e45', w, e45', w, e45', _, rfl, w, e45', ?_⟩
    obtain ⟨M', hM'⟩ : ∃ M', M' = sI (sI (sI (sI (sI M1 12 w 2 (Int32.ofNat W.length)) 12 w 35 (Int32.ofNat nq)) 12 w 37 (Int32.ofNat nl')) 12 w 41 (Int32.ofNat nf)) 12 w 43 (Int32.ofNat nk) := ⟨_, rfl⟩
    rw [← hM']
    have hf : Fr (35474678380100426602215845205203579292735324784815884929377910676349688198131369438324506791063203968447956126112236617014454564177794768610102157711056269136661313317555096815302293716456585867437912434812954450000732974359462827456511832242594790301545757456703524995104564023747266676104521608035352545720293864233080357561273473019353492888758109584697459384502198616962495482134147157977953000726777471264882095346825791343209756836649816533539916901954387552128074614594534377690744115659465081773416642525446119785664805383821045097896572509005726637565089647173933668905445181188737260050545642948994938096248493476065137424488779903768136795904578465582920364876810756299600683506031375284465150889350919102228991919260430979383384899215976537451439260406950811348892314249268941782678647546483006283332796074536652816772865783712488286192276872025899980607793729381422178986350722721729872768873907733351181466751487089749900514888879130094584819553076823146468529362469965401267136526616465425302343213798717709583800130863104) M1 M' := by
      rw [hM']; exact Fr.wI rfl (Fr.wI rfl (Fr.wI rfl (Fr.wI rfl (Fr.wI rfl (Fr.rf _ _)))))
    have hI : ∀ f i k, f ≠ 12 → mI M' f i k = mI M1 f i k := fun f i k hf' => by
      rw [hM', mI_sI, if_neg (fun q => hf' q.1), mI_sI, if_neg (fun q => hf' q.1), mI_sI, if_neg (fun q => hf' q.1), mI_sI, if_neg (fun q => hf' q.1), mI_sI, if_neg (fun q => hf' q.1)]
    have hML : ∀ f i, mL M' f i = mL M1 f i := fun f i => by rw [hM']; rfl
    have c1 : mI M' 12 w 1 = br := by rw [hM']; simp only [mI_sI, mI_sR, mI_sJ, mR_sI, mL_sI, mL_sR, mR_sR, Nat.reduceEqDiff, and_false, false_and, if_false, and_self, true_and, and_true, if_true]; exact h1
    have c2 : mI M' 12 w 2 = mI M 12 w 2 := by rw [hM', e2]; simp only [mI_sI, mI_sR, mI_sJ, mR_sI, mL_sI, mL_sR, mR_sR, Nat.reduceEqDiff, and_false, false_and, if_false, and_self, true_and, and_true, if_true]
    have c3 : mI M' 12 w 35 = Int32.ofNat nq ∧ mI M' 12 w 37 = Int32.ofNat nl' ∧ mI M' 12 w 41 = Int32.ofNat nf ∧ mI M' 12 w 43 = Int32.ofNat nk := by
      rw [hM']; refine ⟨?_, ?_, ?_, ?_⟩ <;> simp only [mI_sI, mI_sR, mI_sJ, mR_sI, mL_sI, mL_sR, mR_sR, Nat.reduceEqDiff, and_false, false_and, if_false, and_self, true_and, and_true, if_true]
    have hlo : LoT w W.length M M' := by rw [hM']; exact ((((k.2.1.w12).w12).w12).w12).w12
    have e4 : mR M' 11 0 45 = some (12, w) := (hf.R (f := 11) (k := 45) rfl 0).trans e45'
    clear hM'
    rw [hI 11 0 49 (by omega), hT.1]
    have hSS : S <+: S' := by rw [← hUS]; exact v.2.1.2.2.2
    exact hX A1 S' e M' he hA1 hs1 (v.fr hf hx) (hW.back k hA1 (by omega) hSS e4 c1 c2 c3 hI hML (fun s hs => rd_fr hf hx.1 rfl (hw s hs))) (xb.fr hf hx.1 hx.2.2.2.2.1) (by rw [rl_keep hf k.1.1 hsF]; exact hr) ⟨k.1.fr hf hx.1, hlo, k.2.2.trans (Rk.fr hf hx.1 hw)⟩ ((hI 11 0 50 (by omega)).trans hT.2) ((hI 11 0 49 (by omega)).trans hT.1)
  -- lines
  have main : ∀ d a A1 st pl M1, n + 1 - a < d → a ≤ n + 1 → pl ≤ a → TI B r n p w br A A1 M1 → mI M1 11 0 50 = -2 → (∀ l ∈ Lr p n a, NB B l ∧ UL US l) → LSt G US A1 w br (W.length, nq, nl', nf, nk, 99) K (if st.1 = 0 then tk (Lr p n a).tail else tk (Lr p n a)) pl st M M1 → runL br n (0, W, noM) (lns p n 0) = runL br n st (Lr p n a) → w_Model_take_L63 0 Q d r (Int32.ofNat n) (Int32.ofNat W.length) (Int32.ofNat nq) (Int32.ofNat nl') (Int32.ofNat nf) (Int32.ofNat nk) (Int32.ofNat a) M1 := by
    intro d
    induction d with
    | zero => intro a A1 st pl M1 h; omega
    | succ d ih =>
      intro a A1 st pl M1 hd' ha hpl hT1 h50 hNB1 hS1 hrun
      unfold w_Model_take_L63
      have hje := hS1.je
      obtain ⟨S1, q0, nl0, nq1, nl1, nf1, nk1, NL, ⟨a1, a2, a3, a4, a5, a6⟩, b, c, dm⟩ := id hS1
      by_cases cn : a = n + 1
      · refine itp (lt_oN (by omega) (by omega)) ?_
        have eL : Lr p n a = [] := if_neg (by omega)
        rw [eL] at hrun b
        rw [show runL br n st [] = if st.1 = 0 then .inr st.2.1 else .inl (1, n) from by cases st; rfl] at hrun
        rw [a3]
        by_cases c0 : st.1 = 0
        · rw [if_pos c0] at hrun
          refine itp (by rw [c0]; rfl) ?_
          rcases dm with ⟨d1, d2, d3, ⟨d4, d5⟩, d6⟩ | ⟨d1, -⟩
          · refine ⟨w, d2.1.1.2.1, ?_⟩
            have g2 : mI M1 12 w 2 = Int32.ofNat st.2.1.length := d2.1.1.1.1.1.1
            rw [g2, oN_sub a6]
            refine hQ A1 S1 st.2.1 M1 nq1 nl1 nf1 nk1 hrun hT1.2.2.1 hT1.2.2.2 a1 d2 d3 a4 a5 a6 a2 ?_ ?_
            · rw [if_pos c0] at b
              exact b.nil _
            · exact h50
          · omega
        · rw [if_neg c0] at hrun
          have hm3 : st.1 ≤ 3 := by rcases dm with ⟨d1, -⟩ | ⟨d1, -⟩ <;> omega
          refine itn (ne_oN (b := 0) c0 (by omega) (by omega)) ?_
          exact mf_w_Model_refuse (Q := fun _ => False) (X := fun M' => ThT (1, n) M') (fun M' hf hp => hp.elim) (fun M' hf hp => bad A1 _ M' hT1.2.2.1 hT1.2.2.2 hrun hp (hje.fr hx hf) (by rw [rl_keep hf a2.1.1 hsF]; exact a4) ((hf.I (f := 12) (k := 1) rfl w).trans hT1.2.1)) (ct_refuse (fun M' a => a))
      · have han : a ≤ n := by omega
        obtain ⟨x1, x2, x3, x4⟩ := nl_ok hp han
        have hLr := Lr_eq hp han
        refine itn (nlt_oN (by omega) (by omega)) ⟨nl p n a - a + 1, ?_⟩
        generalize hto : nl p n a = to at x1 x2 x3 x4 hLr
        refine ct_scan hT1.1.1 x2 x3 x4 ?_ _ a (by omega) (Nat.le_refl _) x1
        unfold w_Model_take_j94
        have hAl : A1.length ≤ B.length := nd_le a1.1.1.2.1.1 hT1.2.2.2
        have hTK : TK A1 M1 := by
          have k6 := hT1.1.2.1 (6, nMake) (by simp [kF])
          have k7 := hT1.1.2.1 (7, nStart) (by simp [kF])
          exact ⟨k6, k7⟩
        refine mf_w_Model_cutLine (Q := fun v M' => Fr F_Model_cutLine M1 M' → (if v = 0 then (w_Model_take_j110 0 Q (w_Model_take_L63 0 Q d) r (Int32.ofNat n) (Int32.ofNat W.length) (Int32.ofNat nq) (Int32.ofNat nl') (Int32.ofNat nf) (Int32.ofNat nk) (Int32.ofNat to) M') else (w_Model_takeLine 0 (fun M23 => w_Model_take_j110 0 Q (w_Model_take_L63 0 Q d) r (Int32.ofNat n) (Int32.ofNat W.length) (Int32.ofNat nq) (Int32.ofNat nl') (Int32.ofNat nf) (Int32.ofNat nk) (Int32.ofNat to) M23) (fun M24 => w_Model_take_j135 0 Q (Int32.ofNat W.length) (Int32.ofNat nq) (Int32.ofNat nl') (Int32.ofNat nf) (Int32.ofNat nk) 0 M24) M'))) (fun v M' hf hp => hp hf) (c_cutLine hx.1 a2.1.1 a1.1.1 hT1.1.1 hTK hT1.1.2.2 (by omega) x1 x2 x3 x4 (fun M2 hTL hf2 => ?_))
        obtain ⟨hg2, hN2, hX2, hWA2, hK2⟩ := hTL
        have hpre := foldT_pre (tks p n a) A1
        -- names stay in B
        have hsub : foldT A1 (tks p n a) ⊆ B := by
          by_cases c1 : 1 < (full to (tks p n a)).length
          · rw [if_pos c1] at hLr
            have := (hNB1 _ (by rw [hLr]; exact List.mem_cons_self)).1
            refine foldT_sub _ _ hT1.2.2.2 (fun t ht => this t ?_)
            unfold full; split
            · exact List.mem_append_left _ ht
            · exact ht
          · have hk0 : (hd (full to (tks p n a))).1 = 0 := Classical.byContradiction (fun q => c1 ((full_two hp (by omega)).mpr q))
            rw [full_hd (tks_ne hp (by omega)), tks_hd hp (by omega)] at hk0
            have : tks p n a = [(lex p n a).1] := by rw [tks_eq hp (by omega), if_pos (by omega)]
            rw [this]
            refine foldT_sub _ _ hT1.2.2.2 (fun t ht => ?_)
            rw [List.mem_singleton.mp ht, hk0]; intro q; cases q
        have hTI2 : TI B r n p w br A (foldT A1 (tks p n a)) M2 := by
          obtain ⟨⟨-, t2, t3⟩, t4, t5, -⟩ := hT1
          exact ⟨⟨hX2, (t2.fr hf2).pre hpre, hWA2.2.1⟩, (hf2.I (f := 12) (k := 1) rfl w).trans t4, t5.trans hpre, hsub⟩
        have hAl2 : (foldT A1 (tks p n a)).length ≤ B.length := nd_le hN2.2.1.1 hsub
        have hS2 := hS1.cut hx hf2 hg2 hN2 hpre (by omega)
        by_cases c1 : 1 < (full to (tks p n a)).length
        · rw [decide_eq_true c1]
          refine itn (by decide) ?_
          rw [if_pos c1] at hLr
          have hz : lz (full to (tks p n a)) := full_lz hp (by omega)
          have hne : (hd (full to (tks p n a))).1 ≠ 0 := (full_two hp (by omega)).mp c1
          have hok := tks_ok hp _ a (Nat.le_refl _) (by omega)
          have hL1 := tks_len hp _ a (Nat.le_refl _) (by omega)
          have hL2 := full_len to (tks p n a)
          have hpl2 := line_place hp han (by rw [full_hd (tks_ne hp (by omega)), tks_hd hp (by omega)] at hne; exact hne)
          rw [hto] at hpl2
          have ehd : (hd (full to (tks p n a))).2.2.2 = (lex p n a).1.2.2.2 := by rw [full_hd (tks_ne hp (by omega)), tks_hd hp (by omega)]
          have hNL := hNB1 _ (by rw [hLr]; exact List.mem_cons_self)
          have hq2 : TQ (foldT A1 (tks p n a)) (full to (tks p n a)) (full to (tks p n a)) M2 := by
            refine ⟨⟨hWA2, hTI2.1.2.1, by omega, by omega, fun t ht => ?_⟩, 0, hK2.2, rfl, Nat.zero_le _⟩
            rcases full_mem ht with q | q
            · exact (hok t q).2.1
            · rw [q]; exact (by decide : (0 : Nat) < 100)
          rw [hLr] at hrun hS2
          have ht2 : (full to (tks p n a)).tail ≠ [] := fun q => by
            have := congrArg List.length q
            rw [List.length_tail] at this; simp at this; omega
          refine mq_w_Model_takeLine (Q := fun M' => Fr FQ_Model_takeLine M2 M' → w_Model_take_j110 0 Q (w_Model_take_L63 0 Q d) r (Int32.ofNat n) (Int32.ofNat W.length) (Int32.ofNat nq) (Int32.ofNat nl') (Int32.ofNat nf) (Int32.ofNat nk) (Int32.ofNat to) M') (fun M' hf hp => hp hf) (fun M' hp => hp) ?_
          refine mf_w_Model_takeLine (Q := fun M' => Fr F_Model_takeLine M2 M' → Fr FQ_Model_takeLine M2 M' → w_Model_take_j110 0 Q (w_Model_take_L63 0 Q d) r (Int32.ofNat n) (Int32.ofNat W.length) (Int32.ofNat nq) (Int32.ofNat nl') (Int32.ofNat nf) (Int32.ofNat nk) (Int32.ofNat to) M') (X := fun M' => Fr F_Model_takeLine M2 M' → w_Model_take_j135 0 Q (Int32.ofNat W.length) (Int32.ofNat nq) (Int32.ofNat nl') (Int32.ofNat nf) (Int32.ofNat nk) 0 M') (fun M' hf hp => hp hf) (fun M' hf hp => hp hf) (ct_takeLine (R := tk (Lr p n (to + 1))) (L := full to (tks p n a)) hS2 hq2 hx (hB.trans hTI2.2.2.1) hz ht2 hNL.2 (by omega) (fun t ht h2 => ?_) rfl hK (by omega) (fun e M' y1 y2 y3 y4 hf => ?_) (fun st' M' y1 y2 hf hfq => ?_))
          · rcases full_mem ht with q | q
            · exact ((hok t q).2.2.1 h2).2.1
            · rw [q] at h2; cases h2
          · refine bad _ e M' hTI2.2.2.1 hTI2.2.2.2 ?_ y2 y3 y4 ((hf.I (f := 12) (k := 1) rfl w).trans hTI2.2.1)
            rw [hrun]; exact runL_l y1
          · unfold w_Model_take_j110
            rw [lit32 1, oN_add]
            refine ih (to + 1) _ st' _ M' (by omega) (by omega) (by omega) (hTI2.fr hf) ((hfq.I (f := 11) (k := 50) rfl 0).trans ((hf2.I (f := 11) (k := 50) rfl 0).trans h50)) (fun l hl => hNB1 l (by rw [hLr]; exact List.mem_cons_of_mem _ hl)) (y2.less ?_) ?_
            · split
              · exact tk_tail _
              · exact Nat.le_refl _
            · rw [hrun]; exact runL_r y1
        · rw [decide_eq_false c1]
          refine itp rfl ?_
          rw [if_neg c1] at hLr
          rw [hLr] at hrun hS2 hNB1
          unfold w_Model_take_j110
          rw [lit32 1, oN_add]
          exact ih (to + 1) _ st pl M2 (by omega) (by omega) (by omega) hTI2 ((hf2.I (f := 11) (k := 50) rfl 0).trans h50) hNB1 hS2 hrun
  unfold w_Model_take
  refine ⟨w, e45, w, e45, w, e45, w, e45, w, e45, _, rfl, n + 2, ?_⟩
  rw [e2, k35, k37, k41, k43]
  obtain ⟨M6, hM6⟩ : ∃ M6, M6 = sI (sI (sI M 11 0 49 0) 11 0 50 (-2)) 11 0 52 0 := ⟨_, rfl⟩
  rw [← hM6]
  have hf : Fr (12241893512876767415722651812378470638540126208753526901422575203627980095042685637918333805253322426669384990522375716847026451280836625932161623611015694991708682782957769037294976979753651115643715978024918668869562699387720011866433394034423226217342863539758216888217903742729478215801580937408207636901463400320992342183130142800105690216039036751458779421272942150283984929604319958570317223456584390016491080598920107948502879261142909266402171803044984778595522284088292298544421539688557861607640089321467376482201576529440051115849113798299867438140691236119444216987756545074518058200696773070327162723404158014748745852992480355634006477419546526941300216466769982698887484177369400866102085026559504299468336699998255908725300562218608994509180333835380779789698854322100692263013654702334105183260392863375658588576152375919212934194467394837612035494556885845691087781138956720690866985705092896822945766512103724083837223126377934318261308467983933348127998738432) M M6 := by rw [hM6]; exact Fr.wI rfl (Fr.wI rfl (Fr.wI rfl (Fr.rf _ _)))
  have c52 : mI M6 11 0 52 = Int32.ofNat 0 := by rw [hM6]; simp only [mI_sI, mI_sR, mI_sJ, mR_sI, mL_sI, mL_sR, mR_sR, Nat.reduceEqDiff, and_false, false_and, if_false, and_self, true_and, and_true, if_true]; rfl
  have c50 : mI M6 11 0 50 = -2 := by rw [hM6]; simp only [mI_sI, mI_sR, mI_sJ, mR_sI, mL_sI, mL_sR, mR_sR, Nat.reduceEqDiff, and_false, false_and, if_false, and_self, true_and, and_true, if_true]
  clear hM6
  have e0 : Lr p n 0 = lns p n 0 := if_pos (Nat.zero_le _)
  refine main _ 0 A (0, W, noM) 0 M6 (by omega) (by omega) (Nat.le_refl _) (hTI.fr hf) c50 (by rw [e0]; exact hNB) ⟨S, nq, nl', nq, nl', nf, nk, [], ⟨hV.fr hf hx, (KR.fr (M := M) ⟨GF.rf hTG, LoT.rf _ _ _, Rk.rf _ _ _ _ _ _⟩ hf hx.1 hw), c52, by rw [rl_keep hf hTG hsF]; exact hrow, fun j a b => absurd b (by show ¬ j < W.length; have : W.length ≤ j := a; omega), Nat.le_refl _⟩, by rw [if_pos rfl, e0]; exact hBd, ⟨Nat.le_refl _, Nat.le_refl _, Nat.le_refl _, Nat.le_refl _⟩, Or.inl ⟨Nat.zero_le 1, hW.fr hf hx.1 hw, hXb.fr hf hx.1 hx.2.2.2.2.1, ⟨rfl, rfl⟩, fun q => absurd (show (0 : Nat) = 1 from q) (by decide)⟩⟩ (by rw [e0])
