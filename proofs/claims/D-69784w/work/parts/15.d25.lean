/-! B: the twin's checker: a method -/
theorem stepS_ne {W : List Cls} {c : Nat} {x : Mth} {a r : Nat} {lo st : List Kd} (h : stepS W c x a lo st = .inl r) : r ≠ 0 := by
  unfold stepS at h
  by_cases c1 : handS W x lo a (hs x) ≠ 0
  · rw [if_pos c1] at h; injection h with h; rw [← h]; exact c1
  rw [if_neg c1] at h
  by_cases c1 : takenS W c x (gin (co x) a) lo st ≠ 0
  · rw [if_pos c1] at h; injection h with h; rw [← h]; exact c1
  rw [if_neg c1] at h
  by_cases c1 : ownS W c x (gin (co x) a) lo st ≠ 0
  · rw [if_pos c1] at h; injection h with h; rw [← h]; exact c1
  rw [if_neg c1] at h
  by_cases c1 : sr x < (stS W c x (gin (co x) a) a lo st).length
  · rw [if_pos c1] at h; injection h with h; omega
  rw [if_neg c1] at h
  by_cases c1 : thenS W x (gin (co x) a) a (loS W c (gin (co x) a) lo st) (stS W c x (gin (co x) a) a lo st) ≠ 0
  · rw [if_pos c1] at h; injection h with h; rw [← h]; exact c1
  rw [if_neg c1] at h
  by_cases c1 : goesOn (gin (co x) a).1 ∧ a + 1 = (co x).length
  · rw [if_pos c1] at h; injection h with h; omega
  rw [if_neg c1] at h
  by_cases c1 : goesOn (gin (co x) a).1
  · rw [if_pos c1] at h; cases h
  · rw [if_neg c1] at h; cases h
theorem oneS_ne {W : List Cls} {c : Nat} {x : Mth} {a r : Nat} {s : KSt} (h : oneS W c x a s = .inl r) : r ≠ 0 := by
  unfold oneS at h
  cases e : frOf x a with
  | none =>
    rw [e] at h
    have h : (if s.2.2 = true then stepS W c x a s.1 s.2.1 else .inl 36) = .inl r := h
    by_cases c1 : s.2.2 = true
    · rw [if_pos c1] at h; exact stepS_ne h
    · rw [if_neg c1] at h; injection h with h; omega
  | some f =>
    rw [e] at h
    have h : (if wrongF x f.1 f.2 = true then .inl 38 else if s.2.2 = true ∧ fitS W s.1 s.2.1 f.1 f.2 ≠ 0 then .inl (fitS W s.1 s.2.1 f.1 f.2) else stepS W c x a (padL x f.1) f.2) = .inl r := h
    by_cases c1 : wrongF x f.1 f.2 = true
    · rw [if_pos c1] at h; injection h with h; omega
    rw [if_neg c1] at h
    by_cases c2 : s.2.2 = true ∧ fitS W s.1 s.2.1 f.1 f.2 ≠ 0
    · rw [if_pos c2] at h; injection h with h; rw [← h]; exact c2.2
    rw [if_neg c2] at h; exact stepS_ne h
section
variable {G : List Sl} {US : UST} {A : List Nm} {S : List Sg} {W : List Cls} {w c k : Nat} {br : Int32} {nq nl nf nk : Nat} {M M' : Mem} {Q : Int32 → Mem → Prop} {n a : Nat} {s : KSt}
theorem ct_one (h : TE G US A S W w c k br nq nl nf nk M) (hU : TUx A (gmt (gc W c) k) s M) (h77 : mI M 11 0 77 = 0) (hq0 : mI M 149 w (12 * c + k) = Int32.ofNat n) (hn : n ≤ 30000) (ha : a < (co (gmt (gc W c) k)).length) (hX : ∀ r M', oneS W c (gmt (gc W c) k) a s = .inl r → Q (Int32.ofNat r) M') (hQ : ∀ s' M', oneS W c (gmt (gc W c) k) a s = .inr s' → TE G US A S W w c k br nq nl nf nk M' → TUx A (gmt (gc W c) k) s' M' → Q 0 M') : w_Model_checkOne 0 (Int32.ofNat a) (b2 (decide (a + 1 = (co (gmt (gc W c) k)).length))) Q M := by
  have hm := h.mlt
  have h80 := h.wf.2.2.1.1
  have hlr := h.lr
  have hsr := h.sr
  obtain ⟨hfi, hlt, hwf⟩ := h.ins hq0 hn ha
  have hfr := h.frm hq0 hn ha
  have rC : nq ≤ mL M 300 (rdI M (sCf w)) := h.rl.1 (sCf w) (by simp)
  unfold w_Model_checkOne
  refine ⟨w, h.r45, (by rw [h.m75, h.ml (by omega) (by omega)]; exact (vp_oN (by omega)).mpr hm), w, h.r45, rdI M (sCf w), h.sl (s := sCf w) (by simp), ?_⟩
  rw [h.m75, oN_tnc (k := 12 * c + k) (by omega), hq0, oN_add, oN_tnc (k := n + a) (by omega)]
  refine ⟨(vp_oN (by omega)).mpr (by omega), _, rfl, ?_⟩
  unfold oneS at hX hQ
  cases e : frOf (gmt (gc W c) k) a with
  | none =>
    rw [e] at hfr hX hQ
    rw [show mI M 300 (rdI M (sCf w)) (n + a) = 0 from hfr]
    refine itp (by decide) ?_
    unfold w_Model_checkOne_j197
    rw [hU.2.2, h77]
    cases ek : s.2.2 with
    | false => exact itp rfl (hX 36 M (by show (if s.2.2 = true then _ else _) = _; rw [ek, if_neg (by decide)]))
    | true =>
      have eo : ∀ z, stepS W c (gmt (gc W c) k) a s.1 s.2.1 = z → (if s.2.2 = true then stepS W c (gmt (gc W c) k) a s.1 s.2.1 else .inl 36) = z := fun z hz => by rw [if_pos ek]; exact hz
      exact itn (by decide) (itp rfl (ct_step h (hU.2.1 ek) hq0 hn ha (fun r M' y => hX r M' (eo _ y)) (fun s' M' y => hQ s' M' (eo _ y))))
  | some p =>
    obtain ⟨fl, fs⟩ := p
    rw [e] at hfr hX hQ
    obtain ⟨f, kf, e1, hf, hF⟩ := hfr
    have hF0 := hF
    obtain ⟨⟨b1, b2', b3, b4⟩, f1, f2, f3, ⟨f4, f5⟩, f6⟩ := hF0
    rw [show mI M 300 (rdI M (sCf w)) (n + a) = Int32.ofNat (f + 1) from e1, show Int32.ofNat (f + 1) - (1 : Int32) = Int32.ofNat f from oN_sub (a := f + 1) (b := 1) (by omega)]
    have hX : ∀ r M', (if wrongF (gmt (gc W c) k) fl fs = true then .inl 38 else if s.2.2 = true ∧ fitS W s.1 s.2.1 fl fs ≠ 0 then .inl (fitS W s.1 s.2.1 fl fs) else stepS W c (gmt (gc W c) k) a (padL (gmt (gc W c) k) fl) fs) = .inl r → Q (Int32.ofNat r) M' := hX
    have hQ : ∀ s' M', (if wrongF (gmt (gc W c) k) fl fs = true then .inl 38 else if s.2.2 = true ∧ fitS W s.1 s.2.1 fl fs ≠ 0 then .inl (fitS W s.1 s.2.1 fl fs) else stepS W c (gmt (gc W c) k) a (padL (gmt (gc W c) k) fl) fs) = .inr s' → TE G US A S W w c k br nq nl nf nk M' → TUx A (gmt (gc W c) k) s' M' → Q 0 M' := hQ
    refine itn (oN_nonneg (by omega)) (ct_isWrong h hF ?_)
    cases cw : wrongF (gmt (gc W c) k) fl fs with
    | true =>
      refine itn (by decide) ?_
      unfold w_Model_checkOne_j64
      exact itn (by decide) (hX 38 M (by rw [if_pos cw]))
    | false =>
      have hwl := (not_congr (wrongF_iff (x := gmt (gc W c) k) (fl := fl) (fs := fs))).mp (by rw [cw]; decide)
      rw [if_neg (by rw [cw]; decide)] at hX hQ
      refine itp rfl ?_
      -- the frame's kinds come
      have hpl : (padL (gmt (gc W c) k) fl).length = lr (gmt (gc W c) k) := by unfold padL; rw [List.length_append, List.length_replicate]; omega
      have load : ¬ (s.2.2 = true ∧ fitS W s.1 s.2.1 fl fs ≠ 0) → w_Model_checkOne_j64 0 Q (Int32.ofNat a) (b2 (decide (a + 1 = (co (gmt (gc W c) k)).length))) (Int32.ofNat (n + a)) (Int32.ofNat f) 0 M := fun hno => by
        rw [if_neg hno] at hX hQ
        unfold w_Model_checkOne_j64
        refine itp (by decide) ⟨lr (gmt (gc W c) k) + 1, ?_⟩
        have ft : ∀ {F : Nat} {M M1 : Mem}, Fr F M M1 → TE G US A S W w c k br nq nl nf nk M → sOk F = true → FT A (co (gmt (gc W c) k)) w f kf fl fs M → FT A (co (gmt (gc W c) k)) w f kf fl fs M1 := fun {F M M1} hf h hS hFT => by
          have r : ∀ s ∈ XW w, (∀ k, rd M1 s k = rd M s k) ∧ rl M1 s = rl M s := fun s hs => rd_fr hf h.2.1.1 hS (h.2.1.2.2.2.1 s hs)
          obtain ⟨⟨b1, b2', b3, b4⟩, f1, f2, f3, ⟨f4, f5⟩, f6⟩ := hFT
          have q1 := r (sFl w) (by simp)
          have q2 := r (sFs w) (by simp)
          have q3 := r (sFf w) (by simp)
          have q4 := r (sFk w) (by simp)
          exact ⟨⟨by rw [q1.2]; exact b1, by rw [q2.2]; exact b2', by rw [q3.2]; exact b3, b4⟩, (q3.1 f).trans f1, (q1.1 f).trans f2, (q2.1 f).trans f3, ⟨by rw [q4.2]; exact f4, by rw [q4.2]; exact f5⟩, fun j hj => ⟨(q4.1 _).trans (f6 j hj).1, (f6 j hj).2⟩⟩
        -- the stack
        have loopS : ∀ m j M, TE G US A S W w c k br nq nl nf nk M → FT A (co (gmt (gc W c) k)) w f kf fl fs M → mI M 11 0 77 = 0 → mI M 149 w (12 * c + k) = Int32.ofNat n → (mL M 111 0 = 20 ∧ mL M 212 0 = 28 ∧ mL M 112 0 = 10) → TLk A (co (gmt (gc W c) k)) 111 0 (padL (gmt (gc W c) k) fl) M → mI M 11 0 72 = Int32.ofNat fs.length → fs.length - j < m → j ≤ fs.length → (∀ x, x < j → mI M 212 0 x = kt A (gk fs x) ∧ kwf A (co (gmt (gc W c) k)) (gk fs x)) → w_Model_checkOne_L151 0 Q m (Int32.ofNat a) (b2 (decide (a + 1 = (co (gmt (gc W c) k)).length))) (Int32.ofNat (n + a)) (Int32.ofNat f) (Int32.ofNat j) M := by
          intro m
          induction m with
          | zero => intro j M _ _ _ _ _ _ _ hn; exact absurd hn (by omega)
          | succ m ih =>
            intro j M h hFT h77 hq0 hl hlo h72 hn' hj hs
            obtain ⟨⟨b1, b2', b3, b4⟩, f1, f2, f3, ⟨f4, f5⟩, f6⟩ := id hFT
            unfold w_Model_checkOne_L151
            rw [h72]
            by_cases cj : fs.length ≤ j
            · refine itp (le_oN cj (by omega)) ⟨Or.inr rfl, ?_⟩
              have f3' : Fr (18671353792230209846849156868096825059313238370138091962452477406137327790748333287950334237348811369988766597559259112245218339168370248543188809657519117660546798193196691819709989500395875595981418364179573990005193566651895126055065109211693627424111287969549835682589056923543716872163430593489089063376856562116341623559298723806201635234870325819196568858822831400983534227701497316185933022404671175775901311025590183435940880180555908693711889018981378849746295817542058451256022342400682542971771366255050146563201454997722372420149236872968846252823001387062083402577678264738993232575787373845805636334336346755597354082250826300202594874278804973140364822955432438368681661976391704556471068958268594589555360906963449000360059290660276574583939313064390162252746568537674262531464445080952271529661745028519264843890658259973621267906760498922536549426531608920045640816284454810698394967858477802733115898278102799396267200111948900153752974237272321301013330043854651392) M (sI M 11 0 73 1) := Fr.wI rfl (Fr.rf _ _)
              have e73 : mI (sI M 11 0 73 1) 11 0 73 = 1 := by simp only [mI_sI, mI_sR, mI_sJ, mR_sI, mL_sI, mL_sR, mR_sR, Nat.reduceEqDiff, and_false, false_and, if_false, and_self, true_and, and_true, if_true]
              unfold w_Model_checkOne_j197
              rw [e73, show mI (sI M 11 0 73 1) 11 0 77 = 0 from (f3'.I (f := 11) (k := 77) rfl 0).trans h77]
              refine itn (by decide) (itp rfl (ct_step (h.fr f3') ⟨hl, ⟨fun x hx => ⟨(f3'.Ia (f := 111) rfl rfl 0 x).trans (hlo x hx).1, (hlo x hx).2⟩, hpl⟩, ⟨fun x hx => ⟨(f3'.Ia (f := 212) rfl rfl 0 x).trans (hs x (by omega)).1, (hs x (by omega)).2⟩, (f3'.I (f := 11) (k := 72) rfl 0).trans h72, by omega⟩, e73⟩ ((f3'.Ia (f := 149) rfl rfl w _).trans hq0) hn ha hX hQ))
            refine itn (nle_oN (by omega) (by omega)) ⟨w, h.r45, rdI M (sFl w), h.sl (s := sFl w) (by simp), (by show vp_in _ (rl M (sFl w)); exact (vp_oN (by omega)).mpr b1), ?_⟩
            rw [oN_tnc (k := f) (by omega), show mI M 300 (rdI M (sFl w)) f = Int32.ofNat fl.length from f2, oN_add]
            refine ct_frameKind h hFT (by omega) (fun hk => ?_)
            rw [gk_ap, if_neg (by omega), show fl.length + j - fl.length = j by omega] at hk ⊢
            rw [oN_tnc (k := j) (by omega), hl.2.1]
            refine ⟨(vp_oN (by omega)).mpr (by omega), ?_⟩
            rw [show Int32.ofNat j + (1 : Int32) = Int32.ofNat (j + 1) from oN_add j 1]
            have fj : Fr (6582018229284824168619876730229402019930943462534319453394436096) M (sI M 212 0 j (kt A (gk fs j))) := Fr.wIa rfl rfl (Fr.rf _ _)
            refine ih (j + 1) _ (h.fr fj) (ft fj h rfl hFT) ((fj.I (f := 11) (k := 77) rfl 0).trans h77) ((fj.Ia (f := 149) rfl rfl w _).trans hq0) hl (fun x hx => ⟨(fj.Ia (f := 111) rfl rfl 0 x).trans (hlo x hx).1, (hlo x hx).2⟩) ((fj.I (f := 11) (k := 72) rfl 0).trans h72) (by omega) (by omega) (fun x hx => ?_)
            rw [mI_sI]
            by_cases ex : x = j
            · rw [if_pos ⟨rfl, rfl, ex⟩, ex]; exact ⟨rfl, hk⟩
            · rw [if_neg (fun z => ex z.2.2)]; exact hs x (by omega)
        -- the locals
        have loopL : ∀ m j M, TE G US A S W w c k br nq nl nf nk M → FT A (co (gmt (gc W c) k)) w f kf fl fs M → mI M 11 0 77 = 0 → mI M 149 w (12 * c + k) = Int32.ofNat n → (mL M 111 0 = 20 ∧ mL M 212 0 = 28 ∧ mL M 112 0 = 10) → lr (gmt (gc W c) k) - j < m → j ≤ lr (gmt (gc W c) k) → (∀ x, x < j → mI M 111 0 x = kt A (gk (padL (gmt (gc W c) k) fl) x) ∧ kwf A (co (gmt (gc W c) k)) (gk (padL (gmt (gc W c) k) fl) x)) → w_Model_checkOne_L77 0 Q m (Int32.ofNat a) (b2 (decide (a + 1 = (co (gmt (gc W c) k)).length))) (Int32.ofNat (n + a)) (Int32.ofNat f) (Int32.ofNat j) M := by
          intro m
          induction m with
          | zero => intro j M _ _ _ _ _ hn; exact absurd hn (by omega)
          | succ m ih =>
            intro j M h hFT h77 hq0 hl hn' hj hs
            obtain ⟨⟨b1, b2', b3, b4⟩, f1, f2, f3, ⟨f4, f5⟩, f6⟩ := id hFT
            unfold w_Model_checkOne_L77
            refine ⟨w, h.r45, ?_⟩
            rw [h.m75, oN_tnc (k := 12 * c + k) (by omega), h.lr.1, h.ml (by omega) (by omega)]
            refine ⟨(vp_oN (by omega)).mpr hm, ?_⟩
            by_cases cj : lr (gmt (gc W c) k) ≤ j
            · refine itp (le_oN cj (by omega)) ⟨w, h.r45, rdI M (sFs w), h.sl (s := sFs w) (by simp), (by show vp_in _ (rl M (sFs w)); exact (vp_oN (by omega)).mpr b2'), fs.length + 1, ?_⟩
              rw [oN_tnc (k := f) (by omega), show mI M 300 (rdI M (sFs w)) f = Int32.ofNat fs.length from f3]
              have fj : Fr (9335676896115104923424578434048412529656619185069045981226238703068663895374166643975167118674405684994383298779629556122609169584185124271594404828759558830273399096598345909854994750197937797990709182089786995002596783325947563027532554605846813712055643984774917841294528461771858436081715296744544531688428281058170811779649361903100817617435162909598284429411415700491767113850748658092966511202335587887950655512795091717970440090277954346855944509490689424873147908771029225628011171200341271485885683127525073281600727498861186210074618436484423126411500693531041701288839132369496616287893686922902818167168173377798677041125413150101297437139402486570182411477716219184340830988195852278235534479134297294777680453481724500180029645330138287291969656532195081126373284268837131265732222540476135764830872514259632421945329129986810633953380249461268274713265804460022820408142227405349197483929238901366557949139051399698133600055974450076876487118636160650506665021927325696) M (sI M 11 0 72 (Int32.ofNat fs.length)) := Fr.wI rfl (Fr.rf _ _)
              exact loopS _ 0 _ (h.fr fj) (ft fj h rfl hFT) ((fj.I (f := 11) (k := 77) rfl 0).trans h77) ((fj.Ia (f := 149) rfl rfl w _).trans hq0) hl (fun x hx => ⟨(fj.Ia (f := 111) rfl rfl 0 x).trans (hs x (by omega)).1, (hs x (by omega)).2⟩) (by simp only [mI_sI, mI_sR, mI_sJ, mR_sI, mL_sI, mL_sR, mR_sR, Nat.reduceEqDiff, and_false, false_and, if_false, and_self, true_and, and_true, if_true]) (by omega) (by omega) (fun x hx => absurd hx (by omega))
            refine itn (nle_oN (by omega) (by omega)) ⟨w, h.r45, rdI M (sFl w), h.sl (s := sFl w) (by simp), (by show vp_in _ (rl M (sFl w)); exact (vp_oN (by omega)).mpr b1), ?_⟩
            rw [oN_tnc (k := f) (by omega), show mI M 300 (rdI M (sFl w)) f = Int32.ofNat fl.length from f2]
            have put : ∀ κ, gk (padL (gmt (gc W c) k) fl) j = κ → kwf A (co (gmt (gc W c) k)) κ → w_Model_checkOne_j127 0 Q (w_Model_checkOne_L77 0 Q m) (Int32.ofNat a) (b2 (decide (a + 1 = (co (gmt (gc W c) k)).length))) (Int32.ofNat (n + a)) (Int32.ofNat f) (Int32.ofNat j) (kt A κ) (Int32.ofNat j) M := fun κ eκ hκ => by
              unfold w_Model_checkOne_j127
              rw [hl.1, oN_tnc (k := j) (by omega), show Int32.ofNat j + (1 : Int32) = Int32.ofNat (j + 1) from oN_add j 1]
              refine ⟨(vp_oN (by omega)).mpr (by omega), ?_⟩
              have fj : Fr (2596148429267413814265248164610048) M (sI M 111 0 j (kt A κ)) := Fr.wIa rfl rfl (Fr.rf _ _)
              refine ih (j + 1) _ (h.fr fj) (ft fj h rfl hFT) ((fj.I (f := 11) (k := 77) rfl 0).trans h77) ((fj.Ia (f := 149) rfl rfl w _).trans hq0) hl (by omega) (by omega) (fun x hx => ?_)
              rw [mI_sI]
              by_cases ex : x = j
              · rw [if_pos ⟨rfl, rfl, ex⟩, ex, eκ]; exact ⟨rfl, hκ⟩
              · rw [if_neg (fun z => ex z.2.2)]; exact hs x (by omega)
            by_cases c1 : fl.length ≤ j
            · refine itp (le_oN c1 (by omega)) (put uns ?_ kwf_uns)
              unfold padL
              rw [gk_ap, if_neg (by omega)]
              show (List.replicate _ uns).getD _ _ = uns
              rw [List.getD_eq_getElem?_getD, List.getElem?_replicate, if_pos (by omega)]; rfl
            · refine itn (nle_oN (by omega) (by omega)) (ct_frameKind h hFT (by omega) (fun hk => ?_))
              rw [gk_ap, if_pos (by omega)] at hk ⊢
              refine put (gk fl j) ?_ hk
              unfold padL
              rw [gk_ap, if_pos (by omega)]
        exact loopL _ 0 M h hF h77 hq0 hU.1 (by omega) (by omega) (fun x hx => absurd hx (by omega))
      rw [hU.2.2]
      cases ek : s.2.2 with
      | false => exact itp rfl (load (fun z => by rw [ek] at z; exact absurd z.1 (by decide)))
      | true =>
        have hS := hU.2.1 ek
        refine itn (by decide) (ct_fitState h hF hS.2.1.1 hS.2.1.2 hS.1.1 hS.2.2.1.1 hS.2.2.1.2.1 (by have := hS.2.2.1.2.2; omega) hS.1.2.1 ?_)
        have h60 := fitS_le (W := W) (lo := s.1) (st := s.2.1) (fl := fl) (fs := fs)
        by_cases c0 : fitS W s.1 s.2.1 fl fs = 0
        · rw [c0]
          exact load (fun z => z.2 c0)
        · unfold w_Model_checkOne_j64
          exact itn (nle_oN (b := 0) (by omega) (by omega)) (hX _ M (by rw [if_pos ⟨ek, c0⟩]))
end
