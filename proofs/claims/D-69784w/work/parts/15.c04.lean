/-- while kinds come: rows of frames are as they were -/
def KI (G : List Sl) (A : List Nm) (w nk : Nat) (acc : List Kd) (M M' : Mem) : Prop := (∀ κ ∈ acc, kok A κ ∧ fkOk κ) ∧ (∀ j, j < acc.length → rd M' (sFk w) (nk + j) = kt A (gk acc j)) ∧ (∀ k, k < nk → rd M' (sFk w) k = rd M (sFk w) k) ∧ ∀ s ∈ [sFl w, sFs w, sFf w], (∀ k, rd M' s k = rd M s k) ∧ rl M' s = rl M s ∧ rdI M' s = rdI M s
theorem KI.fr {G : List Sl} {A : List Nm} {w nk : Nat} {acc : List Kd} {M M1 M2 : Mem} {F : Nat} (h : KI G A w nk acc M M1) (hf : Fr F M1 M2) (hG : Ga G) (hw : Gw G w) (hS : sOk F = true := by rfl) : KI G A w nk acc M M2 := by
  obtain ⟨a, b, c, d⟩ := h
  have rF := rd_fr hf hG hS (hw (sFk w) (by simp))
  refine ⟨a, fun j hj => (rF.1 _).trans (b j hj), fun k hk => (rF.1 k).trans (c k hk), fun s hs => ?_⟩
  have hs' : s ∈ G := hw s (by
    simp only [List.mem_cons, List.not_mem_nil, or_false] at hs ⊢
    rcases hs with e | e | e <;> simp [e])
  have r := rd_fr hf hG hS hs'
  refine ⟨fun k => (r.1 k).trans ((d s hs).1 k), r.2.trans (d s hs).2.1, ?_⟩
  rw [← (d s hs).2.2]; unfold rdI; rw [hf.R (sOk.at hG hS hs').1]
theorem gk_app {acc : List Kd} {κ : Kd} {j : Nat} : gk (acc ++ [κ]) j = if j < acc.length then gk acc j else if j = acc.length then κ else (0, []) := by
  show (acc ++ [κ]).getD j _ = _
  rw [List.getD_eq_getElem?_getD]
  by_cases c : j < acc.length
  · rw [if_pos c, List.getElem?_append_left c]
    show _ = acc.getD j _
    rw [List.getD_eq_getElem?_getD]
  · rw [if_neg c]
    by_cases e : j = acc.length
    · rw [if_pos e, e]; simp
    · rw [if_neg e, List.getElem?_eq_none (by simp; omega)]; rfl
theorem JM.kindLoop {G : List Sl} {US : UST} {A : List Nm} {S : List Sg} {W : List Cls} {w c : Nat} {br : Int32} {q0 nl0 nq nl nf nk : Nat} {p : PM} {NL : List Nine} {z : Nat × Nat × Nat × Nat × Nat × Nat} {L : List Tok} {M0 M : Mem} {b : Nat} {t0 : List Tok} {Q : Int32 → Mem → Prop} {X : Mem → Prop} (hx : Gx G w) (hz : lz L) (hb : b < 100) (hb4 : b ≠ 44) (hnk : nk + L.length ≤ 3900) (hqq : nq = q0 + p.2.1.length) (hzb : z.2.1 ≤ nq ∧ z.2.2.1 ≤ nl ∧ z.2.2.2.1 ≤ nf ∧ z.2.2.2.2.1 ≤ nk)
    (E : ∀ e M', pKinds b (t0.length + 1) [] t0 = .inl e → ThT e M' → JE G US A w z M0 M' → X M')
    (F : ∀ acc t1 M', pKinds b (t0.length + 1) [] t0 = .inr (acc, t1) → t1 ≠ [] → (b ≠ 0 → t1.tail ≠ []) → acc.length ≤ L.length → KI G A w nk acc M M' → JM G US A S W w c br q0 nl0 nq nl nf (nk + acc.length) p NL z L t1.tail M0 M' → Q (Int32.ofNat acc.length) M') :
    ∀ d acc ts M1, ts.length ≤ d → ts ≠ [] → acc.length + ts.length ≤ L.length → KI G A w nk acc M M1 → JM G US A S W w c br q0 nl0 nq nl nf (nk + acc.length) p NL z L ts M0 M1 → (pKinds b (t0.length + 1) [] t0 = match pKind ts with
      | .inl e => .inl e
      | .inr (κ, t2) => pKinds b d (acc ++ [κ]) t2) → w_Model_kindWords_L17 0 Q X (d + 1) (Int32.ofNat b) (Int32.ofNat acc.length) 1 M1 := by
  intro d
  induction d with
  | zero => intro acc ts M1 h hne; exact absurd (List.length_pos_iff.mpr hne) (by omega)
  | succ d ih =>
    intro acc ts M1 hd' hne hlen hK hJ hp
    have hl0 : 0 < ts.length := List.length_pos_iff.mpr hne
    have hw := hx.2.2.2.1
    obtain ⟨-, -, -, -, -, m10⟩ := XW_in hw
    have ew : mR M1 11 0 45 = some (12, w) := hJ.2.1.1.1.2.1
    have hTG := hJ.2.2.2.2.1.1.1
    have c43 : mI M1 12 w 43 = Int32.ofNat (nk + acc.length) := hJ.2.1.2.1.2.2.2
    have hRL := hJ.2.1.2.2.1
    unfold w_Model_kindWords_L17
    refine itn (by decide) ⟨w, ew, w, ew, rdI M1 (sFk w), (hTG _ m10).1.1, w, ew, ?_⟩
    rw [c43, lit32 1, oN_add]
    refine rm300 (s := sFk w) (X := [sFk w]) hx.1 hTG m10 (by simp) rfl (by omega) (by have := hRL.2.2.2.2 (sFk w) (by simp); omega) (fun i1 M2 r1 f1 => ?_)
    have hzb' : z.2.1 ≤ nq ∧ z.2.2.1 ≤ nl ∧ z.2.2.2.1 ≤ nf ∧ z.2.2.2.2.1 ≤ nk + acc.length := ⟨hzb.1, hzb.2.1, hzb.2.2.1, by omega⟩
    obtain ⟨hJ3, l3, g3, k3⟩ := hJ.kindRow hx (by omega) r1 f1 hqq hzb'
    have e43 : mI (sR M2 12 w 42 (some (300, i1))) 12 w 43 = Int32.ofNat (nk + acc.length) := hJ3.2.1.2.1.2.2.2
    have K3 : KI G A w nk acc M (sR M2 12 w 42 (some (300, i1))) := by
      obtain ⟨x1, x2, x3, x4⟩ := hK
      refine ⟨x1, fun j hj => (k3 _ (by omega)).trans (x2 j hj), fun k hk => (k3 k (by omega)).trans (x3 k hk), fun s hs => ?_⟩
      have hs2 : s ∈ XW w ∧ s ≠ sFk w := by
        simp only [List.mem_cons, List.not_mem_nil, or_false] at hs
        rcases hs with e | e | e <;> subst e <;> exact ⟨by simp, sl_ne (by simp)⟩
      have y := g3.2.1 s (hw s hs2.1) (by simpa using hs2.2)
      exact ⟨fun k => (y.1 k).trans ((x4 s hs).1 k), y.2.1.trans (x4 s hs).2.1, y.2.2.trans (x4 s hs).2.2⟩
    generalize sR M2 12 w 42 (some (300, i1)) = M3 at hJ3 l3 g3 k3 e43 K3 ⊢
    clear r1 f1
    have T3 := hJ3.2.2.2.2.1.1.1
    have w3 : mR M3 11 0 45 = some (12, w) := hJ3.2.1.1.1.2.1
    refine ⟨w, w3, rdI M3 (sFk w), (T3 _ m10).1.1, w, w3, ?_⟩
    rw [e43, oN_tnc (k := nk + acc.length) (by omega)]
    refine mf_w_Model_kindWord (Q := fun v M' => ∃ κ t2, pKind ts = .inr (κ, t2) ∧ kok A κ ∧ fkOk κ ∧ t2 ≠ [] ∧ JM G US A S W w c br q0 nl0 nq nl nf (nk + acc.length) p NL z L t2 M0 M' ∧ v = kt A κ) (X := fun M' => ∃ e, pKind ts = .inl e ∧ ThT e M' ∧ JE G US A w z M0 M') (fun v M4 f4 h4 => ?_) (fun M4 f4 h4 => ?_) (hJ3.kindWord hx hz hne (fun κ t2 M' a b c d e => ⟨κ, t2, a, b, c, d, e, rfl⟩) (fun e M' a b c => ⟨e, a, b, c⟩))
    rotate_left
    · obtain ⟨e, a, b', c'⟩ := h4
      rw [a] at hp
      exact E e M4 hp b' c'
    obtain ⟨κ, t2, a, b1, b2', hn2, hJ4, e4⟩ := h4
    subst e4
    simp only [a] at hp
    have K4 := K3.fr f4 hx.1 hw
    have eI4 : rdI M4 (sFk w) = rdI M3 (sFk w) := by unfold rdI; rw [f4.R (f := 12) (k := 42) rfl]
    have l4 : rl M4 (sFk w) = rl M3 (sFk w) := (rd_fr f4 hx.1 rfl m10).2
    have w4 : mR M4 11 0 45 = some (12, w) := hJ4.2.1.1.1.2.1
    have T4 := hJ4.2.2.2.2.1.1.1
    have e44 : mI M4 12 w 43 = Int32.ofNat (nk + acc.length) := hJ4.2.1.2.1.2.2.2
    rw [← eI4]
    refine ⟨by show vp_in _ (rl M4 (sFk w)); exact (vp_oN (by omega)).mpr (by omega), _, rfl, w, w4, ?_⟩
    simp only [mI_sI, mI_sR, mI_sJ, mR_sI, mL_sI, mL_sR, mR_sR, Nat.reduceEqDiff, and_false, false_and, if_false, and_self, true_and, and_true, if_true, e44]
    rw [oN_add, oN_add]
    obtain ⟨Mz, hMz⟩ : ∃ Mz, Mz = sI (sI M4 300 (rdI M4 (sFk w)) (nk + acc.length) (kt A κ)) 12 w 43 (Int32.ofNat (nk + acc.length + 1)) := ⟨_, rfl⟩
    rw [← hMz]
    have frz : Fr (27943131277853711389374439213695968138777619214599208302763587126551190952092840993307065848732235477608090601018337945486150442842663989249852815863539122577218096160618117113438642319528900376866651559698545668870353529800486011287894176974330735978844352282997478970443273164899263148190305986936433646187098519329902773686572160422912935251411776339897158785060987227091106398955859039596629686531628334191348234730565194754866028223682876459374730327746871205463445198592435151086579309749122403925462210569702114308707515881558000462798105633628984384351954734471126064893175134554446009997049513423984008176881636289999788001509093022288859304639969113792846680355606191601247305168496680159527210060088622685481326470941624796858811475126836923983444380432115375265456467442154802212744450916067157397083397160599951320660378753463925188087694150529537550126544377873400846211250158172027434591765524676997436164392725833073663709357807260206656145346374911647791069878913107865879113702220597693339455645933428313102377323331584) M4 Mz := by
      rw [hMz]; exact Fr.wI rfl (Fr.wIa rfl rfl (Fr.rf _ _))
    have gz : GF G [sFk w] M4 Mz := by
      have w1 := (GF.rf (X := [sFk w]) T4).wr (s := sFk w) (k := nk + acc.length) (v := kt A κ) m10 (by simp) rfl
      have f9 : ∀ M9 v1, Fr (27943131277853711389374439213695968138777619214599208302763587126551190952092840993307065848732235477608090601018337945486150442842663989249852815863539122577218096160618117113438642319528900376866651559698545668870353529800486011287894176974330735978844352282997478970443273164899263148190305986936433646187098519329902773686572160422912935251411776339897158785060987227091106398955859039596629686531628334191348234730565194754866028223682876459374730327746871205463445198592435151086579309749122403925462210569702114308707515881558000462798105633628984384351954734471126064893175134554446009997049513423984008176881636289999788001509093022288859304639969113792846680355606191601247305168496680159527210060088622685481326470941624796858811475126836923983444380432115375265456467442154802212744450916067157397083397160599951320660378753463925188087694150529537550126544377873400846211250158172027434591765524676997436164392725833073663709357807258169620169011888825379345381469534946814410720036284347057199006291552128549765671139934208) M9 (sI M9 12 w 43 v1) := fun M9 v1 => Fr.wI rfl (Fr.rf _ _)
      rw [hMz]; exact w1.fr (f9 _ _) hx.1
    have eI : ∀ s, rdI Mz s = rdI M4 s := fun s => by rw [hMz]; rfl
    have z1 : ∀ k, rd Mz (sFk w) k = if k = nk + acc.length then kt A κ else rd M4 (sFk w) k := fun k => by
      show mI Mz 300 (rdI Mz (sFk w)) k = _
      rw [eI, hMz]; simp only [mI_sI, mI_sR, mI_sJ, mR_sI, mL_sI, mL_sR, mR_sR, Nat.reduceEqDiff, and_false, false_and, if_false, and_self, true_and, and_true, if_true]; rfl
    have lz' : ∀ s, rl Mz s = rl M4 s := fun s => by unfold rl; rw [eI, hMz]; rfl
    have y43 : mI Mz 12 w 43 = Int32.ofNat (nk + acc.length + 1) := by rw [hMz]; simp only [mI_sI, mI_sR, mI_sJ, mR_sI, mL_sI, mL_sR, mR_sR, Nat.reduceEqDiff, and_false, false_and, if_false, and_self, true_and, and_true, if_true]
    have loz : LoT w z.1 M4 Mz := by rw [hMz]; exact ((LoT.rf w z.1 M4).wo).w12
    have e411 : ∀ k, mI (sI (sI M4 300 (rdI M4 (sFk w)) (nk + acc.length) (kt A κ)) 12 w 43 (Int32.ofNat (nk + acc.length + 1))) 411 0 k = mI M4 411 0 k := fun k => by simp only [mI_sI, mI_sR, mI_sJ, mR_sI, mL_sI, mL_sR, mR_sR, Nat.reduceEqDiff, and_false, false_and, if_false, and_self, true_and, and_true, if_true]
    have l411 : mL Mz 411 0 = mL M4 411 0 := by rw [hMz]; rfl
    clear hMz
    have rX : ∀ s ∈ XW w, s ≠ sFk w → (∀ k, rd Mz s k = rd M4 s k) ∧ rl Mz s = rl M4 s := fun s hs hn => ⟨(gz.2.1 s (hw s hs) (by simpa using hn)).1, (gz.2.1 s (hw s hs) (by simpa using hn)).2.1⟩
    have hLa : (acc ++ [κ]).length = acc.length + 1 := by simp
    have hJz : JM G US A S W w c br q0 nl0 nq nl nf (nk + (acc ++ [κ]).length) p NL z L t2 M0 Mz := by
      obtain ⟨c35, c37, c41, -⟩ := hJ4.2.1.2.1
      have hRL4 := hJ4.2.1.2.2.1
      have hbn := hJ4.2.1.2.2.2
      rw [hLa, ← Nat.add_assoc]
      refine hJ4.rows hx frz gz (by simp) (hJ4.1.fr frz) ⟨(frz.I (f := 12) (k := 35) rfl w).trans c35, (frz.I (f := 12) (k := 37) rfl w).trans c37, (frz.I (f := 12) (k := 41) rfl w).trans c41, y43⟩ ⟨fun s hs => ?_, ?_, fun s hs => ?_, by rw [lz', l4]; exact l3, fun s hs => by rw [lz']; exact hRL4.2.2.2.2 s hs⟩ ⟨⟨Nat.le_refl _, Nat.le_refl _, Nat.le_refl _, by omega⟩, hbn.2.2.1, hbn.2.2.2.1, hbn.2.2.2.2.1, by omega⟩ hqq ⟨fun s hs k _ => ?_, fun k _ => (rX _ (by simp) (sl_ne (by simp))).1 k, fun s hs k _ => ?_, fun k hk => by rw [z1, if_neg (by omega)], fun s hs => by rw [lz']; exact ⟨Nat.le_refl _, id⟩⟩ loz hzb'
      · rw [lz']; exact hRL4.1 s hs
      · rw [lz']; exact hRL4.2.1
      · rw [lz']; exact hRL4.2.2.1 s hs
      · simp only [List.mem_cons, List.not_mem_nil, or_false] at hs
        rcases hs with e | e | e | e | e <;> subst e <;> exact (rX _ (by simp) (sl_ne (by simp))).1 k
      · simp only [List.mem_cons, List.not_mem_nil, or_false] at hs
        rcases hs with e | e | e <;> subst e <;> exact (rX _ (by simp) (sl_ne (by simp))).1 k
    have Kz : KI G A w nk (acc ++ [κ]) M Mz := by
      obtain ⟨x1, x2, x3, x4⟩ := K4
      refine ⟨fun y hy => ?_, fun j hj => ?_, fun k hk => by rw [z1, if_neg (by omega)]; exact x3 k hk, fun s hs => ?_⟩
      · rcases List.mem_append.mp hy with q | q
        · exact x1 y q
        · rw [List.mem_singleton] at q; rw [q]; exact ⟨b1, b2'⟩
      · rw [hLa] at hj
        rw [z1, gk_app]
        by_cases cj : j < acc.length
        · rw [if_neg (by omega), if_pos cj]; exact x2 j cj
        · rw [if_pos (by omega), if_neg cj, if_pos (by omega)]
      · have hs2 : s ∈ XW w ∧ s ≠ sFk w := by
          simp only [List.mem_cons, List.not_mem_nil, or_false] at hs
          rcases hs with e | e | e <;> subst e <;> exact ⟨by simp, sl_ne (by simp)⟩
        have y := gz.2.1 s (hw s hs2.1) (by simpa using hs2.2)
        exact ⟨fun k => (y.1 k).trans ((x4 s hs).1 k), y.2.1.trans (x4 s hs).2.1, y.2.2.trans (x4 s hs).2.2⟩
    have et2 : t2.length < ts.length := by
      rw [pKind_tail a, List.length_tail]; omega
    have hl2 : 0 < t2.length := List.length_pos_iff.mpr hn2
    obtain ⟨k, k1, k2, ⟨k3', k4, k5, k6⟩, k7, k8⟩ := hJ4.1.at hl2
    rw [gt0 hn2] at k7 k8
    rw [Nat.add_zero] at k7
    have tk : (Int32.ofNat k).toNatClampNeg = k := oN_tnc (by omega)
    have ek : mI M4 411 0 (mI M4 11 0 43).toNatClampNeg = Int32.ofNat (hd t2).1 := by rw [k1, tk]; exact k7.1
    refine ⟨by rw [k1, k4]; exact (vp_oN (by omega)).mpr (by omega), ?_⟩
    rw [ek]
    rw [show pKinds b (d + 1) (acc ++ [κ]) t2 = if (hd t2).1 = b then .inr (acc ++ [κ], t2) else match (if (acc ++ [κ]).length = 0 then (.inr ((), t2) : Rz Unit) else pSign 44 t2) with
      | .inl e => .inl e
      | .inr (_, t1) => match pKind t1 with
        | .inl e => .inl e
        | .inr (κ', t3) => pKinds b d ((acc ++ [κ]) ++ [κ']) t3 from rfl, if_neg (show ¬ (acc ++ [κ]).length = 0 by rw [hLa]; omega)] at hp
    have frn : ∀ v, Fr (17389053285336317351878766778946691247926315637433987075884339777880653544094723917497633246098469356064467316082920052339526209205733843653638669902010930385949833498519558291612183209877345334721187468785395836462447016175738653219365616526169355422362022073520194443491340543649827011081791104273022211507760511819591395146491680113786491784146359021958493496126338281653387684097045395696473328773557372182515739487102426063214317132305268844321266765688898833232275971716324287705144232512156053419943308695266159775854512115681890789558400281675948065540754596760574171857608728799031332671444279929441992504835451725495377632091591414252850109970946771223437807481207361788192449115581535321167734412726568607199341903406613506712074662242342321745994792379802244019458599889347574237235304974906399408040330771840424131500216443067063826980777549485244368600222849212629386052754199887344981513785643319350775236522874608073632419213605020338439358619295359869499998208) Mz (sI Mz 11 0 43 v) := fun v => Fr.wI rfl (Fr.rf _ _)
    by_cases c44 : (hd t2).1 = 44
    · refine itp (by rw [c44]; rfl) ?_
      unfold w_Model_kindWords_j101
      refine itn (by decide) ?_
      unfold w_Model_kindWords_j116
      rw [if_neg (fun q => hb4 (by omega)), pSign, if_pos c44] at hp
      have hJn := hJz.fr hx (frn (mI Mz 11 0 43 + 1)) (hJz.1.next hn2)
      have hnt : t2.tail ≠ [] := tl_ne hJz.1 hz hn2 (by omega)
      rw [← hLa]
      refine ih (acc ++ [κ]) t2.tail _ (by rw [List.length_tail]; omega) hnt (by rw [hLa, List.length_tail]; omega) (Kz.fr (frn _) hx.1 hw) hJn ?_
      rw [hp]
    · refine itn (ne_oN (b := 44) c44 (by omega) (by omega)) ?_
      unfold w_Model_kindWords_j101
      refine itp rfl ?_
      unfold w_Model_kindWords_j116
      have hJn := hJz.fr hx (frn (mI Mz 11 0 43 + 0)) (hJz.1.to 0 (Nat.zero_le _) (frn _) (by simp only [mI_sI, mI_sR, mI_sJ, mR_sI, mL_sI, mL_sR, mR_sR, Nat.reduceEqDiff, and_false, false_and, if_false, and_self, true_and, and_true, if_true]; rfl))
      have hJn : JM G US A S W w c br q0 nl0 nq nl nf (nk + (acc ++ [κ]).length) p NL z L t2 M0 (sI Mz 11 0 43 (mI Mz 11 0 43 + 0)) := hJn
      have Kn := Kz.fr (frn (mI Mz 11 0 43 + 0)) hx.1 hw
      unfold w_Model_kindWords_L17
      refine itp rfl ?_
      unfold w_Model_kindWords_j123
      refine mf_w_Model_need (Q := fun M' => (hd t2).1 = b ∧ TQ A L t2.tail M') (X := fun M' => (hd t2).1 ≠ b ∧ ThT (er t2) M') (fun M' f5 h5 => ?_) (fun M' f5 h5 => ?_) (ct_need hJn.1 hn2 hb (fun M' a b => ⟨a, b⟩) (fun M' a b => ⟨a, b⟩))
      · rw [if_pos h5.1] at hp
        rw [← hLa]
        exact F (acc ++ [κ]) t2 M' hp hn2 (fun q => tl_ne hJn.1 hz hn2 (by rw [h5.1]; exact q)) (by rw [hLa]; omega) (Kn.fr f5 hx.1 hw) (hJn.fr hx f5 h5.2)
      · rw [if_neg h5.1, pSign, if_neg c44] at hp
        exact E _ M' hp h5.2 (hJn.je.fr hx f5)
