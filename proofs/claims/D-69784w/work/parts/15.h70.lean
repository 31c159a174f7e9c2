/-! THE OPERATION asked, whole in the twin -/
section
variable {G : List Sl} {US : UST} {BB A A' : List Nm} {S S' : List Sg} {W : List Cls} {w k t i : Nat} {br x c : Int32} {nq nl nf nk B F : Nat} {M M' M1 : Mem} {s : Ms} {tp : List Int32} {Q : Int32 → Mem → Prop} {on : Nat → Bool} {y : Nm × Nm × List Kd × Kd}
theorem lns_okL {tp : List Int32} (hok : ∀ l ∈ lns (pT tp) tp.length 0, okL l) (e : takO pAsk tp.length (lns (pT tp) tp.length 0) = .inr y) : ((∀ κ ∈ y.2.2.1, kdOk κ) ∧ kdOk y.2.2.2) ∧ y.2.1 ≠ nStart := by
  obtain ⟨l, hl, h⟩ := takO_in e
  obtain ⟨h1, h2, t, ht, h3, h4⟩ := pAsk_kd h
  exact ⟨⟨h1, h2⟩, by rw [← h4]; exact hok l (by rw [hl]; exact List.mem_singleton.mpr rfl) t ht h3⟩
/-- the answer -/
theorem ct_asked126 {z : Int32 ⊕ (Nat × Nat)} (hok : ∀ e, z = .inl e → cdOk e ∧ e ≠ 0) (hok2 : ∀ m, z = .inr m → m.1 < 51 ∧ m.2 < 12) (hT : ∀ e, z = .inl e → tThr e M) (hQ : Q (askA z) M) : w_Model_asked_j126 0 Q (rcT mT z) M := by
  unfold w_Model_asked_j126
  cases z with
  | inl e =>
    refine itn (show ¬ (0 : Int32) ≤ -1 by decide) ?_
    rw [(hT e rfl).1, ← div100 (hok e rfl).1]
    exact hQ
  | inr m =>
    obtain ⟨h1, h2⟩ := hok2 m rfl
    have hm : mT m = 12 * m.1 + m.2 := rfl
    refine itp (show (0 : Int32) ≤ Int32.ofNat (mT m) from oN_zero_le (by omega)) ⟨by decide, by decide, ?_⟩
    show Q ((100 : Int32) * (Int32.ofNat (mT m) / 12) + (Int32.ofNat (mT m) - Int32.ofNat (mT m) / 12 * 12)) M
    have e1 : Int32.ofNat (mT m) / 12 = Int32.ofNat m.1 := by
      rw [show (12 : Int32) = Int32.ofNat 12 from rfl, oN_div (by omega) (by omega), hm]
      congr 1; omega
    rw [e1]
    have e2 : (100 : Int32) * Int32.ofNat m.1 + (Int32.ofNat (mT m) - Int32.ofNat m.1 * 12) = Int32.ofNat (100 * m.1 + m.2) := by
      rw [show (12 : Int32) = Int32.ofNat 12 from rfl, show (100 : Int32) = Int32.ofNat 100 from rfl, oN_mul, oN_mul, oN_sub (by omega), oN_add]
      congr 1; omega
    rw [e2]; exact hQ
abbrev FAs : Nat := F_Model_findMethod ||| F_Model_isLinked ||| (SLs ||| SFl2) ||| (7169799856216400581190076237349180822776283534133027313581751323956733871647359982572928347141943566075686373462755499102163842240654175440584502908487341181649970506187529658768635968152016228856864651844956412161994329594327728405145001937290352930858734580307136902114197858640787278910757347899810200336712919852675183446770709941581427930190205114571482441787967257977677143437374969415398280603393731497946103433826630439401297989333468938385365383288849478302577593936150445282312579481862096501160204641939256280269358719125391009337306959220036961084032532631840026589828453659773401309102351556789364352385157154149383967584317299277796431723061109685900092014886056333573758198934414549684890479975140322389258588273964416138262767613546204640232696216725822305054682318466916812082346911085672267390110090951397700054012771829870566876196031586254034979788137825297526073453230647308183667657655476249516504938791474968166604842988377659041142107112571379589118736840186134528)
theorem ct_maskd (hW : WO W) (h12 : W12 W) (hG : GL W s) (hm : y.2.1 ≠ nStart) (hP : PaT y A S M) (hkd : (∀ κ ∈ y.2.2.1, kdOk κ) ∧ kdOk y.2.2.2) (hi : i < W.length) (h : TA G US A S W w br nq nl nf nk B F x s M)
    (hQ : ∀ M', TA G US A S W w br nq nl nf nk B F x (yL s (askS br W (zL s) y i).2) M' → Fr FAs M M' → Q (askA (askS br W (zL s) y i).1) M') : w_Model_findMethod 0 (50 : Int32) (mI M 11 0 88) (mI M 11 0 91) (mI M 11 0 92) (-3 : Int32) (fun r10 M9 => if r10 < 0 then (w_Model_asked_j94 0 Q (Int32.ofNat i) r10 M9) else (w_Model_isLinked 0 (Int32.ofNat i) (fun r22 M21 => if r22 = 0 then (∃ i24, (mR M21 11 0 45) = some (12, i24) ∧ vp_in (Int32.ofNat i) (mL M21 138 i24) ∧ ¬ (100 : Int32) = 0 ∧ ∃ i27, (mR M21 11 0 45) = some (12, i27) ∧ vp_in (Int32.ofNat i) (mL M21 138 i27) ∧ ¬ (100 : Int32) = 0 ∧ w_Model_fails 0 ((mI M21 138 i24 (Int32.ofNat i).toNatClampNeg) / (100 : Int32)) ((mI M21 138 i27 (Int32.ofNat i).toNatClampNeg) - (mI M21 138 i27 (Int32.ofNat i).toNatClampNeg) / (100 : Int32) * (100 : Int32)) (fun r31 M30 => w_Model_asked_j94 0 Q (Int32.ofNat i) r31 M30) M21) else (w_Model_asked_j94 0 Q (Int32.ofNat i) r10 M21)) M9)) M := by
  have h51 := hW.2.2.2
  obtain ⟨⟨p1, p2, p3, p4, p5⟩, ⟨q1, q2, q3⟩, p6⟩ := hP
  have hxo : xOk A S (mOf y) := ⟨p2, p6, fun κ hκ => ⟨p3 κ hκ, hkd.1 κ hκ⟩, p4, hkd.2⟩
  have hL := h.2.2.2.2.2.1.2
  have hok := fMth_ok (br := br) (W := W) (a := zL s) (kn := y.1) (x := mOf y) (o := 50) (acc := fun _ => true) hG.1.2.1 h51
  have hmk : LkM W (zL s) (fMth br W (zL s) y.1 (mOf y) 50 (fun _ => true)).2 := by rw [hok.2]; exact lkd_M h51 hG.1
  have hask := ask_ok (br := br) (x := y) hG.1.2.1 h51 hi
  rw [q1, q2, q3]
  refine mf_w_Model_findMethod (Q := fun v M' => v = rcT mT (fMth br W (zL s) y.1 (mOf y) 50 (fun _ => true)).1 ∧ LKt G US A S W w br nq nl nf nk (fMth br W (zL s) y.1 (mOf y) 50 (fun _ => true)).2 M' ∧ (∀ e, (fMth br W (zL s) y.1 (mOf y) 50 (fun _ => true)).1 = .inl e → tThr e M')) (fun v M1 hf ⟨ev, a1, a2⟩ => ?_) (ct_findMethod (o := 50) (x := mOf y) (v5 := -3) (acc := fun _ => true) hW.2.1 h.1 hG.1.1 hG.1.2.1 hxo p1 hm (by omega) (Or.inl ⟨rfl, fun _ => rfl⟩) hL (fun M' b1 b2 => ⟨rfl, b1, b2⟩))
  rw [ev]
  have r1 := h.lk hf a1
  have n1 : mI M1 11 0 91 = nc A y.2.1 := (hf.I (f := 11) (k := 91) rfl 0).trans q2
  have n2 : mI M1 11 0 92 = Int32.ofNat (S.idxOf (sg A y.2.2.1 y.2.2.2)) := (hf.I (f := 11) (k := 92) rfl 0).trans q3
  unfold askS at hQ hask
  cases ef : fMth br W (zL s) y.1 (mOf y) 50 (fun _ => true) with
  | mk z L0 =>
    rw [ef] at hok hmk hQ r1 a1 a2 hask
    cases z with
    | inl e =>
      refine itp (show (-1 : Int32) < 0 by decide) ?_
      unfold w_Model_asked_j94
      refine itp (show (-1 : Int32) < 0 by decide) ?_
      exact ct_asked126 (z := .inl e) hask.1 (fun m hz => by cases hz) a2 (hQ M1 r1 (hf.sub rfl))
    | inr q =>
      dsimp only at hQ hask
      obtain ⟨c0, hlk, -, hf1, hst, hab⟩ := fMth_in ef
      obtain ⟨hfc, -, hlc⟩ := lkd_in hlk
      have hqm := fMth1_ok (fnd_lt hfc) hf1
      have hq12 : q.2 < 12 := Nat.lt_of_lt_of_le hqm.2.1 (h12.2 q.1)
      have hq1 := hqm.1
      have hmq : mT q = 12 * q.1 + q.2 := rfl
      refine itn (show ¬ Int32.ofNat (mT q) < 0 by rw [Int32.not_lt]; exact oN_zero_le (by omega)) ?_
      have i1 : LInv W L0.1 := hmk.1.1
      have hB0 : LB L0 := hmk.1.2.1
      refine ct_isLinked hW.2.1 a1 i1 hi (fun M2 b1 i2 lo2 fr2 => ?_)
      have r2 := r1.lk fr2 b1
      have r2' : TA G US A S W w br nq nl nf nk B F x (yL s (lkN br W 60 L0 i).2) M2 := r2
      have e45 := r2'.r45
      have l138 : mL M2 138 w = 51 := b1.1.1.1.1.1.2.2.2.2.2.2
      by_cases c1 : (lkN br W 60 L0 i).1 = 1
      · rw [if_pos c1] at hQ hask
        rw [decide_eq_true c1]
        refine itn (by decide) ?_
        unfold w_Model_asked_j94
        refine itn (show ¬ Int32.ofNat (mT q) < 0 by rw [Int32.not_lt]; exact oN_zero_le (by omega)) ⟨w, e45, ?_⟩
        have hHd := b1.1.hd hqm.1 hqm.2.1
        have l146 := b1.1.ml (f := 146) (by omega) (by omega)
        refine ⟨by rw [l146]; exact (vp_oN (by omega)).mpr (by omega), ?_⟩
        show (if mI M2 146 w (Int32.ofNat (mT q)).toNatClampNeg &&& 4 = 0 then _ else _)
        rw [oN_tnc (k := mT q) (by omega), hmq, hHd.2.2.2.1]
        by_cases c4 : (gmt (gc W q.1) q.2).2.2.2.1 &&& 4 = 0
        · rw [if_pos c4] at hQ hask
          refine itp c4 ?_
          rw [fr2.I (f := 11) (k := 91) rfl, fr2.I (f := 11) (k := 92) rfl, n1, n2]
          have hl1 : (lkN br W 60 L0 i).2.1 i = 1 := by rw [lkN_own]; exact c1
          refine ct_dispatch (x := mOf y) b1 i2 hxo hi hl1 (by rw [fr2.L (f := 110) rfl, hf.L (f := 110) rfl]; exact hL) (fun M3 f3 th => ?_)
          have r3 : TA G US A S W w br nq nl nf nk B F x (yL s (lkN br W 60 L0 i).2) M3 := r2'.lk f3 (b1.mfr f3)
          exact ct_asked126 hask.1 (fun m hz => ⟨by have := (hask.2 m hz).1; omega, Nat.lt_of_lt_of_le (hask.2 m hz).2 (h12.2 m.1)⟩) th (hQ M3 r3 (((hf.sub rfl).trans (fr2.sub rfl)).trans (f3.sub rfl)))
        · rw [if_neg c4] at hQ hask
          refine itn c4 ?_
          exact ct_asked126 (z := .inr q) hask.1 (fun m hz => by cases hz; exact ⟨by omega, hq12⟩) (fun e hz => by cases hz) (hQ M2 r2' ((hf.sub rfl).trans (fr2.sub rfl)))
      · rw [if_neg c1] at hQ hask
        rw [decide_eq_false c1]
        refine itp rfl ⟨w, e45, by rw [l138]; exact (vp_oN (by omega)).mpr (by omega), by decide, w, e45, by rw [l138]; exact (vp_oN (by omega)).mpr (by omega), by decide, ?_⟩
        rw [oN_tnc (k := i) (by omega), b1.2.1 i hi, lkN_own]
        obtain ⟨n, hn, -, en⟩ := (hask.1 _ rfl).1
        rw [en]
        have e1 : Int32.ofNat n / 100 = Int32.ofNat (n / 100) := by rw [show (100 : Int32) = Int32.ofNat 100 from rfl, oN_div (by omega) (by omega)]
        have e2 : Int32.ofNat n - Int32.ofNat (n / 100) * 100 = Int32.ofNat (n % 100) := by
          rw [show (100 : Int32) = Int32.ofNat 100 from rfl, oN_mul, oN_sub (by omega)]
          congr 1; omega
        rw [e1, e2]
        refine ct_fails (by omega) (by omega) (fun M3 f3 th => ?_)
        have en2 : 100 * (n / 100) + n % 100 = n := by omega
        rw [en2, ← en] at th
        have r3 : TA G US A S W w br nq nl nf nk B F x (yL s (lkN br W 60 L0 i).2) M3 := r2'.lk f3 (b1.mfr f3)
        unfold w_Model_asked_j94
        refine itp (show (-1 : Int32) < 0 by decide) ?_
        exact ct_asked126 (z := .inl (lkN br W 60 L0 i).1) hask.1 (fun m hz => by cases hz) (fun e hz => by cases hz; exact th) (hQ M3 r3 (((hf.sub rfl).trans (fr2.sub rfl)).trans (f3.sub rfl)))
theorem ct_wasked (hk : k < 3) (hOn : tOn on M) (hon : on k = true) (hTp : tpT tp M) (hn : tp.length ≤ 1400) (hw3 : mL M 411 0 = 6002 ∧ mL M 107 0 = 6002 ∧ mL M 108 0 = 6002) (h113 : mL M 113 0 = 6) (hBl : BB.length ≤ 50000) (hAB : A ⊆ BB) (hNB : ∀ l ∈ lns (pT tp) tp.length 0, NB BB l ∧ UL US l) (hokL : ∀ l ∈ lns (pT tp) tp.length 0, okL l) (hTG : TG G M) (hV : TV US A S M) (hKs : TKs A M) (hW : WO W) (h12 : W12 W) (hG : GL W s) (h : TAx G US A S W k br nq nl nf nk B F x s M)
    (h0 : (c < 0 ∨ Int32.ofNat W.length ≤ c) → Q (-1) M)
    (hQ : ∀ A' S' y i M', i < W.length → c = Int32.ofNat i → takO pAsk tp.length (lns (pT tp) tp.length 0) = .inr y → TIl G US BB tp.length (pT tp) A A' S S' M M' → TAx G US A' S' W k br nq nl nf nk B F x (yL s (askS br W (zL s) y i).2) M' → tpT [] M' → mI M' 11 0 86 = -2 → Q (askA (askS br W (zL s) y i).1) M')
    (hX : ∀ A' S' e i M', i < W.length → c = Int32.ofNat i → takO pAsk tp.length (lns (pT tp) tp.length 0) = .inl e → TIl G US BB tp.length (pT tp) A A' S S' M M' → TAx G US A' S' W k br nq nl nf nk B F x s M' → tpT [] M' → mI M' 11 0 86 = Int32.ofNat e.2 → Q (-11) M') : w_Model_asked 0 (Int32.ofNat k) c Q M := by
  have hx : Gx G k := h.1.1.2.1
  have e2 : mI M 12 k 2 = Int32.ofNat W.length := h.1.1.cl.1.1.1
  unfold w_Model_asked
  refine ct_isClass hk hOn hon hW.2.2.2 e2 (fun z => itp rfl (h0 z)) (fun i hi ei ei2 nz => ?_)
  refine itn (by decide) ?_
  rw [ei]
  refine mf_w_Model_takesLine (Q := fun v M' => Fr F_Model_takesLine M M' → (if v = 0 then (Q (-11 : Int32) M') else (vp_in (Int32.ofNat k) (mL M' 703 0) ∧ ∃ i8, (mR M' 703 0 (Int32.ofNat k).toNatClampNeg) = some (12, i8) ∧ w_Model_findMethod 0 (50 : Int32) (mI (sR M' 11 0 45 (some (12, i8))) 11 0 88) (mI (sR M' 11 0 45 (some (12, i8))) 11 0 91) (mI (sR M' 11 0 45 (some (12, i8))) 11 0 92) (-3 : Int32) (fun r10 M9 => if r10 < 0 then (w_Model_asked_j94 0 Q (Int32.ofNat i) r10 M9) else (w_Model_isLinked 0 (Int32.ofNat i) (fun r22 M21 => if r22 = 0 then (∃ i24, (mR M21 11 0 45) = some (12, i24) ∧ vp_in (Int32.ofNat i) (mL M21 138 i24) ∧ ¬ (100 : Int32) = 0 ∧ ∃ i27, (mR M21 11 0 45) = some (12, i27) ∧ vp_in (Int32.ofNat i) (mL M21 138 i27) ∧ ¬ (100 : Int32) = 0 ∧ w_Model_fails 0 ((mI M21 138 i24 (Int32.ofNat i).toNatClampNeg) / (100 : Int32)) ((mI M21 138 i27 (Int32.ofNat i).toNatClampNeg) - (mI M21 138 i27 (Int32.ofNat i).toNatClampNeg) / (100 : Int32) * (100 : Int32)) (fun r31 M30 => w_Model_asked_j94 0 Q (Int32.ofNat i) r31 M30) M21) else (w_Model_asked_j94 0 Q (Int32.ofNat i) r10 M21)) M9)) (sR M' 11 0 45 (some (12, i8)))))) (fun _ _ hf hp => hp hf) (ct_takesA (B := BB) hx hTp hn hTG hV hKs hw3 h113 hBl hAB hNB (fun A' S' y M2 y1 y2 y3 y4 y5 hf => ?_) (fun A' S' e M2 y1 y2 y3 y4 hf => ?_))
  · have hOn2 : tOn on M2 := hOn.fr hf
    obtain ⟨b1, b2⟩ := hOn2.at hk
    have hT2 := h.tk y2 hBl hf
    obtain ⟨hkd, hns⟩ := lns_okL hokL y1
    refine itn (by decide) ⟨b1, k, b2, ?_⟩
    have f45 : Fr (69556213141345269407515067115786764991705262549735948303537359111522614176378895669990532984393877424257869264331680209358104836822935374614554679608043721543799333994078233166448732839509381338884749875141583345849788064702954612877462466104677421689448088294080777773965362174599308044327164417092088846031042047278365580585966720455145967136585436087833973984505353126613550736388181582785893315094229488730062957948409704252857268529221075377285067062755595332929103886865297150820576930048624213679773234781064639103418048462727563158233601126703792262163018387042296687430434915196125330685777119717767970019341806901981510528366365657011400439883787084893751229924829447152769796462326141284670937650906274428797367613626454026848298648969369286983979169519208976077834399557390296948941219899625597632161323087361696526000865772268255307923110197940977474400891396850517544211016799549379926055142573277403100946091498432294529676854420081353757434477181439477999992832) M2 (sR M2 11 0 45 (some (12, k))) := sR_fr
    refine ct_maskd hW h12 hG hns y3 hkd hi hT2 (fun M3 hT3 hf3 => ?_)
    have f3 : Fr (FAs ||| (69556213141345269407515067115786764991705262549735948303537359111522614176378895669990532984393877424257869264331680209358104836822935374614554679608043721543799333994078233166448732839509381338884749875141583345849788064702954612877462466104677421689448088294080777773965362174599308044327164417092088846031042047278365580585966720455145967136585436087833973984505353126613550736388181582785893315094229488730062957948409704252857268529221075377285067062755595332929103886865297150820576930048624213679773234781064639103418048462727563158233601126703792262163018387042296687430434915196125330685777119717767970019341806901981510528366365657011400439883787084893751229924829447152769796462326141284670937650906274428797367613626454026848298648969369286983979169519208976077834399557390296948941219899625597632161323087361696526000865772268255307923110197940977474400891396850517544211016799549379926055142573277403100946091498432294529676854420081353757434477181439477999992832)) M2 M3 := (f45.sub rfl).trans (hf3.sub rfl)
    obtain ⟨⟨i1, i2, i3⟩, i4, i5, i6, i7⟩ := id y2
    exact hQ A' S' y i M3 hi ei y1 ⟨⟨i1.fr f3, i2.fr f3, (f3.L (f := 411) rfl 0).trans i3.1, (f3.L (f := 107) rfl 0).trans i3.2.1, (f3.L (f := 108) rfl 0).trans i3.2.2⟩, i4, i5.fr f3 hx, i6.fr f3 hx.1, (f3.L (f := 113) rfl 0).trans i7⟩ hT3.xx ⟨(f3.I (f := 11) (k := 85) rfl 0).trans y4.1, (f3.L (f := 402) rfl 1).trans y4.2.1, by simp, fun j hj => absurd hj (by simp)⟩ ((f3.I (f := 11) (k := 86) rfl 0).trans y5)
  · refine itp rfl ?_
    exact hX A' S' e i M2 hi ei y1 y2 (h.tk y2 hBl hf) y3 y4
end
