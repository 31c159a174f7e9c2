/-! a trial in the twin, from its last line's place on -/
section
variable {L : Trl} {G : List Sl} {US : UST} {BB A : List Nm} {S : List Sg} {M : Mem} {Q X : Mem → Prop} {B F : Nat} {br : Int32}
theorem ct_wk30 (hL : TrO L) (hx : Gx G 3) (hR : rmT G 3 F M) (hTG : TG G M) (hV : TV US A S M) (hUS : US.2 = S) (hKs : TKs A M) (hA0 : AT0 <+: A) (hAB : A ⊆ BB) (hBl : BB.length ≤ 50000) (hgl : tLk M) (hmS : mS M ≤ B + 2 * rs G M ∧ 51 ≤ mL M 110 0 ∧ mL M 110 0 < 1000000) (hXb : XLb M) (hrow : rl M sFr ≤ 20000) (hw3 : mL M 411 0 = 6002 ∧ mL M 107 0 = 6002 ∧ mL M 108 0 = 6002) (h113 : mL M 113 0 = 6) (h703 : mL M 703 0 = 4 ∧ mR M 703 0 3 = some (12, 3)) (hT : (txt L).length ≤ mL M 402 2 ∧ ∀ k, k < (txt L).length → mI M 402 2 k = gi (txt L) k) (h123 : mI M 11 0 123 = Int32.ofNat (txt L).length) (hB : ∀ l ∈ lns (pT (txt L.dropLast)) (txt L.dropLast).length 0, NB BB l ∧ UL US l) (hB2 : NB BB (full (nl (pT (txt L)) (txt L).length (txt L.dropLast).length) (tks (pT (txt L)) (txt L).length (txt L.dropLast).length)) ∧ UL US (full (nl (pT (txt L)) (txt L).length (txt L.dropLast).length) (tks (pT (txt L)) (txt L).length (txt L.dropLast).length))) (hF : F < 1000000) (hCF : 601 < F)
    (hQ : ∀ A' S' W' nq nl nf nk x s M', A <+: A' → A' ⊆ BB → S <+: S' → TAx G US A' S' W' 3 br nq nl nf nk B F x s M' → XLb M' → rl M' sFr ≤ 20000 → mI M' 11 0 124 = (outS L br).1 → mI M' 11 0 125 = (outS L br).2 → Q M') : w_Model_tryDraft_j30 0 Q X br (Int32.ofNat (txt L.dropLast).length) M := by
  unfold w_Model_tryDraft_j30
  have hl := txt_len hL.1.1
  have hle := hL.2.1
  have e0 := txt_last hL.1.1
  have hne := hL.1.1
  have h10 : (10 : Int32) ∉ L.getLastD [] := hL.2.2.1 _ (by
    rcases List.eq_nil_or_concat L with e | ⟨l, a, e⟩
    · exact absurd e hne
    · rw [e, List.concat_eq_append, List.getLastD_concat]; simp)
  have hnl := nl_last hne h10
  rw [hnl] at hB2
  have hw := hx.2.2.2.1
  have hsF : sFr ∈ G := hx.2.2.2.2.2
  have hgl5 : Gl G := hx.2.2.2.2.1
  refine ⟨by rw [h703.1]; exact (vp_oN (a := 3) (by omega)).mpr (by omega), 3, h703.2, 3, by rw [mR_sR, if_pos ⟨rfl, rfl, rfl⟩], ?_⟩
  have f1 : Fr (69556213141345269407515067115786764991705262549735948303537359111522614176378895669990532984393877424257869264331680209358104836822935374614554679608043721543799333994078233166448732839509381338884749875141583345849788064702954612877462466104677421689448088294080777773965362174599308044327164417092088846031042047278365580585966720455145967136585436087833973984505353126613550736388181582785893315094229488730062957948409704252857268529221075377285067062755595332929103886865297150820576930048624213679773234781064639103418048462727563158233601126703792262163018387042296687430434915196125330685777119717767970019341806901981510528366365657011400439883787084893751229924829447152769796462326141284670937650906274428797367613626454026848298648969369286983979169519208976077834399557390296948941219899625597632161323087361696526000865772268255307923110197940977474400891396850517544211016799549379926055142573277403100946091498432294529676854420081353757434477181439477999992832) M (sR M 11 0 45 (some (12, 3))) := sR_fr
  have e45 : mR (sR M 11 0 45 (some (12, 3))) 11 0 45 = some (12, 3) := by rw [mR_sR, if_pos ⟨rfl, rfl, rfl⟩]
  have hR1 : rmT G 3 F (sR M 11 0 45 (some (12, 3))) := hR.sel hx
  have m1 : mS (sR M 11 0 45 (some (12, 3))) ≤ B + 2 * rs G (sR M 11 0 45 (some (12, 3))) := by
    obtain ⟨r1, r2⟩ := f1.rsl hx.1
    rw [r1, r2]; exact hmS.1
  generalize sR M 11 0 45 (some (12, 3)) = M1 at f1 e45 hR1 m1 ⊢
  have hTG1 : TG G M1 := ((GF.rf hTG).fr (X := []) f1 hx.1).1
  have hA200 : A.length ≤ 200000 := by have := nd_le hV.1.1.2.1.1 hAB; omega
  refine ct_wbegin (k := 0) hx hR1 hTG1 (hV.fr f1 hx) (hKs.fr f1) hA0 hA200 ⟨⟨(f1.L (f := 111) rfl 0).trans hgl.1.1, (f1.L (f := 212) rfl 0).trans hgl.1.2.1, (f1.L (f := 112) rfl 0).trans hgl.1.2.2⟩, (f1.I (f := 11) (k := 77) rfl 0).trans hgl.2⟩ ⟨m1, by rw [f1.L (f := 110) rfl]; exact hmS.2.1, by rw [f1.L (f := 110) rfl]; exact hmS.2.2⟩ (fun M5 h5 f5 _ _ _ => ?_)
  have e45' : mR M5 11 0 45 = some (12, 3) := (f5.R (f := 11) (k := 45) rfl 0).trans e45
  have h5 : TA G US A S W21 3 br 0 0 0 0 B F 50 (ms0 0) M5 := by
    have h := h5
    unfold TAx at h
    rw [sR_id e45'] at h
    exact h
  have t402 : ∀ k, k < (txt L).length → mI M5 402 2 k = pT (txt L) k := fun k hk => by rw [f5.Ia (f := 402) rfl rfl, f1.Ia (f := 402) rfl rfl, hT.2 k hk, pT_in hk]
  have l402 : (txt L).length ≤ mL M5 402 2 := by rw [f5.L (f := 402) rfl, f1.L (f := 402) rfl]; exact hT.1
  have xb5 : XLb M5 := (hXb.fr f1 hx.1 hgl5).fr f5 hx.1 hgl5
  have row5 : rl M5 sFr ≤ 20000 := by rw [rl_keep f5 hTG1 hsF, rl_keep f1 hTG hsF]; exact hrow
  have w5 : mL M5 411 0 = 6002 ∧ mL M5 107 0 = 6002 ∧ mL M5 108 0 = 6002 := ⟨((f5.L (f := 411) rfl 0).trans (f1.L (f := 411) rfl 0)).trans hw3.1, ((f5.L (f := 107) rfl 0).trans (f1.L (f := 107) rfl 0)).trans hw3.2.1, ((f5.L (f := 108) rfl 0).trans (f1.L (f := 108) rfl 0)).trans hw3.2.2⟩
  have v113 : mL M5 113 0 = 6 := ((f5.L (f := 113) rfl 0).trans (f1.L (f := 113) rfl 0)).trans h113
  have e123 : mI M5 11 0 123 = Int32.ofNat (txt L).length := ((f5.I (f := 11) (k := 123) rfl 0).trans (f1.I (f := 11) (k := 123) rfl 0)).trans h123
  clear hR hR1 hTG hTG1 hV hKs hgl hmS hXb hrow hw3 h113 h703 hT h123 f1 f5 m1 e45
  have hd10 : ∀ l ∈ L.dropLast, (10 : Int32) ∉ l := fun l h => hL.2.2.1 l (List.dropLast_subset _ h)
  have htk : tk (lns (pT (txt L.dropLast)) (txt L.dropLast).length 0).tail ≤ 1201 := by
    have := (lns_s (pT_end (txt L.dropLast))).2
    rw [← tk_sum] at this
    have := tk_tail (lns (pT (txt L.dropLast)) (txt L.dropLast).length 0)
    omega
  have w21 := W21_n
  obtain ⟨⟨⟨⟨hTW5, hV5, hK5, hTG5⟩, -⟩, -⟩, -⟩ := id h5
  refine k_takeT (ct_take (B := BB) (p := pT (txt L.dropLast)) (K := (1300, 1300, 1300, 2600)) hx hTG5 hV5 hUS hTW5 xb5 row5 hA0 (by omega) hBl ⟨⟨⟨by omega, by omega, fun k hk => ?_, pT_end _⟩, hK5, w5⟩, hTW5.1.1.2.2.1, List.prefix_refl _, hAB⟩ hB ⟨by decide, by decide, by decide, by decide⟩ ⟨show 0 + _ ≤ 1300 by omega, show 0 + _ ≤ 1300 by omega, show 0 + _ ≤ 1300 by omega, show 0 + 2 * _ ≤ 2600 by omega, show 0 + 2 * _ ≤ 3800 by omega, show 0 + _ ≤ 3800 by omega⟩ (fun A1 S1 W' M6 nq' nl'' nf' nk' y1 y2 y3 y4 y5 y6 y7 y8 y9 y10 y11 y12 f6 => ?_) (fun A1 S1 e M6 y1 y2 y3 y4 y5 y6 y7 y8 y9 y10 f6 => ?_))
  · rw [t402 k (by omega), pT_in (by omega), pT_in hk, e0, gi_l hk]
  · have hWp := run_pre y1
    have hBI : BI W' := WO21.1.pre hWp
    have hSS : S <+: S1 := by rw [← hUS]; exact y4.2.1.2.2.2
    have hA1 : A1.length ≤ 50000 := Nat.le_trans (nd_le y4.1.1.2.1.1 y3) hBl
    have hK6 : TKs A1 M6 := (hK5.fr f6).pre y2
    have h6 := h5.grow (K := 1) WI21.1.1 LZ21 y2 (by omega) hSS hWp y5 y4 hK6 y8 y10 (f6.sub rfl)
    have hWO : WO W' := ⟨hBI, (WO21.2.1.run (by rw [w21.1]; omega) y1).1, WO21.2.2.1.run (by rw [w21.1]; omega) y1, h6.1.1.l51⟩
    have hns : NSi W' := (NSw21.run (by rw [w21.1]; omega) (lns_k (pT_end _)) y1).i hBI
    have hnm : ∀ c, c < W'.length → (gc W' c).1 ≠ [] := fun c hc => (h6.1.1.cl.2.2 c hc).1.2.2
    have hty : ∀ c, c < W'.length → ∀ f, f < (gc W' c).2.2.2.2.1.length → tyOk (gfl (gc W' c) f).2.1 := fun c hc f hf => ((hWO.2.2.1.1 _ (gc_mem hc)).1.1 _ (getD_mem hf)).1
    obtain ⟨⟨hWI, -, hTI2⟩, hRk⟩ := trS_ok hL hBI hnm hty
    have eo : outS L br = endL (zN (gowS br W' 300000 300 (trS L)).2 0) := by unfold outS; rw [y1]
    refine itp ((oN_le (a := 0) (by omega) (by have := hWO.2.2.2; omega)).mpr (Nat.zero_le _)) ?_
    have e123' : mI M6 11 0 123 = Int32.ofNat (txt L).length := (f6.I (f := 11) (k := 123) rfl 0).trans e123
    have es : Int32.ofNat (txt L).length - 1 = Int32.ofNat ((txt L).length - 1) := by
      have := oN_add ((txt L).length - 1) 1
      rw [show (txt L).length - 1 + 1 = (txt L).length by omega] at this
      rw [← this, show (Int32.ofNat 1) = (1 : Int32) from rfl, Int32.add_sub_cancel]
    rw [e123', es]
    have w6 : mL M6 411 0 = 6002 ∧ mL M6 107 0 = 6002 ∧ mL M6 108 0 = 6002 := ⟨(f6.L (f := 411) rfl 0).trans w5.1, (f6.L (f := 107) rfl 0).trans w5.2.1, (f6.L (f := 108) rfl 0).trans w5.2.2⟩
    have hTG6 : TG G M6 := y10.1.1
    refine k_cutT (c_cutLine (n := (txt L).length) (p := pT (txt L)) hx.1 hTG6 y4.1.1 ⟨by rw [f6.L (f := 402) rfl]; exact l402, by omega, fun k hk => (f6.Ia (f := 402) rfl rfl 2 k).trans (t402 k hk), pT_end _⟩ ⟨hK6 (6, nMake) (by simp [kF]), hK6 (7, nStart) (by simp [kF])⟩ w6 (by omega) (by omega) (by omega) ?_ (fun k h1 h2 => ?_) (fun M7 hTL f7 => ?_))
    · rw [pT_in (by omega)]; exact txt_10 hne (by omega)
    · rw [pT_in (by omega)]; exact txt_in hne h10 h1 (by omega)
    obtain ⟨hg7, hN7, hX7, hWA7, hK27⟩ := hTL
    have hpp := pT_end (txt L)
    obtain ⟨ta, tb⟩ := hL.at (to := (txt L).length - 1)
    have hok := tks_ok hpp _ (txt L.dropLast).length (Nat.le_refl _) (by omega)
    have hL1 := tks_len hpp _ (txt L.dropLast).length (Nat.le_refl _) (by omega)
    have hL2 := full_len ((txt L).length - 1) (tks (pT (txt L)) (txt L).length (txt L.dropLast).length)
    have hz : lz (full ((txt L).length - 1) (tks (pT (txt L)) (txt L).length (txt L.dropLast).length)) := full_lz hpp (by omega)
    have h2w : (hd (full ((txt L).length - 1) (tks (pT (txt L)) (txt L).length (txt L.dropLast).length))).1 = 2 := (of_decide_eq_true ta).1
    have c2w := (full_two (to := (txt L).length - 1) hpp (a := (txt L.dropLast).length) (by omega)).mpr (by omega)
    have hpre := foldT_pre (tks (pT (txt L)) (txt L).length (txt L.dropLast).length) A1
    have hsub : foldT A1 (tks (pT (txt L)) (txt L).length (txt L.dropLast).length) ⊆ BB := foldT_sub _ _ y3 (fun t ht => hB2.1 t (by
      unfold full; split
      · exact List.mem_append_left _ ht
      · exact ht))
    have hV7 := y4.cut f7 hg7 hx hN7 hpre
    have hK7 := (hK6.fr f7).pre hpre
    have hA2 : (foldT A1 (tks (pT (txt L)) (txt L).length (txt L.dropLast).length)).length ≤ 50000 := Nat.le_trans (nd_le hN7.2.1.1 hsub) hBl
    generalize foldT A1 (tks (pT (txt L)) (txt L).length (txt L.dropLast).length) = A2 at hN7 hWA7 hK27 hpre hsub hV7 hK7 hA2
    have fm : ∀ t ∈ full ((txt L).length - 1) (tks (pT (txt L)) (txt L).length (txt L.dropLast).length), t.1 < 100 := fun t ht => by
      rcases full_mem ht with q | q
      · exact (hok t q).2.1
      · rw [q]; exact (by decide : (0 : Nat) < 100)
    generalize full ((txt L).length - 1) (tks (pT (txt L)) (txt L).length (txt L.dropLast).length) = LL at ta tb hz h2w c2w hWA7 hB2 hL2 fm
    have hq7 : TQ A2 LL LL M7 := ⟨⟨hWA7, hK7, by omega, by omega, fm⟩, 0, hK27.2, rfl, Nat.zero_le _⟩
    have k25 := hK7 (25, nRun) (by simp [kF])
    have hneL : LL ≠ [] := fun q => by rw [q] at c2w; simp at c2w
    rw [show mI M7 11 0 25 = nc A2 nRun from k25.1]
    refine k_needT (ct_needWord hq7 hneL k25.2 (fun M8 w1 q8 f8 => ?_) (fun M8 w0 _ => by rw [ta] at w0; cases w0))
    have hg8 : GF G X9 M6 M8 := (hg7.sub (by decide)).fr f8 hx.1
    have hne2 : LL.tail ≠ [] := fun q => by
      have := congrArg List.length q
      rw [List.length_tail] at this
      simp at this; omega
    have v8 : mL M8 113 0 = 6 := (((f8.L (f := 113) rfl 0).trans (f7.L (f := 113) rfl 0)).trans (f6.L (f := 113) rfl 0)).trans v113
    refine k_callT (ct_callWords (M0 := M8) hx hz hB2.2 q8 hne2 ⟨hV7.fr f8 hx, GF.rf hg8.1, v8⟩ (fun k m κ vs M9 z1 z2 z3 z4 z5 z6 f9 => ?_) (fun e S' M9 z1 => by rw [tb] at z1; cases z1))
    have ex : calL L = (k, m, κ, vs) := Sum.inr.inj (tb.symm.trans z1)
    obtain ⟨⟨u1, u2, u3⟩, ⟨u4, u5, u6⟩, u7⟩ := z6
    have hg9 : GF G X9 M6 M9 := hg8.trans (u2.sub (by decide))
    have hS2 : S1 <+: ins S1 (sg A2 (kNs vs.length) κ) := ins_pre _ _
    have f69 : Fr F_Model_takesLine M6 M9 := ((f7.sub rfl).trans (f8.sub rfl)).trans (f9.sub rfl)
    have w9 : mL M9 411 0 = 6002 ∧ mL M9 107 0 = 6002 ∧ mL M9 108 0 = 6002 := ⟨(f69.L (f := 411) rfl 0).trans w6.1, (f69.L (f := 107) rfl 0).trans w6.2.1, (f69.L (f := 108) rfl 0).trans w6.2.2⟩
    have hK9 : TKs A2 M9 := (hK7.fr f8).fr f9
    have h9 := h6.xx.tk (BB := BB) (n := 0) (p := fun _ => 10) ⟨⟨⟨Nat.zero_le _, Nat.zero_le _, fun k hk => absurd hk (by omega), fun _ _ => rfl⟩, hK9, w9⟩, ⟨hpre, hsub, hS2⟩, u1, hg9, u3⟩ hBl f69
    have hPc : PcT (k, m, κ, vs) A2 (ins S1 (sg A2 (kNs vs.length) κ)) M9 := ⟨⟨z2, z3, z4, z5⟩, ⟨u4, u5, by rw [ins_idx]; exact u6⟩, ins_mem _ _, u7⟩
    have e459 : mR M9 11 0 45 = some (12, 3) := (f69.R (f := 11) (k := 45) rfl 0).trans ((f6.R (f := 11) (k := 45) rfl 0).trans e45')
    generalize ins S1 (sg A2 (kNs vs.length) κ) = S2 at u1 hS2 h9 hPc
    have h9 : TA G US A2 S2 W' 3 br nq' nl'' nf' nk' B F 50 (ms0 0) M9 := by
      have h := h9
      unfold TAx at h
      rw [sR_id e459] at h
      exact h
    obtain ⟨l7, r7⟩ := h9.2.2.2.2.1
    refine ⟨3, e459, by rw [l7]; exact (vp_oN (a := 0) (by omega)).mpr (by omega), 9, r7 0 (by omega), ?_⟩
    have hkd : kdOk κ := by have := pCall_kd tb; rw [ex] at this; exact this
    refine ct_beginRun (w := 3) (t := 0) (y := (k, m, κ, vs)) hx hg9.1 u1 hPc u3 (h9.2.2.2.2.2.2 0 (by omega)).1.1 rfl hkd (fun M10 f10 g1 g2 => ?_)
    have h10' : TA G US A2 S2 W' 3 br nq' nl'' nf' nk' B F 50 (trS L) M10 := by
      have hh := h9.ln1 (t := 0) (l := newL (calL L) (cvl (calL L))) (by omega) f10 g1 (by rw [ex]; exact g2 _ (gv_cvl _))
      exact hh
    have hm := mu_max hWO hWI.1.1
    have hzk : zK (trS L) = 0 := rfl
    have f11 : Fr (19119466283243734883173536632931148860736756091021406169551336863884623657726293286861142259045182842868496995900681330939103579308411134508225341089299576484399921349833412423383029248405376610284972404919883765765318212251540609080386671832774274482289958880819031738971194289708766077095352927732827200897901119607133822524721893177550474480507213638857286511434579354607139049166333251774395414942383283994522942490204347838403461304889250502360974355436931942140206917163067854086166878618298924003093879045171350080718289917667709358232818557920098562890753420351573404239542543092729070157606270818104971606360419077731690580224846131407457151261496292495733578706362816889530021863825105465826374613267040859704689568730571776368700713636123212373953856577935526146812486182578444832219591762895126046373626909203727200144034058212988178336522750896677426612768367534126736195875281726155156447087081269998710679836777266581777612914635673757443045618966857012237649964907163025408) M10 (sI M10 11 0 83 0) := Fr.wI rfl (Fr.rf _ _)
    have h11 := h10'.fr (M' := sI M10 11 0 83 0) (Fr.wI rfl (Fr.rf _ _))
    have z83 : mI (sI M10 11 0 83 0) 11 0 83 = Int32.ofNat 0 := by rw [mI_sI, if_pos ⟨rfl, rfl, rfl⟩]; rfl
    refine k_goT ?_
    unfold w_Model_goOn
    refine ⟨300000, ?_⟩
    show w_Model_goOn_L5 0 _ 300000 (Int32.ofNat (0 + 300)) _
    refine ct_goT (C := 300) (K := 1) (F := F) hWO hns hF (by omega) 300000 300 0 50 (trS L) (sI M10 11 0 83 0) h11 hWI.1 hTI2 (by omega) (by omega) z83 (by omega) (fun x' m' M12 r12 g12 _ _ _ f12 => ?_)
    have hRk2 := gow_rk (br := br) (f := 300000) (n := 300) hWO hWI.1 (by omega) hRk
    have hOn2 := gow_on (br := br) (f := 300000) (n := 300) hWO hWI.1 (by omega) (show OnN (trS L) from rfl)
    have xb10 : XLb M10 := ((((y6.kp f7 hTG6 hgl5).kp f8 hg7.1 hgl5).kp f9 hg8.1 hgl5).kp f10 hg9.1 hgl5)
    have row10 : rl M10 sFr ≤ 20000 := by rw [rl_keep f10 hg9.1 hsF, rl_keep f9 hg8.1 hsF, rl_keep f8 hg7.1 hsF, rl_keep f7 hTG6 hsF]; exact y7
    have hTG10 : TG G M10 := h10'.1.1.1.2.2.2
    generalize (gowS br W' 300000 300 (trS L)).2 = y at r12 g12 hRk2 hOn2 eo
    have hu := r12.2.2.2.2.2.2 0 (by omega)
    obtain ⟨⟨-, ⟨u13, -⟩, ⟨u14, u15, u16, u17⟩, -⟩, -⟩ := hu.2 hOn2
    rw [if_pos (show (zN y 0).1 = true from hOn2)] at u13
    refine ct_wkE u13 (g12.1.2.1 0 (by omega)).2.1.1 u14 u15 u16 u17 (fun M13 f13 o16 o17 => ?_)
    rw [← eo] at o16 o17
    have hTG12 : TG G M12 := r12.1.1.1.2.2.2
    exact hQ A2 S2 W' nq' nl'' nf' nk' x' y M13 (y2.trans hpre) hsub (hSS.trans hS2) (r12.lk f13 (r12.1.mfr f13)).xx ((xb10.kp f12 hTG10 hgl5).kp f13 hTG12 hgl5) (by rw [rl_keep f13 hTG12 hsF, rl_keep f12 hTG10 hsF]; exact row10) o16 o17
  · have he := runL_e y1
    have hSS : S <+: S1 := by rw [← hUS]; exact y4.2.1.2.2.2
    have hA1 : A1.length ≤ 50000 := Nat.le_trans (nd_le y4.1.1.2.1.1 y3) hBl
    have hK6 : TKs A1 M6 := (hK5.fr f6).pre y2
    have h6 := h5.grow (K := 1) WI21.1.1 LZ21 y2 (by omega) hSS List.prefix_rfl y5 y4 hK6 (fun j h1 h2 => absurd h2 (by omega)) y8 (f6.sub rfl)
    have eo : outS L br = (1, Int32.ofNat e.1) := by unfold outS; rw [y1]
    have hneg : ¬ (0 : Int32) ≤ -10 - Int32.ofNat e.1 := by
      obtain ⟨a1, a2⟩ := he
      have : e.1 = 1 ∨ e.1 = 2 ∨ e.1 = 3 ∨ e.1 = 4 ∨ e.1 = 5 ∨ e.1 = 6 ∨ e.1 = 7 ∨ e.1 = 8 ∨ e.1 = 9 ∨ e.1 = 10 ∨ e.1 = 11 ∨ e.1 = 12 ∨ e.1 = 13 ∨ e.1 = 14 := by omega
      rcases this with z | z | z | z | z | z | z | z | z | z | z | z | z | z <;> rw [z] <;> decide
    generalize -10 - Int32.ofNat e.1 = vv at hneg ⊢
    refine itn hneg ⟨_, rfl, ?_⟩
    have f7 : Fr (126132452971786005688511570735765362140014631745636974695663036656840185027382774865468855033552825082563330190439944776449847563293954232988290380252651565896419813963530262640399692241888080934508483152988216740992050379755858086322454615894092630812000314238416644628378554614314649086421128445220368773338686172806795472956132376616117467058781806701020979780475056698707633885635487816614444458009424787026262447795890904560052980466228453083533243868103120612459447740244517169657323586043897158264746414054590446560540695632019472827663007836419131046982223607618788239389014485888934991434867454169518107255285635370565774701860318916137697661730997842372238243951928758759886677066691266723033791352156039486147634046254310422862123831929360037948304900426712412155564835018690005261706271301794128865749770708893035099019682974005674642007010658500378965549998378878539513672453813926844658834435945244782502398051663326215693143572440256322268135704727646477520350790407904568731305559195648) M6 (sI (sI M6 11 0 124 1) 11 0 125 (mI (sI M6 11 0 124 1) 11 0 49)) := Fr.wI rfl (Fr.wI rfl (Fr.rf _ _))
    have o16 : mI (sI (sI M6 11 0 124 1) 11 0 125 (mI (sI M6 11 0 124 1) 11 0 49)) 11 0 124 = 1 := by simp only [mI_sI, mI_sR, mI_sJ, mR_sI, mL_sI, mL_sR, mR_sR, Nat.reduceEqDiff, and_false, false_and, if_false, and_self, true_and, and_true, if_true]
    have o17 : mI (sI (sI M6 11 0 124 1) 11 0 125 (mI (sI M6 11 0 124 1) 11 0 49)) 11 0 125 = mI M6 11 0 49 := by simp only [mI_sI, mI_sR, mI_sJ, mR_sI, mL_sI, mL_sR, mR_sR, Nat.reduceEqDiff, and_false, false_and, if_false, and_self, true_and, and_true, if_true]
    rw [y10] at o17
    refine hQ A1 S1 W21 0 0 0 0 50 (ms0 0) _ y2 y3 hSS (h6.lk f7 (h6.1.mfr f7)).xx (y6.fr f7 hx.1 hgl5) (by rw [rl_keep f7 y8.1.1 hsF]; exact y7) ?_ ?_
    · rw [eo]; exact o16
    · rw [eo]; exact o17
end
