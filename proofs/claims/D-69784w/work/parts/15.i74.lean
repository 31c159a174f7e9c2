/-! differ in the twin: whether two methods are written alike -/
def dPo (M : Mem) : Prop := rl M sP1 ≤ 60000 ∧ rl M sP2 ≤ 60000
abbrev SPe : Nat := (729468564308762096061292608618104212381582867063557551241996889870995898264200088979488492719712607932266379359137247354515334365181934580164965825242726771962489421678244467427945683738400480514925412216230720078349470885997069189118670694960992898523537443124859939485541957490750632213586593689971638355537432888036622390557951636381398703820030389336784757318833506264941027206854293823738648417429236597641760892492602819656649216532890220041381488710687038106342577105584971476143317548082771688045883800998329935398194816256877555554497525070425856061195504935805020327076983651365345530836221864342677563314360040292666217391192127109490402099262118224226109464141820256844303294640269923479909439426392025803741523384758609980053640239700237246201978469744034334001379625938529405605010520655642574436640938833520496200048014701581618580598055485803944685008969286125715536633319864184191402395812039337915505770209452267179110080104344063282431749302372425710267134546430519275868252932435364650219658092769340017005658106831978185433710625424117217910420381135017986492392567481924888370984897899165737789908849871015538177422285675835667002166717778042027741437483371343944889136321994370744151667722081732290304640977960352755861602190104625269386575440396635608592509207658265949339586839251134158210250280261733425316051912919710917458074153402641706900068054970305907332459244401197688613982649509779736381590175111376741982281619244434124104077980055423929101509301144865480940666032722060369505249451697185563448848310093981282606042577334370494963040408073570703459177748388499495400959277967629932478595072)
section
variable {G X : List Sl} {US : UST} {A : List Nm} {S : List Sg} {W V : List Cls} {w w' : Nat} {br br' x0 x1 : Int32} {nq nl nf nk nq' nl' nf' nk' B B' F F' : Nat} {P P' : List Int32} {M M1 M' : Mem} {Q : Int32 → Mem → Prop} {R k k' c d j i m : Nat} {v : Int32} {x y : Mth} {p : Sl} {s s' : Ms}
/-- pages 1 and 2 as they are compared -/
theorem ct_cmp {i1 : Nat} {v6 : Int32} {i13 i15 : Nat} (r1 : mR M 11 0 114 = some (401, i13)) (r2 : mR M 11 0 115 = some (401, i15)) (hl1 : P.length ≤ mL M 401 i13) (hl2 : P'.length ≤ mL M 401 i15) (hb : P.length ≤ 26000) (hc1 : ∀ i, i < P.length → mI M 401 i13 i = by8 (P.getD i 0)) (hc2 : ∀ i, i < P'.length → mI M 401 i15 i = by8 (P'.getD i 0)) (hP : ∀ b ∈ P, by8 b = b) (hP' : ∀ b ∈ P', by8 b = b) (hQ : ∀ b : Int32, (b = 0 ∨ b = 1) → (b = 1 ↔ P = P') → w_Model_isWrittenSo_j142 0 Q i1 v6 b M) : (P.length = P'.length → w_Model_isWrittenSo_j95 0 Q i1 v6 (Int32.ofNat P.length) 1 M) ∧ (P.length ≠ P'.length → w_Model_isWrittenSo_j95 0 Q i1 v6 (Int32.ofNat P.length) 0 M) := by
  have zero : ∀ n (u : Int32), P ≠ P' → w_Model_isWrittenSo_L100 0 Q (n + 1) i1 v6 (Int32.ofNat P.length) 0 u M := fun n u hne => by
    have g := hQ 0 (Or.inl rfl) ⟨fun z => absurd z (by decide), fun z => absurd z hne⟩
    unfold w_Model_isWrittenSo_L100
    split
    · exact g
    · exact itp rfl g
  have one : ∀ n i, i ≤ P.length → P.length - i < n → P.length = P'.length → (∀ q, q < i → by8 (P.getD q 0) = by8 (P'.getD q 0)) → w_Model_isWrittenSo_L100 0 Q n i1 v6 (Int32.ofNat P.length) 1 (Int32.ofNat i) M := by
    intro n
    induction n with
    | zero => intro i h1 h2; exact absurd h2 (by omega)
    | succ n ih =>
      intro i h1 h2 hl he
      unfold w_Model_isWrittenSo_L100
      by_cases e : i = P.length
      · refine itp (by rw [e]; exact le_oN (Nat.le_refl _) (by omega)) (hQ 1 (Or.inr rfl) ⟨fun _ => ?_, fun _ => rfl⟩)
        exact by_eq hP hP' hl (fun q hq => he q (by omega))
      refine itn (nle_oN (by omega) (by omega)) (itn (by decide) ⟨i13, r1, (vp_oN (by omega)).mpr (by omega), i15, r2, (vp_oN (by omega)).mpr (by omega), ?_⟩)
      rw [oN_tnc (k := i) (by omega), hc1 i (by omega), hc2 i (by omega)]
      unfold w_Model_isWrittenSo_j134
      rw [lit32 1, oN_add]
      by_cases c1 : by8 (P.getD i 0) = by8 (P'.getD i 0)
      · refine itp c1 (ih (i + 1) (by omega) (by omega) hl (fun q hq => ?_))
        by_cases eq : q = i
        · rw [eq]; exact c1
        · exact he q (by omega)
      · refine itn c1 ?_
        obtain ⟨n', e'⟩ : ∃ n', n = n' + 1 := ⟨n - 1, by omega⟩
        rw [e']
        exact zero n' _ (fun z => c1 (by rw [z]))
  unfold w_Model_isWrittenSo_j95
  exact ⟨fun hl => ⟨P.length + 1, one _ 0 (Nat.zero_le _) (by omega) hl (fun q hq => absurd hq (by omega))⟩, fun hl => ⟨1, zero 0 _ (fun z => hl (by rw [z]))⟩⟩
theorem TAx.tg (h : TAx G US A S W k br nq nl nf nk B F x0 s M) : TG G M := TG.of45 h.tb.2.1.1 h.tb.1.2.2.2
theorem ct_isWr (hG : sPg ∈ G ∧ sP1 ∈ G ∧ sP2 ∈ G) (h : TAx G US A S W k br nq nl nf nk B F x0 s M) (h' : TAx G US A S V k' br' nq' nl' nf' nk' B' F' x1 s' M) (hp : tPo P M) (hdp : dPo M) (hc : c < W.length) (hj : j < (gc W c).2.2.2.2.2.length) (hx : gmt (gc W c) j = x) (hd : d < V.length) (hi : i < (gc V d).2.2.2.2.2.length) (hy : gmt (gc V d) i = y) (nx : nwM x) (ny : nwM y) (lx : (txM x).length ≤ LPt) (ly : (txM y).length ≤ LPt) (hQ : ∀ b M', (b = 0 ∨ b = 1) → (b = 1 ↔ txM x = txM y) → tPo P M' → dPo M' → Fr SPe M M' → GF G [sP1, sP2] M M' → Q b M') : w_Model_isWrittenSo 0 k (Int32.ofNat (12 * c + j)) k' (Int32.ofNat (12 * d + i)) Q M := by
  have hT : TB G US A S W k br nq nl nf nk (sR M 11 0 45 (some (12, k))) := h.tb
  have hGa : Ga G := hT.2.1.1
  have hTG : TG G M := h.tg
  obtain ⟨⟨p1, p2, p3, p4⟩, p5⟩ := id hp
  unfold w_Model_isWrittenSo
  refine ⟨_, (hTG sPg hG.1).1.1, _, (hTG sP1 hG.2.1).1.1, _, rfl, ?_⟩
  have e3 : sR (sI (sR M 11 0 94 (some (401, rdI M sP1))) 11 0 95 0) 11 0 45 (some (12, k)) = sI (sR (sR M 11 0 45 (some (12, k))) 11 0 94 (some (401, rdI (sR M 11 0 45 (some (12, k))) sP1))) 11 0 95 0 := by
    rw [rdI45 hGa hG.2.1, sR_comm (f := 11) (i := 0) (k := 45) (f' := 11) (i' := 0) (k' := 94) (by decide)]; rfl
  rw [e3]
  have f0 : Fr SPe M (sR M 11 0 45 (some (12, k))) := Fr.wR rfl (Fr.rf _ _)
  have g0 : GF G [sP1, sP2] M (sR M 11 0 45 (some (12, k))) := (GF.rf hTG).fr (S := (69556213141345269407515067115786764991705262549735948303537359111522614176378895669990532984393877424257869264331680209358104836822935374614554679608043721543799333994078233166448732839509381338884749875141583345849788064702954612877462466104677421689448088294080777773965362174599308044327164417092088846031042047278365580585966720455145967136585436087833973984505353126613550736388181582785893315094229488730062957948409704252857268529221075377285067062755595332929103886865297150820576930048624213679773234781064639103418048462727563158233601126703792262163018387042296687430434915196125330685777119717767970019341806901981510528366365657011400439883787084893751229924829447152769796462326141284670937650906274428797367613626454026848298648969369286983979169519208976077834399557390296948941219899625597632161323087361696526000865772268255307923110197940977474400891396850517544211016799549379926055142573277403100946091498432294529676854420081353757434477181439477999992832)) (Fr.wR rfl (Fr.rf _ _)) hGa
  have q0 : rdI (sR M 11 0 45 (some (12, k))) sPg = rdI M sPg := rdI45 hGa hG.1
  have ql1 : rl (sR M 11 0 45 (some (12, k))) sP1 = rl M sP1 := by unfold rl; rw [rdI45 hGa hG.2.1]; rfl
  have ql0 : rl (sR M 11 0 45 (some (12, k))) sP2 = rl M sP2 := by unfold rl; rw [rdI45 hGa hG.2.2]; rfl
  have qL : mL (sR M 11 0 45 (some (12, k))) 518 0 = 81 := p5
  generalize sR M 11 0 45 (some (12, k)) = M0 at f0 g0 q0 ql0 ql1 qL hT ⊢
  refine ct_lend hT (Or.inl rfl) hG.2.1 hG.1 qL (by rw [ql1]; exact hdp.1) hc hj hx nx.2.1 lx (fun M4 m94 e95 g4 c4 l4 l4' f4 => ?_)
  have hM5 : gbk sP1 M0 M4 = sR (sR M4 11 0 114 (some (401, rdI M4 sPg))) 11 0 94 (some (401, rdI M0 sPg)) := rfl
  generalize gbk sP1 M0 M4 = M5 at g4 c4 l4 l4' f4 hM5
  have fA : Fr SPe M M5 := f0.trans (f4.sub (by rfl))
  have gA : GF G [sP1, sP2] M M5 := g0.trans (g4.sub (by simp))
  have h5 : TAx G US A S V k' br' nq' nl' nf' nk' B' F' x1 s' M5 := h'.gx gA (by simp) fA
  have hT5 : TB G US A S V k' br' nq' nl' nf' nk' (sR M5 11 0 45 (some (12, k'))) := h5.tb
  have o5 : mR (sR M4 11 0 114 (some (401, rdI M4 sPg))) 11 0 115 = some (401, rdI M5 sP2) := by
    have := (g4.1 sP2 hG.2.2).1.1
    rw [← this, hM5, mR_sR (k := 94), if_neg (by decide)]
  refine ⟨_, m94, _, o5, _, rfl, ?_⟩
  have e7 : sR (sI (sR (sR M4 11 0 114 (some (401, rdI M4 sPg))) 11 0 94 (some (401, rdI M5 sP2))) 11 0 95 0) 11 0 45 (some (12, k')) = sI (sR (sR M5 11 0 45 (some (12, k'))) 11 0 94 (some (401, rdI (sR M5 11 0 45 (some (12, k'))) sP2))) 11 0 95 0 := by
    rw [rdI45 hGa hG.2.2, sR_comm (M := M5) (f := 11) (i := 0) (k := 45) (f' := 11) (i' := 0) (k' := 94) (by decide)]
    have : sR M5 11 0 94 (some (401, rdI M5 sP2)) = sR (sR M4 11 0 114 (some (401, rdI M4 sPg))) 11 0 94 (some (401, rdI M5 sP2)) := by
      generalize rdI M5 sP2 = z
      rw [hM5, sR_two]
    rw [this]; rfl
  rw [e7]
  have f6 : Fr SPe M5 (sR M5 11 0 45 (some (12, k'))) := Fr.wR rfl (Fr.rf _ _)
  have g6 : GF G [sP2] M5 (sR M5 11 0 45 (some (12, k'))) := (GF.rf g4.1).fr (S := (69556213141345269407515067115786764991705262549735948303537359111522614176378895669990532984393877424257869264331680209358104836822935374614554679608043721543799333994078233166448732839509381338884749875141583345849788064702954612877462466104677421689448088294080777773965362174599308044327164417092088846031042047278365580585966720455145967136585436087833973984505353126613550736388181582785893315094229488730062957948409704252857268529221075377285067062755595332929103886865297150820576930048624213679773234781064639103418048462727563158233601126703792262163018387042296687430434915196125330685777119717767970019341806901981510528366365657011400439883787084893751229924829447152769796462326141284670937650906274428797367613626454026848298648969369286983979169519208976077834399557390296948941219899625597632161323087361696526000865772268255307923110197940977474400891396850517544211016799549379926055142573277403100946091498432294529676854420081353757434477181439477999992832)) (Fr.wR rfl (Fr.rf _ _)) hGa
  have qP : rdI (sR M5 11 0 45 (some (12, k'))) sPg = rdI M sPg := by rw [rdI45 hGa hG.1, (g4.2.1 sPg hG.1 (by decide)).2.2, q0]
  have ql2 : rl (sR M5 11 0 45 (some (12, k'))) sP2 = rl M sP2 := by
    have : rl (sR M5 11 0 45 (some (12, k'))) sP2 = rl M5 sP2 := by unfold rl; rw [rdI45 hGa hG.2.2]; rfl
    rw [this, (g4.2.1 sP2 hG.2.2 (by decide)).2.1, ql0]
  have qL6 : mL (sR M5 11 0 45 (some (12, k'))) 518 0 = 81 := (fA.L rfl 0).trans p5
  generalize sR M5 11 0 45 (some (12, k')) = M6 at f6 g6 qP ql2 qL6 hT5 ⊢
  refine ct_lend hT5 (Or.inr rfl) hG.2.2 hG.1 qL6 (by rw [ql2]; exact hdp.2) hd hi hy ny.2.1 ly (fun M8 m94' e95' g8 c8 l8 l8' f8 => ?_)
  have hM9 : gbk sP2 M6 M8 = sR (sR M8 11 0 115 (some (401, rdI M8 sPg))) 11 0 94 (some (401, rdI M6 sPg)) := rfl
  generalize gbk sP2 M6 M8 = M9 at g8 c8 l8 l8' f8 hM9
  refine ⟨_, m94', ?_⟩
  have u1 : mI (sR M4 11 0 114 (some (401, rdI M4 sPg))) 11 0 95 = Int32.ofNat (txM x).length := e95
  have u2 : mI (sR M8 11 0 115 (some (401, rdI M8 sPg))) 11 0 95 = Int32.ofNat (txM y).length := e95'
  rw [u1, u2]
  have lx' : (txM x).length ≤ 26000 := lx
  have ly' : (txM y).length ≤ 26000 := ly
  have v1 : mR (sR M8 11 0 115 (some (401, rdI M8 sPg))) 11 0 114 = some (401, rdI M9 sP1) := by
    have := (g8.1 sP1 hG.2.1).1.1
    rw [← this, hM9, mR_sR (k := 94), if_neg (by decide)]
  have v2 : mR (sR M8 11 0 115 (some (401, rdI M8 sPg))) 11 0 115 = some (401, rdI M9 sP2) := by
    have := (g8.1 sP2 hG.2.2).1.1
    rw [← this, hM9, mR_sR (k := 94), if_neg (by decide)]
  have cI : ∀ i k, mI (sR M8 11 0 115 (some (401, rdI M8 sPg))) 401 i k = mI M9 401 i k := fun i k => by rw [hM9]; rfl
  have cL : ∀ i, mL (sR M8 11 0 115 (some (401, rdI M8 sPg))) 401 i = mL M9 401 i := fun i => by rw [hM9]; rfl
  obtain ⟨b1, b2', -⟩ := g8.2.1 sP1 hG.2.1 (by decide)
  obtain ⟨b3, b4, -⟩ := g6.2.1 sP1 hG.2.1 (by decide)
  have gB : GF G [sP1, sP2] M M9 := (gA.trans (g6.sub (by simp))).trans (g8.sub (by simp))
  have fB : Fr SPe M M9 := (fA.trans f6).trans (f8.sub (by rfl))
  obtain ⟨b8, b9, -⟩ := gB.2.1 sPg hG.1 (by decide)
  have rl1 : rl M9 sP1 = rl M5 sP1 := b2'.trans b4
  have fin : ∀ b : Int32, (b = 0 ∨ b = 1) → (b = 1 ↔ txM x = txM y) → w_Model_isWrittenSo_j142 0 Q (rdI M sPg) (mI M 11 0 95) b (sR M8 11 0 115 (some (401, rdI M8 sPg))) := fun b hb hq => by
    unfold w_Model_isWrittenSo_j142
    refine ⟨hb, ?_⟩
    rw [← qP, ← hM9]
    refine hQ b _ hb hq ⟨⟨?_, ?_, ?_, fun i hi => ?_⟩, (fB.L rfl 0).trans p5⟩ ⟨?_, ?_⟩ (Fr.wI rfl fB) (gB.fr (S := (78313333896166338081478806048485985733577752948823679670482275794471418502046897302983238693049068924389363695209190731526568260847252006945690997101771065280102077848917657286176887801468422595727246970551843904574743397382310334793263807827043428279459671575834754002826011810647105851782565591993660214877802985910820137061260874455246743472157547064759445550836037036470841545385300999267923619604001931241565972439877008746100577504826370057670550959869673235006287532699925930336939534820552392716672528569021849930622115502766937531321624813240723713600526009760044663765166256507818271365555285270957963699652276542389004616600969754244944491567088814062524738381262097979514969554227631988024830415941799361350408473520421996006198123053560677883714996543223915097343943403841310032771447860818436285946375820098466611789963502440399578466397187672790739405899233419783111458305153950331520807268684881914718944611439683918961102498347719710486714855288246322125414256259739752071168)) (Fr.wI rfl (Fr.rf _ _)) hGa)
    · rw [mI_sI, if_pos ⟨rfl, rfl, rfl⟩]; exact p1
    · show P.length ≤ rl M9 sPg
      rw [b9]; exact p2
    · show rl M9 sPg ≤ 60000
      rw [b9]; exact p3
    · have : rd (sI M9 11 0 95 (mI M 11 0 95)) sPg i = rd M9 sPg i := by
        unfold rd; rw [mI_sI, if_neg (fun z => absurd z.1 (by decide))]; rfl
      rw [this, b8]; exact p4 i hi
    · show rl M9 sP1 ≤ 60000
      rw [rl1]; exact l4'
    · exact l8'
  obtain ⟨A1, A2⟩ := ct_cmp (Q := Q) (i1 := rdI M sPg) (v6 := mI M 11 0 95) (P := txM x) (P' := txM y) v1 v2 (by rw [cL]; exact (show (txM x).length ≤ rl M9 sP1 by rw [rl1]; exact l4)) (by rw [cL]; exact l8) lx' (fun i hi => by rw [cI]; exact ((b1 i).trans (b3 i)).trans (c4 i hi)) (fun i hi => by rw [cI]; exact c8 i hi) (txM_by nx.1) (txM_by ny.1) fin
  by_cases e : (txM x).length = (txM y).length
  · exact itp (by rw [e]) (A1 e)
  · exact itn (ne_oN e (by omega) (by omega)) (A2 e)
end
