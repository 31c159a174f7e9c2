/-! the twin's page -/
abbrev sPg : Sl := (11, 0, 94, 401)
def tPg (P : List Int32) (M : Mem) : Prop := mI M 11 0 95 = Int32.ofNat P.length ∧ P.length ≤ rl M sPg ∧ rl M sPg ≤ 60000 ∧ ∀ i, i < P.length → rd M sPg i = by8 (P.getD i 0)
abbrev SPt : Nat := (729468564308762096061292608618104212381582867063557551241996889870995898264200088979488492719712607932266379359137247354515334365181934580164965825242726771962489421678244467427945683738400480514925412216230720078349470885997069189118670694960992898523537443124859939485541957490750632213586593689971638355537432888036622390557951636381398703820030389336784757318833506264941027206854293823738648417429236597641760892492602819656649216532890220041381488710687038106342577105584971476143317548082771688045883800998329935398194816256877555554497525070425856061195504935805020327076983651365345530836221864342677563314360040292666094214968521849719221842625108437019375198587939042449437069500772178250770332397953354852383643075118249237381554337252061184071684885883172348572077322958334068575757152589811265312851975926249723810736085136789154646649200014058174563135070508336325315113980305752249812015483203607639273671599992151490852192224295334989526995236285970130761956971603598329334246174441945142529232681345300860038896889756815065118719856483144061108725881501599345701659093807126406156484002607271911380740467012399769440425380441228484044370404852960955373363344655558718662324979052444061861170244818776916044097794832736603914426534693339362059270630898192906709196663712167299029037650035572812625947414742127059859388110711258941738263207271344951809895822828189821592656272470488405961219282051112496918725207395657474574579941441453937585507502665644731890829572854606519350222745476393489530680364724224634453701042323426065474883591974130496344754983225284770018119491235906438211375566495131516423634944)
abbrev Gp (G : List Sl) : Prop := Ga G ∧ sPg ∈ G
/-- rows of bytes that were there, but the page's, are as they were; the page's row is the same or a new one -/
def Pz (M M' : Mem) : Prop := (∀ j, (401, j) ∈ mN M → j ≠ rdI M sPg → mL M' 401 j = mL M 401 j ∧ ∀ k, mI M' 401 j k = mI M 401 j k) ∧ (rdI M' sPg = rdI M sPg ∨ (401, rdI M' sPg) ∉ mN M) ∧ ∀ q ∈ mN M, q ∈ mN M'
/-- only the page has changed (and what R tells) -/
def PgF (G : List Sl) (R : Nat) (M M' : Mem) : Prop := GF G [sPg] M M' ∧ Fr R M M' ∧ Pz M M'
abbrev LPt : Nat := 26000
section
variable {G : List Sl} {P : List Int32} {R R' : Nat} {b : Int32} {M M1 M' : Mem} {Q : Mem → Prop}
theorem Pz.rf : Pz M M := ⟨fun _ _ _ => ⟨rfl, fun _ => rfl⟩, Or.inl rfl, fun _ h => h⟩
theorem Pz.trans (h : Pz M M1) (h1 : Pz M1 M') : Pz M M' := by
  refine ⟨fun j hj hn => ?_, ?_, fun q hq => h1.2.2 q (h.2.2 q hq)⟩
  · have hj1 := h.2.2 _ hj
    have hn1 : j ≠ rdI M1 sPg := by
      rcases h.2.1 with e | e
      · rw [e]; exact hn
      · exact fun z => e (z ▸ hj)
    obtain ⟨a, b⟩ := h.1 j hj hn
    obtain ⟨c, d⟩ := h1.1 j hj1 hn1
    exact ⟨c.trans a, fun k => (d k).trans (b k)⟩
  · rcases h1.2.1 with e | e
    · rw [e]; exact h.2.1
    · exact Or.inr (fun z => e (h.2.2 _ z))
theorem Pz.wI {f i k : Nat} {v : Int32} (h : Pz M M1) (hf : f ≠ 401) : Pz M (sI M1 f i k v) := h.trans ⟨fun j _ _ => ⟨rfl, fun k' => by rw [mI_sI, if_neg (fun z => hf z.1.symm)]⟩, Or.inl rfl, fun _ h => h⟩
theorem Pz.pg {k : Nat} {v : Int32} (h : Pz M M1) : Pz M (sI M1 401 (rdI M1 sPg) k v) := h.trans ⟨fun j _ hn => ⟨rfl, fun k' => by rw [mI_sI, if_neg (fun z => hn z.2.1)]⟩, Or.inl rfl, fun _ h => h⟩
theorem PgF.rf (h : TG G M) : PgF G R M M := ⟨GF.rf h, Fr.rf _ _, Pz.rf⟩
theorem PgF.trans (h : PgF G R M M1) (h1 : PgF G R M1 M') : PgF G R M M' := ⟨h.1.trans h1.1, h.2.1.trans h1.2.1, h.2.2.trans h1.2.2⟩
theorem c_roomyP {n : Nat} {Q : Nat → Mem → Prop} (hG : Gok G) (hob : ∀ s ∈ G, s.1 < 20) (hTG : TG G M) (hs : sPg ∈ G) (hn : n ≤ 20000000) (hl : rl M sPg ≤ 20000000)
    (hQ : ∀ i M', Gr1 G [sPg] sPg n M (sR M' 11 0 94 (some (401, i))) → Pz M (sR M' 11 0 94 (some (401, i))) → Q i M') : w_Model_roomy (rdI M sPg) (Int32.ofNat n) Q M := by
  have el : mL M 401 (rdI M sPg) = rl M sPg := rfl
  unfold w_Model_roomy
  rw [el]
  by_cases h : rl M sPg < n
  · refine itp (lt_oN h (by omega)) ?_
    rw [lit32 2, oN_mul]
    refine c_maxN (by omega) (by omega) ⟨oN_nonneg (by omega), by rw [oN_tnc (by omega)]; omega, ?_⟩
    obtain ⟨i, hi⟩ := exists_fresh 401 (mN M)
    have hne : rdI M sPg ≠ i := fun q => hi (by rw [← q]; exact (hTG sPg hs).1.2)
    refine ⟨i, hi, _, rfl, by decide, by decide, ?_⟩
    rw [oN_tnc (k := max n (2 * rl M sPg)) (by omega)]
    have e1 : mL (mk M 401 i (max n (2 * rl M sPg))) 401 (rdI M sPg) = rl M sPg := by rw [mLk, if_neg (fun q => hne q.2)]; exact el
    have e2 : mL (mk M 401 i (max n (2 * rl M sPg))) 401 i = max n (2 * rl M sPg) := by rw [mLk, if_pos ⟨rfl, rfl⟩]
    rw [e1, e2, oN_tnc (k := rl M sPg) (by omega), show (0 : Int32).toNatClampNeg = 0 by decide]
    refine ⟨oN_nonneg (by omega), by omega, by omega, _, rfl, ?_⟩
    refine hQ _ _ (grow (s := sPg) (X := [sPg]) (i := i) (n := n) (M := M) hG hTG hs (by simp) hi h rfl (by decide) hob) ⟨fun j hj _ => ?_, Or.inr ?_, fun q hq => ?_⟩
    · have hji : ¬ ((401 : Nat) = 401 ∧ j = i) := fun z => hi (z.2 ▸ hj)
      refine ⟨by rw [mL_sR, mL_cpI, mLk, if_neg hji], fun k => by rw [mI_sR, mI_cpI, if_neg hji, mI_mk, if_neg hji]⟩
    · have : rdI (sR (cpI (mk M 401 i (max n (2 * rl M sPg))) 401 (rdI M sPg) 0 401 i 0 (rl M sPg)) 11 0 94 (some (401, i))) sPg = i := by unfold rdI; rw [mR_sR, if_pos ⟨rfl, rfl, rfl⟩]; rfl
      rw [this]; exact hi
    · exact List.mem_append_left _ hq
  · refine itn (nlt_oN (by omega) (by omega)) (hQ _ _ (Gr1.id (s := sPg) hTG hs (by omega)) ⟨fun j hj _ => ⟨rfl, fun _ => rfl⟩, Or.inl ?_, fun q hq => hq⟩)
    unfold rdI; rw [mR_sR, if_pos ⟨rfl, rfl, rfl⟩]; rfl
theorem rmP {n : Nat} {Q : Nat → Mem → Prop} (hG : Gp G) (hTG : TG G M) (hn : n ≤ 20000000) (hl : rl M sPg ≤ 20000000)
    (hQ : ∀ i M', Gr1 G [sPg] sPg n M (sR M' 11 0 94 (some (401, i))) → Pz M (sR M' 11 0 94 (some (401, i))) → Fr F_Model_roomy M M' → Q i M') : w_Model_roomy (rdI M sPg) (Int32.ofNat n) Q M :=
  mf_w_Model_roomy (fun i M' hf hp => hQ i M' hp.1 hp.2 hf) (c_roomyP (Q := fun i M' => Gr1 G [sPg] sPg n M (sR M' 11 0 94 (some (401, i))) ∧ Pz M (sR M' 11 0 94 (some (401, i)))) hG.1.1 (fun s hs => (hG.1.ob s hs).1) hTG hG.2 hn hl (fun i M' h h1 => ⟨h, h1⟩))
theorem ct_put (hG : Gp G) (hT : TG G M) (h : tPg P M) (hl : P.length < LPt) (hQ : ∀ M', tPg (P ++ [b]) M' → PgF G SPt M M' → Q M') : w_Model_put 0 b Q M := by
  obtain ⟨h1, h2, h3, h4⟩ := id h
  have hl : P.length < 26000 := hl
  unfold w_Model_put
  rw [h1, lit32 1, oN_add]
  refine ⟨_, (hT sPg hG.2).1.1, rmP hG hT (by omega) (by omega) (fun i M2 g z f => ?_)⟩
  have g : Gr1 G [sPg] sPg (P.length + 1) M (sR M2 11 0 94 (some (401, i))) := g
  have e95 : mI (sR M2 11 0 94 (some (401, i))) 11 0 95 = Int32.ofNat P.length := (f.I (f := 11) (k := 95) rfl 0).trans h1
  have f : Fr SPt M (sR M2 11 0 94 (some (401, i))) := Fr.wR rfl (f.sub (by rfl))
  generalize sR M2 11 0 94 (some (401, i)) = M3 at g f e95 z ⊢
  obtain ⟨g1, g2, g3, g4, g5⟩ := g
  refine ⟨_, (g1.1 sPg hG.2).1.1, ?_⟩
  rw [e95]
  refine ⟨(vp_oN (by omega)).mpr (show P.length < rl M3 sPg by omega), _, rfl, ?_⟩
  rw [oN_tnc (k := P.length) (by omega)]
  have e6 : ∀ v, mI (sI M3 401 (rdI M3 sPg) P.length v) 11 0 95 = Int32.ofNat P.length := fun v => e95
  rw [e6, oN_add]
  refine hQ _ ⟨?_, ?_, ?_, fun k hk => ?_⟩ ⟨?_, ?_, z.pg.wI (by decide)⟩
  · show _ = Int32.ofNat (P ++ [b]).length
    rw [List.length_append, List.length_singleton]; rfl
  · show (P ++ [b]).length ≤ rl M3 sPg
    rw [List.length_append, List.length_singleton]; exact g2
  · show rl M3 sPg ≤ 60000
    by_cases c : P.length + 1 ≤ rl M sPg
    · rw [(g4 c).1]; exact h3
    · rw [(g5 (by omega)).1]; omega
  · rw [List.length_append, List.length_singleton] at hk
    show mI (sI (sI M3 401 (rdI M3 sPg) P.length (by8 b)) 11 0 95 _) 401 (rdI M3 sPg) k = _
    rw [mI_sI, if_neg (fun z => absurd z.1 (by decide)), mI_sI]
    by_cases ek : k = P.length
    · rw [if_pos ⟨rfl, rfl, ek⟩, ek, app1_end]
    · rw [if_neg (fun z => ek z.2.2), app1_get (by omega)]
      exact (g3 k (by omega)).trans (h4 k (by omega))
  · exact (g1.wr (s := sPg) hG.2 (by simp) rfl).fr (S := (78313333896166338081478806048485985733577752948823679670482275794471418502046897302983238693049068924389363695209190731526568260847252006945690997101771065280102077848917657286176887801468422595727246970551843904574743397382310334793263807827043428279459671575834754002826011810647105851782565591993660214877802985910820137061260874455246743472157547064759445550836037036470841545385300999267923619604001931241565972439877008746100577504826370057670550959869673235006287532699925930336939534820552392716672528569021849930622115502766937531321624813240723713600526009760044663765166256507818271365555285270957963699652276542389004616600969754244944491567088814062524738381262097979514969554227631988024830415941799361350408473520421996006198123053560677883714996543223915097343943403841310032771447860818436285946375820098466611789963502440399578466397187672790739405899233419783111458305153950331520807268684881914718944611439683918961102498347719710486714855288246322125414256259739752071168)) (Fr.wI rfl (Fr.rf _ _)) hG.1
  · exact Fr.wI rfl (Fr.wIa rfl rfl f)
end
/-! literals -/
def chr (b : Int32) : Int32 := ((b &&& (255 : Int32)).toUInt32 % 65536).toInt32
abbrev stW (k : Nat) : List Int32 := stB.getD k []
theorem st_len : ∀ k, k < 42 → stN.getD k 0 = (stW k).length := by decide +kernel
theorem st_chr : ∀ l ∈ stB, ∀ b ∈ l, chr b = b ∧ b.toUInt32.toUInt16.toUInt32.toInt32 = b := by decide +kernel
theorem st_at {k i : Nat} (h : i < (stW k).length) : chr ((stW k).getD i 0) = (stW k).getD i 0 ∧ ((stW k).getD i 0).toUInt32.toUInt16.toUInt32.toInt32 = (stW k).getD i 0 := by
  have h1 : stW k ∈ stB := by
    by_cases c : k < stB.length
    · exact getD_mem c
    · have : stW k = [] := by
        show stB.getD k [] = []
        rw [List.getD_eq_getElem?_getD, List.getElem?_eq_none (by omega)]; rfl
      rw [this] at h
      exact absurd h (by simp)
  exact st_chr _ h1 _ (getD_mem h)
section
variable {k i : Nat} {M : Mem} {Q : Int32 → Mem → Prop}
theorem c_slen (hk : k < 42) (hQ : Q (Int32.ofNat (stW k).length) M) : w_JString_length k Q M := by
  unfold w_JString_length w_JString_coder
  have hk' : k < nStr := hk
  refine ⟨hk', by omega, by rw [Nat.add_sub_cancel_left]; exact hk', hk', ?_⟩
  refine itn (by decide) ⟨hk', rfl, ?_⟩
  rw [Nat.add_sub_cancel_left, st_len k hk]
  have e : Int32.ofNat (stW k).length >>> ((0 : Int32) &&& 31) = Int32.ofNat (stW k).length := by
    have : ((0 : Int32) &&& 31) = 0 := by decide
    rw [this, Int32.shiftRight_zero]
  show Q (Int32.ofNat (stW k).length >>> ((0 : Int32) &&& 31)) M
  rw [e]; exact hQ
theorem c_char (hk : k < 42) (hi : i < (stW k).length) (hb : i < 1000000) (hQ : Q ((stW k).getD i 0) M) : w_JString_charAt k (Int32.ofNat i) Q M := by
  have hk' : k < nStr := hk
  obtain ⟨e1, e2⟩ := st_at hi
  have hl : (stW k).length ≤ 1000 := by
    have : ∀ k, k < 42 → (stW k).length ≤ 1000 := by decide +kernel
    exact this k hk
  unfold w_JString_charAt w_JString_isLatin1 w_JLatin_charAt w_JString_checkIndex w_JPre_checkIndex
  refine ⟨hk', itn (by decide) ⟨hk', itp rfl (itn (by decide) ⟨hk', by omega, by rw [Nat.add_sub_cancel_left]; exact hk', fun r => ?_⟩)⟩⟩
  rw [Nat.add_sub_cancel_left, st_len k hk]
  refine itn (nlt_oN (b := 0) (by omega) (by omega)) (itp (lt_oN hi (by omega)) ⟨by omega, hk', (vp_oN (by omega)).mpr hi, ?_⟩)
  rw [oN_tnc (k := i) (by omega)]
  show narrow .char (.int (chr ((stW k).getD i 0))) = .int (chr ((stW k).getD i 0)) ∧ narrow .char (.int (chr ((stW k).getD i 0))) = .int (chr ((stW k).getD i 0)) ∧ Q (chr ((stW k).getD i 0)) M
  rw [e1]
  have e3 : narrow .char (.int ((stW k).getD i 0)) = .int ((stW k).getD i 0) := by
    show Value.int _ = _
    rw [e2]
  exact ⟨e3, e3, hQ⟩
end
