/-! THE OPERATION world: a world of the works at its beginning -/
def L21 : LkS := (fun c => if c < 21 then 1 else 0, -2, -2, -2)
abbrev ln0 : Ln := (false, 0, 0, (0, 0, -2, 0), ([], ([], [], (0, []), 0, 0, 0, [], []), []), none, [])
/-- the machine at its beginning, k steps were counted -/
def ms0 (k : Nat) : Ms := (L21, (fun c => if c < 21 then 2 else 0), (fun _ => 0), [], (fun _ _ => 0), (0, 0, (fun _ => false), (fun _ => (none, 0, 0, 0, 0)), (fun _ => 0), (fun _ => (0, []))), [], (fun _ => ln0), (0, 50, 50), [], (fun _ => 0), k)
theorem W21_1 : ∀ c, c < 21 → A0[81 + c]? = some (gc W21 c).1 := by decide
theorem W21_p : ∀ c, c < 21 → (gc W21 c).2.1 = (if c = 0 then [] else if c = 1 then nThing else if c ≤ 10 then nFault else A0.getD 91 []) := by decide
theorem W21_m : ∀ c, c < 21 → (gc W21 c).2.2.2.2.2 = [(nMake, [], (-4, []), 0, 0, 0, [], [])] ∧ (gc W21 c).2.2.1 = [] ∧ (gc W21 c).2.2.2.1 = 0 ∧ (gc W21 c).2.2.2.2.1 = [] ∧ moff W21 c = c ∧ foff W21 c = 0 := fun c hc => by
  have : c = 0 ∨ c = 1 ∨ c = 2 ∨ c = 3 ∨ c = 4 ∨ c = 5 ∨ c = 6 ∨ c = 7 ∨ c = 8 ∨ c = 9 ∨ c = 10 ∨ c = 11 ∨ c = 12 ∨ c = 13 ∨ c = 14 ∨ c = 15 ∨ c = 16 ∨ c = 17 ∨ c = 18 ∨ c = 19 ∨ c = 20 := by omega
  rcases this with z | z | z | z | z | z | z | z | z | z | z | z | z | z | z | z | z | z | z | z | z <;> subst z <;> exact ⟨rfl, rfl, rfl, rfl, rfl, rfl⟩
theorem W21_n : W21.length = 21 ∧ allM W21 = List.replicate 21 (nMake, [], (-4, []), 0, 0, 0, [], []) ∧ allF W21 = [] := ⟨rfl, rfl, rfl⟩
theorem W21_ne : ∀ c, c < 21 → (gc W21 c).1 ≠ [] := by decide
theorem oszN_21 : ∀ n c, oszN W21 n c = 0
  | 0, _ => rfl
  | n + 1, c => by
    unfold oszN
    have : instF (gc W21 c).2.2.2.2.1 = 0 := by
      by_cases h : c < 21
      · rw [(W21_m c h).2.2.2.1]; rfl
      · have : gc W21 c = ([], [], [], 0, [], []) := by
          show W21.getD c _ = _
          rw [List.getD_eq_getElem?_getD, List.getElem?_eq_none (by rw [W21_n.1]; omega)]; rfl
        rw [this]; rfl
    rw [this]
    split
    · rfl
    · rw [oszN_21]
theorem osz_21 (c : Nat) : osz W21 c = 0 ∧ oszU W21 c = 0 := by
  refine ⟨oszN_21 _ _, ?_⟩
  unfold oszU
  split
  · rfl
  · exact oszN_21 _ _
/-- the rows of a world of the works, whatever they hold -/
def rmC (w B F : Nat) (M : Mem) : Prop := (((mL M 36 w = 51 ∧ mL M 37 w = 51 ∧ mL M 38 w = 204 ∧ ∀ f, 39 ≤ f → f ≤ 48 → mL M f w = 51) ∧ (mL M 49 w = 240 ∧ mL M 50 w = 240 ∧ mL M 51 w = 240 ∧ mL M 52 w = 240 ∧ mL M 511 w = 240 ∧ mL M 53 w = 240 ∧ mL M 54 w = 240)) ∧ ((∀ f, 55 ≤ f → f ≤ 65 → mL M f w = 381) ∧ mL M 211 (2 * w + 1) = 2286) ∧ cRm w M ∧ cSt w M) ∧ ((mL M 86 w = 51 ∧ mL M 85 w = 51) ∧ ((mL M 79 w = 801 ∧ mL M 80 w = 801 ∧ mL M 81 w = 801 ∧ mL M 512 w = 802 ∧ mL M 84 w = 4000) ∧ (mL M 301 (6 * w + 0) = 801 ∧ mL M 301 (6 * w + 1) = 801)) ∧ mL M 87 w = 2000 ∧ mL M 88 w = 62 ∧ (mL M 700 w = 3 ∧ ∀ t', t' < 3 → mR M 700 w t' = some (7, 3 * w + t'))) ∧ (∀ t, t < 3 → ((∀ f, 89 ≤ f → f ≤ 93 → mL M f (3 * w + t) = 91) ∧ mL M 94 (3 * w + t) = 3640 ∧ mL M 514 (3 * w + t) = 3640 ∧ mL M 95 (3 * w + t) = 6) ∧ mI M 7 (3 * w + t) 0 = Int32.ofNat t) ∧ ∃ (x : Nat → Nat) (n : Nat), (64 ≤ n ∧ (n = 64 ∨ n ≤ 2 * F) ∧ mS M ≤ B + 8 * n) ∧ (∀ k, k < 4 → mR M 6 w (22 + k) = some (301, x k) ∧ mL M 301 (x k) = n ∧ 24 ≤ x k ∧ (301, x k) ∈ mN M) ∧ ∀ k l, k < 4 → l < 4 → x k = x l → k = l
section
variable {A : List Nm} {W : List Cls} {w k C B F : Nat} {br : Int32} {nq nk np nh nr : Nat} {s : Ms} {M M' M0 : Mem} {Q : Mem → Prop}
theorem RA.room (h : RA A W w br nq nk np nh nr C B F s M) : rmC w B F M := by
  obtain ⟨⟨⟨⟨⟨⟨⟨⟨-, a36, -⟩, -⟩, ⟨a37, a38, a39, a40⟩, -⟩, ⟨⟨-, af, a41, a42⟩, -⟩, -⟩, ⟨⟨⟨a43, a44⟩, a55, a211⟩, -⟩, -, aR, -⟩, -⟩, aS⟩, ⟨⟨b1, -⟩, -⟩, ⟨⟨c1, -⟩, ⟨-, x, n, ⟨d1, d2, d3, d4⟩, d5, d6, -⟩⟩, ⟨⟨e1, -⟩, ⟨e2, -⟩, -⟩, f, g⟩ := h
  refine ⟨⟨⟨⟨a36, a37, a38, fun f h1 h2 => ?_⟩, af⟩, ⟨a55, a211⟩, aR, aS⟩, ⟨b1, c1, e1, e2, f⟩, fun t ht => ⟨(g t ht).1.1, (g t ht).1.2.1.1⟩, x, n, ⟨d2, d3, d4⟩, d5, d6⟩
  have : f = 39 ∨ f = 40 ∨ f = 41 ∨ f = 42 ∨ f = 43 ∨ f = 44 ∨ (45 ≤ f ∧ f ≤ 48) := by omega
  rcases this with z | z | z | z | z | z | z
  · subst z; exact a39
  · subst z; exact a40
  · subst z; exact a41
  · subst z; exact a42
  · subst z; exact a43
  · subst z; exact a44
  · exact aR.2.2.2.2.2.2 f z.1 z.2
theorem sbm5 : ∀ j, j < 65 → SBm.testBit (cd 5 j) = false := by decide
abbrev SWb : Nat := SBg ||| SBm ||| (59285610756987574930747813257859488867835745438818456372046226304845633640753883993614241119874636408378256840620818380980940719983396241318587095808438137419258133302458233264270962134483608300744715239307124598062040197105736484510885224362378570196423707757218038761104409441090232000415639782769781134355716606478153481462304105560457409035830162105131337937161521396359035535708312921714125201667183424906212565917876012533438908000950124202202800906089878742491944841878247446098049055238380691900326650717122268940857997679266353542587986819551714957282630732262425514250447375181780435162129078605444921262342144)
/-- a world begins -/
theorem c_wbegin (hR : rmC w B F M) (hnA : nA A) (hL : cLk M) (hC : mI M 6 w 35 = 1 ∨ (mI M 6 w 35 = 0 ∧ k ≤ C ∧ mI M 10 0 8 = Int32.ofNat (C - k)))
    (hQ : ∀ M', RA A W21 w br 0 0 0 0 4 C B F (ms0 k) M' → Fr SWb M M' → (∀ i j, i ≠ w → (∀ f ∈ bgL, mI M' f i j = mI M f i j) ∧ (j < 65 → mI M' 5 i j = mI M 5 i j) ∧ (j < 40 → mI M' 6 i j = mI M 6 i j) ∧ mI M' 512 i j = mI M 512 i j ∧ mI M' 88 i j = mI M 88 i j) → (∀ i j, (∀ t, t < 3 → i ≠ 3 * w + t) → mI M' 7 i j = mI M 7 i j) → Q M') : w_World_begin w br Q M := by
  obtain ⟨⟨⟨⟨l36, l37, l38, l39⟩, lF⟩, ⟨l55, l211⟩, hRm, hSt⟩, ⟨l86, lH, l87, l88, l7, r7⟩, hLn, x, n, hn, hx, hxi⟩ := hR
  unfold w_World_begin
  refine ⟨_, rfl, _, rfl, _, rfl, _, rfl, 22, ?_⟩
  obtain ⟨M4, hM4⟩ : ∃ M4, M4 = sI (sI (sI (sI (sI (sI (sI (sI (sI (sI (sI (sI M 5 w 1 br) 5 w 56 (-2)) 5 w 57 (-2)) 5 w 58 (-2)) 5 w 2 0) 5 w 17 0) 5 w 26 0) 5 w 39 0) 5 w 47 0) 5 w 49 0) 5 w 51 0) 5 w 53 4 := ⟨_, rfl⟩
  rw [← hM4]
  have f4 : Fr (59285610764692550058338630324373889324220795919991639144399583354954399978433792697077648679847149647194479389533754481589988449275213902451072690439774045335063024764478660540665156751828871489685108842897925430819848007126601605487489499755255027451125926964292778015666584185323054367928306661981365840354246362306565375345046145464404754367712472039258394929938313283046141883294204736555296347686859838800386385698587003365198019858592819758174823080297347088114275053498636594742540922277665462836359159900016170211140089803524262508369845200559315023046806352654205259055065822073357530827215645172804781984448512) M M4 := by rw [hM4]; exact Fr.wI rfl (Fr.wI rfl (Fr.wI rfl (Fr.wI rfl (Fr.wI rfl (Fr.wI rfl (Fr.wI rfl (Fr.wI rfl (Fr.wI rfl (Fr.wI rfl (Fr.wI rfl (Fr.wI rfl (Fr.rf _ _))))))))))))
  have v4 : (mI M4 5 w 1 = br ∧ mI M4 5 w 56 = -2 ∧ mI M4 5 w 57 = -2 ∧ mI M4 5 w 58 = -2) ∧ (mI M4 5 w 2 = 0 ∧ mI M4 5 w 17 = 0 ∧ mI M4 5 w 26 = 0 ∧ mI M4 5 w 39 = 0) ∧ mI M4 5 w 47 = 0 ∧ mI M4 5 w 49 = 0 ∧ mI M4 5 w 51 = 0 ∧ mI M4 5 w 53 = 4 := by
    rw [hM4]
    refine ⟨⟨?_, ?_, ?_, ?_⟩, ⟨?_, ?_, ?_, ?_⟩, ?_, ?_, ?_, ?_⟩ <;> simp only [mI_sI, mI_sR, mI_sJ, mR_sI, mL_sI, mL_sR, mR_sR, Nat.reduceEqDiff, and_false, false_and, if_false, and_self, true_and, and_true, if_true]
  have i4 : ∀ f i j, i ≠ w → mI M4 f i j = mI M f i j := fun f i j hne => by rw [hM4]; simp only [mI_sI, hne, false_and, and_false, if_false]
  have n4 : ∀ f i j, f ≠ 5 → mI M4 f i j = mI M f i j := fun f i j hne => by rw [hM4]; simp only [mI_sI, hne, false_and, if_false]
  clear hM4
  obtain ⟨⟨v1, v56, v57, v58⟩, ⟨v2, v17, v26, v39⟩, v47, v49, v51, v53⟩ := v4
  have m1 : ∀ f, 36 ≤ f → f ≤ 48 → f ≠ 38 → mL M4 f w = 51 := fun f h1 h2 h3 => by
    have hb : (59285610764692550058338630324373889324220795919991639144399583354954399978433792697077648679847149647194479389533754481589988449275213902451072690439774045335063024764478660540665156751828871489685108842897925430819848007126601605487489499755255027451125926964292778015666584185323054367928306661981365840354246362306565375345046145464404754367712472039258394929938313283046141883294204736555296347686859838800386385698587003365198019858592819758174823080297347088114275053498636594742540922277665462836359159900016170211140089803524262508369845200559315023046806352654205259055065822073357530827215645172804781984448512).testBit (5000 + f) = false := by
      have : f = 36 ∨ f = 37 ∨ f = 39 ∨ f = 40 ∨ f = 41 ∨ f = 42 ∨ f = 43 ∨ f = 44 ∨ f = 45 ∨ f = 46 ∨ f = 47 ∨ f = 48 := by omega
      rcases this with z | z | z | z | z | z | z | z | z | z | z | z <;> subst z <;> rfl
    rw [f4.L hb w]
    by_cases e6 : f = 36
    · subst e6; exact l36
    by_cases e7 : f = 37
    · subst e7; exact l37
    exact l39 f (by omega) h2
  have m2 : ∀ f, 55 ≤ f → f ≤ 65 → mL M4 f w = 381 := fun f h1 h2 => by
    have hb : (59285610764692550058338630324373889324220795919991639144399583354954399978433792697077648679847149647194479389533754481589988449275213902451072690439774045335063024764478660540665156751828871489685108842897925430819848007126601605487489499755255027451125926964292778015666584185323054367928306661981365840354246362306565375345046145464404754367712472039258394929938313283046141883294204736555296347686859838800386385698587003365198019858592819758174823080297347088114275053498636594742540922277665462836359159900016170211140089803524262508369845200559315023046806352654205259055065822073357530827215645172804781984448512).testBit (5000 + f) = false := by
      have : f = 55 ∨ f = 56 ∨ f = 57 ∨ f = 58 ∨ f = 59 ∨ f = 60 ∨ f = 61 ∨ f = 62 ∨ f = 63 ∨ f = 64 ∨ f = 65 := by omega
      rcases this with z | z | z | z | z | z | z | z | z | z | z <;> subst z <;> rfl
    rw [f4.L hb w]; exact l55 f h1 h2
  -- the classes
  have main : ∀ d c M1, 21 - c < d → c ≤ 21 → BgJ w c M4 M1 → (∀ M', BgJ w 21 M4 M' → w_Machine_begin w (fun M6 => Q M6) M') → w_World_begin_L65 w Q d (Int32.ofNat c) M1 := by
    intro d
    induction d with
    | zero => intro c M1 h; omega
    | succ d ih =>
      intro c M1 hd hc hJ hfin
      unfold w_World_begin_L65
      by_cases e : c = 21
      · subst e
        exact itp (by decide) (hfin M1 hJ)
      refine itn (nle_oN (a := 21) (by omega) (by omega)) ?_
      have st : ∀ s0, s0 = bgT 37 c → w_World_begin_j102 w Q (w_World_begin_L65 w Q d) (Int32.ofNat c) s0 M1 := fun s0 hs => bg_step (by omega) rfl hs hJ v17 v39 v51 m1 m2 (fun M' hJ' => ih (c + 1) M' (by omega) (by omega) hJ' hfin)
      have ebg : bgT 37 c = if c = 0 then -1 else if c = 1 then 81 else if c ≤ 10 then 82 else 91 := rfl
      by_cases c0 : c = 0
      · exact itp (by rw [c0]; rfl) (st _ (by rw [ebg, if_pos c0]))
      refine itn (ne_oN (b := 0) c0 (by omega) (by omega)) ?_
      by_cases c1 : c = 1
      · exact itp (by rw [c1]; rfl) (st _ (by rw [ebg, if_neg c0, if_pos c1]))
      refine itn (ne_oN (b := 1) c1 (by omega) (by omega)) ?_
      by_cases c10 : c ≤ 10
      · exact itp (le_oN (b := 10) c10 (by omega)) (st _ (by rw [ebg, if_neg c0, if_neg c1, if_pos c10]))
      · exact itn (nle_oN (b := 10) (by omega) (by omega)) (st _ (by rw [ebg, if_neg c0, if_neg c1, if_neg c10]))
  refine main 22 0 M4 (by omega) (by omega) ⟨fun f hf c hc => absurd hc (Nat.not_lt_zero c), ⟨v2, v26⟩, Fr.rf _ _, fun _ _ _ _ => rfl, fun _ _ _ => rfl, fun _ _ _ _ => rfl⟩ (fun M5 hJ => ?_)
  obtain ⟨hr, ⟨e2, e26⟩, f5, i5, h5, n5⟩ := hJ
  have f45 : Fr (SBg ||| (59285610756987574930747813257859488867835745438818456372046226304845633640753883993614241119874636408378256840620818380980940719983396241318587095808438137419258133302458233264270962134483608300744715239307124598062040197105736484510885224362378570196423707757218038761104409441090232000415639782769781134355716606478153481462304105560457409035830162105131337937161521396359035535708312921714125201667183424906212565917876012533438908000950124202202800906089878742491944841878247446098049055238380691900326650717122268940857997679266353542587986819551714957282630732262425514250447375181780435162129078605444921262342144)) M M5 := (f4.sub rfl).trans (f5.sub rfl)
  refine c_mbegin ((f45.L (f := 700) rfl w).trans l7) (fun t ht => (f45.Ra (f := 700) rfl rfl w t).trans (r7 t ht)) ((f45.L (f := 512) rfl w).trans lH.1.2.2.2.1) ((f45.L (f := 88) rfl w).trans l88) (fun M6 hB => ?_)
  obtain ⟨⟨⟨g3, g4, g5⟩, g6, g7, g21, g26, g14, g15, g29⟩, g512, g88, gL, f6, o6, o7⟩ := hB
  have ff : Fr SWb M M6 := (f45.sub rfl).trans (f6.sub rfl)
  have R : ∀ f ∈ bgL, ∀ c, c < 21 → mI M6 f w c = bgT f c := fun f hf c hc => by
    have : SBm.testBit f = false ∧ Nat.ble 20 f = true := by
      simp only [List.mem_cons, List.not_mem_nil, or_false] at hf
      rcases hf with z | z | z | z | z | z | z | z | z | z | z | z | z | z | z | z | z | z | z | z | z | z | z <;> subst z <;> exact ⟨rfl, rfl⟩
    rw [f6.Ia this.2 this.1]; exact hr f hf c hc
  have V : ∀ j, SBm.testBit (cd 5 j) = false → j ≠ 2 → j ≠ 26 → mI M6 5 w j = mI M4 5 w j := fun j a b c => (f6.I (f := 5) (k := j) a w).trans (h5 j b c)
  have LL : ∀ f, SWb.testBit (5000 + f) = false → mL M6 f w = mL M f w := fun f hf => ff.L hf w
  have c21 : ∀ {c : Nat}, c < W21.length → c < 21 := fun h => by rw [W21_n.1] at h; exact h
  have nm1 : ∀ c, c < 21 → nc A (gc W21 c).1 = Int32.ofNat (81 + c) ∧ (gc W21 c).1 ∈ A := fun c hc => hnA.2 _ _ (W21_1 c hc)
  have par1 : ∀ c, c < 21 → bgT 37 c = pcC A (gc W21 c).2.1 ∧ ((gc W21 c).2.1 = [] ∨ (gc W21 c).2.1 ∈ A) := fun c hc => by
    rw [W21_p c hc]
    have n1 := hnA.thing
    have n2 := hnA.fault
    have n3 := hnA.2 91 (A0.getD 91 []) rfl
    show (if c = 0 then (-1 : Int32) else if c = 1 then 81 else if c ≤ 10 then 82 else 91) = _ ∧ _
    unfold pcC
    by_cases c0 : c = 0
    · rw [if_pos c0, if_pos c0, if_pos rfl]; exact ⟨rfl, Or.inl rfl⟩
    by_cases c1 : c = 1
    · rw [if_neg c0, if_pos c1, if_neg c0, if_pos c1, if_neg (by decide), n1.1]; exact ⟨rfl, Or.inr n1.2⟩
    by_cases c2 : c ≤ 10
    · rw [if_neg c0, if_neg c1, if_pos c2, if_neg c0, if_neg c1, if_pos c2, if_neg (by decide), n2.1]; exact ⟨rfl, Or.inr n2.2⟩
    · rw [if_neg c0, if_neg c1, if_neg c2, if_neg c0, if_neg c1, if_neg c2, if_neg (by decide), n3.1]; exact ⟨rfl, Or.inr n3.2⟩
  have hM0 : ∀ c j, c < 21 → j < (gc W21 c).2.2.2.2.2.length → j = 0 ∧ gmt (gc W21 c) j = (nMake, [], (-4, []), 0, 0, 0, [], []) := fun c j hc hj => by
    have e := (W21_m c hc).1
    rw [e] at hj
    have : j = 0 := by simp at hj; exact hj
    subst this
    exact ⟨rfl, by show (gc W21 c).2.2.2.2.2.getD 0 _ = _; rw [e]; rfl⟩
  have hmk := hnA.make
  have hcCl : cCl A W21 w M6 := by
    refine ⟨⟨⟨by rw [W21_n.1]; exact (f6.I (f := 5) (k := 2) rfl w).trans e2, (LL 36 rfl).trans l36, by rw [W21_n.1]; omega, hnA.1⟩, fun c hc => ?_⟩, ⟨(LL 37 rfl).trans l37, (LL 38 rfl).trans l38, (LL 39 rfl).trans (l39 39 (by omega) (by omega)), (LL 40 rfl).trans (l39 40 (by omega) (by omega))⟩, fun c hc => ?_⟩
    · have hc := c21 hc
      rw [R 36 (by decide) c hc, (nm1 c hc).1]; exact ⟨rfl, (nm1 c hc).2⟩
    · have hc := c21 hc
      obtain ⟨-, w2, w3, -⟩ := W21_m c hc
      rw [R 37 (by decide) c hc, R 39 (by decide) c hc, R 40 (by decide) c hc, w2, w3]
      exact ⟨⟨(par1 c hc).1, (par1 c hc).2, W21_ne c hc⟩, ⟨rfl, by simp, fun i hi => absurd hi (by simp)⟩, rfl⟩
  have hcFl : cFl A W21 w M6 := by
    refine ⟨⟨by rw [W21_n.2.2]; exact (V 17 rfl (by decide) (by decide)).trans v17, ⟨(LL 49 rfl).trans lF.1, (LL 50 rfl).trans lF.2.1, (LL 51 rfl).trans lF.2.2.1, (LL 52 rfl).trans lF.2.2.2.1, (LL 511 rfl).trans lF.2.2.2.2.1, (LL 53 rfl).trans lF.2.2.2.2.2.1, (LL 54 rfl).trans lF.2.2.2.2.2.2⟩, (LL 41 rfl).trans (l39 41 (by omega) (by omega)), (LL 42 rfl).trans (l39 42 (by omega) (by omega))⟩, fun c hc => ?_, fun i hi => absurd hi (by rw [W21_n.2.2]; simp)⟩
    have hc := c21 hc
    obtain ⟨-, -, -, w4, -, w6⟩ := W21_m c hc
    rw [R 41 (by decide) c hc, R 42 (by decide) c hc, w4, w6]
    exact ⟨⟨rfl, rfl⟩, by simp, fun _ => rfl⟩
  have hcMs : cMs A W21 w 0 0 0 0 0 4 M6 := by
    refine ⟨⟨⟨(LL 43 rfl).trans (l39 43 (by omega) (by omega)), (LL 44 rfl).trans (l39 44 (by omega) (by omega))⟩, fun f h1 h2 => ?_, (ff.L (f := 211) rfl _).trans l211⟩, fun c hc => ?_, fun c hc j hj => ?_⟩
    · have hb : SWb.testBit (5000 + f) = false := by
        have : f = 55 ∨ f = 56 ∨ f = 57 ∨ f = 58 ∨ f = 59 ∨ f = 60 ∨ f = 61 ∨ f = 62 ∨ f = 63 ∨ f = 64 ∨ f = 65 := by omega
        rcases this with z | z | z | z | z | z | z | z | z | z | z <;> subst z <;> rfl
      rw [LL f hb]; exact l55 f h1 h2
    · have hc := c21 hc
      obtain ⟨w1, -, -, -, w5, -⟩ := W21_m c hc
      rw [R 43 (by decide) c hc, R 44 (by decide) c hc, w5, w1]
      refine ⟨⟨rfl, ?_⟩, by simp, fun _ => rfl⟩
      split <;> rfl
    · have hc := c21 hc
      obtain ⟨j0, em⟩ := hM0 c j hc hj
      obtain ⟨-, -, -, -, w5, -⟩ := W21_m c hc
      rw [em, w5, j0, Nat.add_zero]
      refine ⟨⟨R 55 (by decide) c hc, ⟨(R 56 (by decide) c hc).trans hmk.1.symm, hmk.2⟩, R 57 (by decide) c hc, ⟨R 58 (by decide) c hc, by simp, fun i hi => absurd hi (by simp)⟩, ⟨R 59 (by decide) c hc, fun z => absurd z (by decide), Or.inr (Or.inr (Or.inl rfl))⟩, R 60 (by decide) c hc, R 61 (by decide) c hc⟩, 0, 0, ⟨R 62 (by decide) c hc, R 63 (by decide) c hc, by simp, by simp, R 64 (by decide) c hc, R 65 (by decide) c hc, by simp, by simp⟩, fun i hi => absurd hi (by simp), fun i hi => absurd hi (by simp)⟩
  have hcCt : cCt W21 w 0 0 0 0 0 4 M6 := by
    refine ⟨by rw [W21_n.2.1, List.length_replicate]; exact (f6.I (f := 5) (k := 26) rfl w).trans e26, (V 39 rfl (by decide) (by decide)).trans v39, (V 47 rfl (by decide) (by decide)).trans v47, (V 49 rfl (by decide) (by decide)).trans v49, (V 51 rfl (by decide) (by decide)).trans v51, (V 53 rfl (by decide) (by decide)).trans v53⟩
  have hcRm : cRm w M6 := by
    obtain ⟨q1, q2, q3, q4, q5, q6, q7⟩ := hRm
    refine ⟨fun f h1 h2 => ?_, (LL 73 rfl).trans q2, (LL 74 rfl).trans q3, (LL 75 rfl).trans q4, (LL 76 rfl).trans q5, (ff.L (f := 211) rfl _).trans q6, fun f h1 h2 => ?_⟩
    · have hb : SWb.testBit (5000 + f) = false := by
        have : f = 66 ∨ f = 67 ∨ f = 68 ∨ f = 69 ∨ f = 70 ∨ f = 71 ∨ f = 72 := by omega
        rcases this with z | z | z | z | z | z | z <;> subst z <;> rfl
      rw [LL f hb]; exact q1 f h1 h2
    · have hb : SWb.testBit (5000 + f) = false := by
        have : f = 45 ∨ f = 46 ∨ f = 47 ∨ f = 48 := by omega
        rcases this with z | z | z | z <;> subst z <;> rfl
      rw [LL f hb]; exact q7 f h1 h2
  have hCW : CWx A W21 w br 0 0 0 0 4 M6 := ⟨⟨hcCl, hcFl, (V 1 rfl (by decide) (by decide)).trans v1⟩, hcMs, hcCt, hcRm, by omega⟩
  have hLK : LKw A W21 w br 0 0 0 0 4 (zL (ms0 k)) M6 := by
    refine ⟨hCW, fun c hc => ?_, ⟨(V 56 rfl (by decide) (by decide)).trans v56, (V 57 rfl (by decide) (by decide)).trans v57, (V 58 rfl (by decide) (by decide)).trans v58⟩, fun c hc _ => ?_, ?_⟩
    · have hc := c21 hc
      rw [R 45 (by decide) c hc]
      show (1 : Int32) = if c < 21 then 1 else 0
      rw [if_pos hc]
    · have hc := c21 hc
      obtain ⟨-, -, -, w4, -⟩ := W21_m c hc
      refine ⟨by rw [(osz_21 c).2]; exact R 47 (by decide) c hc, by rw [(osz_21 c).1]; exact R 48 (by decide) c hc, fun f hf => absurd hf (by rw [w4]; simp)⟩
    · obtain ⟨k1, k2, k3, k4, k5, k6⟩ := hL
      exact ⟨(ff.L (f := 515) rfl 0).trans k1, (ff.L (f := 97) rfl 0).trans k2, (ff.L (f := 31) rfl 0).trans k3, (ff.L (f := 32) rfl 0).trans k4, (ff.I (f := 4) (k := 9) rfl 0).trans k5, (ff.I (f := 4) (k := 10) rfl 0).trans k6⟩
  have hSt6 : cSt w M6 := hSt.fr ff
  refine hQ M6 ⟨⟨hLK, hSt6⟩, ⟨⟨⟨(LL 86 rfl).trans l86.1, (LL 85 rfl).trans l86.2⟩, fun c hc => ?_, g26, fun i hi => absurd hi (Nat.not_lt_zero i)⟩, fun c f hc hf => ?_⟩, ⟨⟨⟨⟨(LL 79 rfl).trans lH.1.1, (LL 80 rfl).trans lH.1.2.1, (LL 81 rfl).trans lH.1.2.2.1, (LL 512 rfl).trans lH.1.2.2.2.1, (LL 84 rfl).trans lH.1.2.2.2.2⟩, (ff.L (f := 301) rfl _).trans lH.2.1, (ff.L (f := 301) rfl _).trans lH.2.2⟩, ⟨g6, g7⟩, fun r hr => g512 r hr, fun r hr => absurd hr (show ¬ false = true by decide), fun i hi => absurd hi (Nat.not_lt_zero i), 1, 0, ⟨g14, g15⟩, ⟨by omega, by omega, by omega⟩, fun r h1 h2 => by omega, fun r hr => absurd hr (show ¬ false = true by decide)⟩, g21, x, n, ⟨Nat.zero_le _, hn.1, hn.2.1, by rw [ff.ms rfl]; exact hn.2.2⟩, fun q hq => ?_, hxi, fun i hi => absurd hi (Nat.not_lt_zero i)⟩, ⟨⟨(LL 87 rfl).trans l87, g29, fun i hi => absurd hi (Nat.not_lt_zero i)⟩, ⟨(LL 88 rfl).trans l88, fun o ho => g88 o ho, ?_⟩, g3, g4, g5⟩, ⟨(LL 700 rfl).trans l7, fun t ht => (ff.Ra (f := 700) rfl rfl w t).trans (r7 t ht)⟩, fun t ht => ?_⟩ ff (fun i j hne => ⟨fun f hf => ?_, fun hj => ?_, fun hj => ?_, ?_, ?_⟩) (fun i j hij => ?_)
  · have hc := c21 hc
    rw [R 46 (by decide) c hc]
    show (2 : Int32) = (if c < 21 then 2 else 0) ∧ ((if c < 21 then (2 : Int32) else 0) = 1 → _)
    rw [if_pos hc]
    exact ⟨rfl, fun z => absurd z (by decide)⟩
  · have hc := c21 hc
    obtain ⟨-, -, -, w4, -⟩ := W21_m c hc
    exact absurd hf (by rw [w4]; simp)
  · obtain ⟨y1, y2, y3, y4⟩ := hx q hq
    have hq' : q = 0 ∨ q = 1 ∨ q = 2 ∨ q = 3 := by omega
    have hr6 : mR M6 6 w (22 + q) = mR M 6 w (22 + q) := by
      rcases hq' with z | z | z | z <;> subst z <;> exact ff.R (f := 6) rfl w
    exact ⟨hr6.trans y1, (ff.L (f := 301) rfl _).trans y2, y3, ff.N y4⟩
  · rcases hC with z | ⟨z1, z2, z3⟩
    · exact Or.inl ((ff.I (f := 6) (k := 35) rfl w).trans z)
    · exact Or.inr ⟨(ff.I (f := 6) (k := 35) rfl w).trans z1, z2, (ff.I (f := 10) (k := 8) rfl 0).trans z3⟩
  · obtain ⟨⟨y1, y2, y3, y4⟩, y5⟩ := hLn t ht
    obtain ⟨⟨⟨c1, c2, c3, c4, c5⟩, c6, c7, c8, c9, c10, c11⟩, h0⟩ := gL t ht
    refine ⟨⟨⟨fun f h1 h2 => ?_, (ff.L (f := 94) rfl _).trans y2, (ff.L (f := 514) rfl _).trans y3, (ff.L (f := 95) rfl _).trans y4⟩, ⟨h0.trans ((f45.I (f := 7) (k := 0) rfl _).trans y5), c3, c4, c5⟩, ⟨c6, c7, c8, c9⟩, ⟨c10, c11⟩, fun z => absurd z (show ¬ (0 : Nat) = 1 by decide)⟩, ⟨c1, c2, trivial⟩, fun z => absurd z (show ¬ (0 : Nat) = 1 by decide)⟩
    have hb : SWb.testBit (5000 + f) = false := by
      have : f = 89 ∨ f = 90 ∨ f = 91 ∨ f = 92 ∨ f = 93 := by omega
      rcases this with z | z | z | z | z <;> subst z <;> rfl
    rw [ff.L hb]; exact y1 f h1 h2
  · have : SBm.testBit f = false ∧ Nat.ble 20 f = true := by
      simp only [List.mem_cons, List.not_mem_nil, or_false] at hf
      rcases hf with z | z | z | z | z | z | z | z | z | z | z | z | z | z | z | z | z | z | z | z | z | z | z <;> subst z <;> exact ⟨rfl, rfl⟩
    rw [f6.Ia this.2 this.1, i5 f i j hne, i4 f i j hne]
  · rw [f6.I (f := 5) (k := j) (sbm5 j hj), i5 5 i j hne, i4 5 i j hne]
  · rw [(o6 i j hne).1 hj, i5 6 i j hne, i4 6 i j hne]
  · rw [(o6 i j hne).2.1, i5 512 i j hne, i4 512 i j hne]
  · rw [(o6 i j hne).2.2, i5 88 i j hne, i4 88 i j hne]
  · rw [o7 i j hij, n5 7 i j (by decide), n4 7 i j (by decide)]
end
