/-! OPERATIONS outcome, meets, finds, in the twin -/
abbrev RTr : Nat := (152410047341137523802350406124314561692112853812306852163685092834383172950454135113000915351651997348539232840896021902161040648284797274479218476419386012884578870123745199746680962408028694146845281662517514897557766147394179006186651148180993235626493670998540925099193915206497855310902035397566423169583706385218986009923945560948105268747491955457499770465073647615742272564064833446999116385782681029302709057161302451653279803570753555678261340679986269098987075869434474063008556147385409735446654837404000582809195396756325482479104813647971910504465228041960724830305944717966670958500910922630058988183287402398709969460347332310629082828168511878681592500285196053112672755258259640886031732482778464207787595629540414702449833158231067787751168566564098277633576068628012172858752685827654540813935714452468900934225894986658585281519955724089215619680809768427052154527995302607782874196522759767915020628615115108857224235286606584253941457254667532046078291312254926523142213078089728)
noncomputable def fnK (L : Trl) : Nat → Int32
  | 0 => 0
  | k + 1 => fnK L k ||| (if fnB L (Int32.ofNat (2 ^ k)) = true then Int32.ofNat (2 ^ k) else 0)
/-- what was looked for is remembered -/
def tLo (T : List Trl) (M : Mem) : Prop := (mL M 522 0 = 40 ∧ mL M 123 0 = 40 ∧ mL M 124 0 = 40 ∧ mL M 402 2 = 2408) ∧ ∀ t, t < T.length → mI M 522 0 t ≠ 0 → mI M 123 0 t = metN (gTr T t) ∧ mI M 124 0 t = fnK (gTr T t) 8
def MdT (G : List Sl) (U1 : List (List Kd × Kd)) (BB A : List Nm) (S : List Sg) (B F : Nat) (T : List Trl) (M : Mem) : Prop := MdB G U1 BB A S B F M ∧ (tTx (T.map txt) M ∧ tLo T M) ∧ ∀ L ∈ T, TrO L ∧ nmL BB L ∧ ulL U1 L
section
variable {G : List Sl} {U1 : List (List Kd × Kd)} {BB A : List Nm} {S : List Sg} {B F w t b : Nat} {T : List Trl} {L : Trl} {M M' : Mem} {Q : Int32 → Mem → Prop} {Q' X : Mem → Prop} {a c d v : Int32}
theorem rmT.fr (h : rmT G w F M) (hx : Gx G w) (hf : Fr RTr M M') : rmT G w F M' := by
  obtain ⟨e, -, -⟩ := hf.ml (by rfl)
  obtain ⟨a, ⟨q1, q2, q3, q4, q5, q6⟩, c, d, g⟩ := h
  refine ⟨by rw [e]; exact a, ⟨by rw [e]; exact q1, by rw [e]; exact q2, by rw [e]; exact q3, by rw [e]; exact q4, by rw [e]; exact q5, fun t ht => ?_⟩, fun t ht => by rw [e]; exact c t ht, fun y hy => ?_, fun y hy => ⟨(g y hy).1, ?_⟩⟩
  · rw [hf.Ra (f := 704) rfl rfl]; exact q6 t ht
  · rw [(rd_fr hf hx.1 rfl (hx.2.2.2.1 y hy)).2]; exact d y hy
  · rw [(rd_fr hf hx.1 rfl (g y hy).1).2]; exact (g y hy).2
theorem MdB.fr (h : MdB G U1 BB A S B F M) (hf : Fr RTr M M') : MdB G U1 BB A S B F M' := by
  obtain ⟨⟨hx, hR, hTG, hV⟩, ⟨hKs, hA0, hAB, hBl⟩, ⟨hgl, hmS, hXb, hrow⟩, hw3, h113, h703⟩ := h
  obtain ⟨r1, r2⟩ := hf.rsl hx.1
  refine ⟨⟨hx, hR.fr hx hf, ((GF.rf hTG).fr (X := []) hf hx.1).1, hV.fr hf hx⟩, ⟨hKs.fr hf, hA0, hAB, hBl⟩, ⟨⟨⟨(hf.L (f := 111) rfl 0).trans hgl.1.1, (hf.L (f := 212) rfl 0).trans hgl.1.2.1, (hf.L (f := 112) rfl 0).trans hgl.1.2.2⟩, (hf.I (f := 11) (k := 77) rfl 0).trans hgl.2⟩, ⟨by rw [r1, r2]; exact hmS.1, by rw [hf.L (f := 110) rfl]; exact hmS.2.1, by rw [hf.L (f := 110) rfl]; exact hmS.2.2⟩, hXb.fr hf hx.1 hx.2.2.2.2.1, by rw [rl_keep hf hTG hx.2.2.2.2.2]; exact hrow⟩, ⟨(hf.L (f := 411) rfl 0).trans hw3.1, (hf.L (f := 107) rfl 0).trans hw3.2.1, (hf.L (f := 108) rfl 0).trans hw3.2.2⟩, (hf.L (f := 113) rfl 0).trans h113, (hf.L (f := 703) rfl 0).trans h703.1, (hf.Ra (f := 703) rfl rfl 0 3).trans h703.2⟩
theorem tTx.fr {R : Nat} {Y : List (List Int32)} (h : tTx Y M) (hf : Fr R M M') (hS : okF R [cd 11 121, 122, 412, 5122, 5412] = true := by rfl) : tTx Y M' := by
  have o := fun {b : Nat} (hb : b ∈ [cd 11 121, 122, 412, 5122, 5412]) => okF_in hS hb
  obtain ⟨⟨e1, h40⟩, ⟨l1, l2⟩, ht⟩ := h
  refine ⟨⟨(hf.I (f := 11) (k := 121) (o (by simp)) 0).trans e1, h40⟩, ⟨(hf.L (f := 122) (o (by simp)) 0).trans l1, (hf.L (f := 412) (o (by simp)) 0).trans l2⟩, fun t h1 => ?_⟩
  rw [hf.Ia (f := 122) rfl (o (by simp))]
  exact ⟨(ht t h1).1, fun i h2 => by rw [hf.Ia (f := 412) rfl (o (by simp))]; exact (ht t h1).2 i h2⟩
theorem tLo.fr {R : Nat} (h : tLo T M) (hf : Fr R M M') (hS : okF R [522, 123, 124, 5522, 5123, 5124, 5402] = true := by rfl) : tLo T M' := by
  have o := fun {b : Nat} (hb : b ∈ [522, 123, 124, 5522, 5123, 5124, 5402]) => okF_in hS hb
  refine ⟨⟨(hf.L (f := 522) (o (by simp)) 0).trans h.1.1, (hf.L (f := 123) (o (by simp)) 0).trans h.1.2.1, (hf.L (f := 124) (o (by simp)) 0).trans h.1.2.2.1, (hf.L (f := 402) (o (by simp)) 2).trans h.1.2.2.2⟩, fun t h1 h3 => ?_⟩
  rw [hf.Ia (f := 522) rfl (o (by simp))] at h3
  rw [hf.Ia (f := 123) rfl (o (by simp)), hf.Ia (f := 124) rfl (o (by simp))]
  exact h.2 t h1 h3
theorem MdT.n (h : MdT G U1 BB A S B F T M) : mI M 11 0 121 = Int32.ofNat T.length ∧ T.length ≤ 40 := by
  have := h.2.1.1.1
  rw [List.length_map] at this; exact this
theorem ct_mdTr (h : MdT G U1 BB A S B F T M) (h0 : (a < 0 ∨ Int32.ofNat T.length ≤ a) → Q 0 M) (h1 : ∀ i, i < T.length → a = Int32.ofNat i → a.toNatClampNeg = i → ¬ (a < 0 ∨ Int32.ofNat T.length ≤ a) → Q 1 M) : w_Model_isTrial 0 a Q M := ct_isTrial h.n.1 h.n.2 h0 h1
/-- a trial is drafted -/
theorem ct_draft (h : MdT G U1 BB A S B F T M) (ht : t < T.length) (hQ : ∀ M', MdT G U1 BB A S B F T M' → dfT (gTr T t) M' → Fr (21022075495297667614751928455960893690002438624272829115943839442806697504563795810911475838925470847093888365073324129408307927215659038831381730042108594316069968993921710440066615373648013489084747192164702790165341729959309681053742435982348771802000052373069440771396425769052441514403521407536728128889781028801132578826022062769352911176463634450170163296745842783117938980939247969435740743001570797837710407965981817426675496744371408847255540644683853435409907956707419528276220597673982859710791069009098407760090115938669912137943834639403188507830370601269798039898169080981489165239144575694919684542547605895094295783643386486022949610288499640395373040658654793126647779511115211120505631892026006581024605674375718403810353971988226672991384150071118735359260805836448334210284378550299021477624961784815505849836613829000945773667835109750063160924999729813089929274408481335441801762749345552844581051831781871263333513232832871977532756648899792994333179016393727707476441916506112) M M' → Q' M') : w_Model_draftTrial 0 (Int32.ofNat t) Q' M := by
  unfold w_Model_draftTrial
  obtain ⟨hB, ⟨hX, hLo⟩, hT⟩ := h
  obtain ⟨⟨e1, h40⟩, ⟨l1, l2⟩, hx⟩ := id hX
  rw [List.length_map] at h40
  obtain ⟨⟨x1, x2⟩, x3⟩ := hx t (by rw [List.length_map]; exact ht)
  rw [gTr_map ht] at x1 x2 x3
  have e123 : mI (sI M 11 0 123 (Int32.ofNat (txt (gTr T t)).length)) 11 0 123 = Int32.ofNat (txt (gTr T t)).length := by rw [mI_sI, if_pos ⟨rfl, rfl, rfl⟩]
  rw [oN_tnc (k := t) (by omega), x1, e123, lit32 1204, oN_mul, oN_tnc (k := 1204 * t) (by omega), oN_tnc (k := (txt (gTr T t)).length) (by omega), show (0 : Int32).toNatClampNeg = 0 from rfl]
  refine ⟨by rw [l1]; exact (vp_oN (by omega)).mpr (by omega), nlt_oN (b := 0) (by omega) (by omega), by decide, nlt_oN (b := 0) (by omega) (by omega), ?_, ?_, _, rfl, ?_⟩
  · show _ ≤ mL M 412 0
    rw [l2]; omega
  · show _ ≤ mL M 402 2
    rw [hLo.1.2.2.2]; omega
  have f1 : Fr (21022075495297667614751928455960893690002438624272829115943839442806697504563795810911475838925470847093888365073324129408307927215659038831381730042108594316069968993921710440066615373648013489084747192164702790165341729959309681053742435982348771802000052373069440771396425769052441514403521407536728128889781028801132578826022062769352911176463634450170163296745842783117938980939247969435740743001570797837710407965981817426675496744371408847255540644683853435409907956707419528276220597673982859710791069009098407760090115938669912137943834639403188507830370601269798039898169080981489165239144575694919684542547605895094295783643386486022949610288499640395373040658654793126647779511115211120505631892026006581024605674375718403810353971988226672991384150071118735359260805836448334210284378550299021477624961784815505849836613829000945773667835109750063160924999729813089929274408481335441801762749345552844581051831781871263333513232832871977532756648899792994333179016393727707476441916506112) M (cpI (sI M 11 0 123 (Int32.ofNat (txt (gTr T t)).length)) 412 0 (1204 * t) 402 2 0 (txt (gTr T t)).length) := Fr.wcp rfl rfl (Fr.wI rfl (Fr.rf _ _))
  refine hQ _ ⟨hB.fr (f1.sub rfl), ⟨hX.fr f1, hLo.fr f1⟩, hT⟩ ⟨⟨hLo.1.2.2.2, fun k hk => ?_⟩, ?_⟩ f1
  · rw [mI_cpI, if_pos ⟨rfl, rfl⟩, if_pos ⟨Nat.zero_le _, by omega⟩, Nat.sub_zero, mI_sI, if_neg (fun z => absurd z.1 (by decide))]
    exact x3 k hk
  · rw [mI_cpI, if_neg (fun z => absurd z.1 (by decide))]; exact e123
/-- what is drafted is tried, among trials -/
theorem ct_tryT (h : MdT G U1 BB A S B F T M) (hL : TrO L) (hnm : nmL BB L) (hul : ulL U1 L) (hD : dfT L M) (hF : F < 1000000) (hCF : 601 < F)
    (hQ : ∀ A' S' M', A <+: A' → S <+: S' → MdT G U1 BB A' S' B F T M' → dfT L M' → Fr F_Model_tryDraft M M' → mI M' 11 0 124 = (outS L v).1 → mI M' 11 0 125 = (outS L v).2 → Q' M') : w_Model_tryDraft 0 v Q' X M := by
  obtain ⟨hB, ⟨hX, hLo⟩, hT⟩ := h
  exact ct_try hB hL (nmT_of hL hnm) (ulT_of hL hul) hD hF hCF (fun A' S' M' p1 p2 p3 p4 hf o1 o2 => hQ A' S' M' p1 p2 ⟨p3, ⟨hX.fr hf, hLo.fr hf⟩, hT⟩ p4 hf o1 o2)
theorem ct_woutcome (h : MdT G U1 BB A S B F T M) (hF : F < 1000000) (hCF : 601 < F) (hQ : ∀ A' S' M', A <+: A' → S <+: S' → MdT G U1 BB A' S' B F T M' → Q (outO T a c d) M') : w_Model_outcome 0 a c d Q X M := by
  unfold outO at hQ
  unfold w_Model_outcome
  refine ct_mdTr h (fun z => itp rfl (by have := hQ A S M List.prefix_rfl List.prefix_rfl h; rw [if_pos z] at this; exact this)) (fun i hi ea ea2 z => itn (by decide) ?_)
  rw [if_neg z, ea2] at hQ
  by_cases c1 : c < 0
  · exact itp c1 (by have := hQ A S M List.prefix_rfl List.prefix_rfl h; rw [if_pos (Or.inl c1)] at this; exact this)
  refine itn c1 ?_
  by_cases c2 : 255 < c
  · exact itp c2 (by have := hQ A S M List.prefix_rfl List.prefix_rfl h; rw [if_pos (Or.inr c2)] at this; exact this)
  refine itn c2 ?_
  rw [if_neg (fun z => z.elim c1 c2)] at hQ
  by_cases c3 : d < 0
  · exact itp c3 (by have := hQ A S M List.prefix_rfl List.prefix_rfl h; rw [if_pos (Or.inl c3)] at this; exact this)
  refine itn c3 ?_
  by_cases c4 : 1 < d
  · exact itn (Int32.not_le.mpr c4) (by have := hQ A S M List.prefix_rfl List.prefix_rfl h; rw [if_pos (Or.inr c4)] at this; exact this)
  refine itp (Int32.not_lt.mp c4) ?_
  rw [if_neg (fun z => z.elim c3 c4)] at hQ
  rw [ea]
  obtain ⟨y1, y2, y3⟩ := h.2.2 _ (gTr_mem hi)
  refine ct_draft h hi (fun M1 h1 d1 _ => ct_tryT h1 y1 y2 y3 d1 hF hCF (fun A' S' M' p1 p2 p3 _ _ o1 o2 => ?_))
  have q := hQ A' S' M' p1 p2 p3
  by_cases c0 : d = 0
  · rw [if_pos c0] at q
    refine itp c0 ?_
    rw [o1]; exact q
  · rw [if_neg c0] at q
    refine itn c0 ?_
    rw [o2]; exact q
theorem ct_wfinds (h : MdT G U1 BB A S B F T M) (hF : F < 1000000) (hCF : 601 < F) (hQ : ∀ A' S' M', A <+: A' → S <+: S' → MdT G U1 BB A' S' B F T M' → Q (finO T a c) M') : w_Model_finds 0 a c Q X M := by
  unfold finO at hQ
  unfold w_Model_finds
  refine ct_mdTr h (fun z => itp rfl (by have := hQ A S M List.prefix_rfl List.prefix_rfl h; rw [if_pos z] at this; exact this)) (fun i hi ea ea2 z => itn (by decide) ?_)
  rw [if_neg z, ea2] at hQ
  by_cases c1 : c < 0
  · exact itp c1 (by have := hQ A S M List.prefix_rfl List.prefix_rfl h; rw [if_pos (Or.inl c1)] at this; exact this)
  refine itn c1 ?_
  by_cases c2 : 255 < c
  · exact itn (Int32.not_le.mpr c2) (by have := hQ A S M List.prefix_rfl List.prefix_rfl h; rw [if_pos (Or.inr c2)] at this; exact this)
  refine itp (Int32.not_lt.mp c2) ?_
  rw [if_neg (fun z => z.elim c1 c2)] at hQ
  obtain ⟨n, hn, en, -⟩ := in256 (fun z => z.elim c1 c2)
  rw [en] at hQ ⊢
  rw [ea]
  obtain ⟨y1, y2, y3⟩ := h.2.2 _ (gTr_mem hi)
  refine ct_draft h hi (fun M1 h1 d1 _ => ct_tryT h1 y1 y2 y3 d1 hF hCF (fun A1 S1 M2 p1 p2 p3 d2 _ o1 o2 => ct_tryT p3 y1 y2 y3 d2 hF hCF (fun A2 S2 M3 p4 p5 p6 _ _ o3 o4 => ?_)))
  have q := hQ A2 S2 M3 (p1.trans p4) (p2.trans p5) p6
  generalize ea : outS (gTr T i) 0 = oa at o1 o2
  generalize eb : outS (gTr T i) (Int32.ofNat n) = ob at o3 o4
  obtain ⟨f1, f2⟩ := fnB_eq eb ea
  rw [o1, o2, o3, o4]
  by_cases c1 : ob.1 = oa.1
  · refine itp c1 ?_
    by_cases c2 : ob.2 = oa.2
    · rw [f1 ⟨c1, c2⟩] at q
      exact itp c2 q
    · rw [f2 (fun z => c2 z.2)] at q
      exact itn c2 q
  · rw [f2 (fun z => c1 z.1)] at q
    exact itn c1 q
theorem shl_k : ∀ k, k < 8 → (1 : Int32) <<< (Int32.ofNat k &&& 31) = Int32.ofNat (2 ^ k) := by decide
/-- what a trial meets and finds is looked for -/
theorem ct_look (h : MdT G U1 BB A S B F T M) (ht : t < T.length) (hF : F < 1000000) (hCF : 601 < F) (hQ : ∀ A' S' M', A <+: A' → S <+: S' → MdT G U1 BB A' S' B F T M' → mI M' 522 0 t ≠ 0 → (∀ i, i ≠ t → mI M' 522 0 i = mI M 522 0 i) → Q' M') : w_Model_look 0 (Int32.ofNat t) Q' X M := by
  obtain ⟨y1, y2, y3⟩ := h.2.2 _ (gTr_mem ht)
  have h40 := h.n.2
  unfold w_Model_look
  rw [oN_tnc (k := t) (by omega)]
  refine ⟨by rw [h.2.1.2.1.1]; exact (vp_oN (by omega)).mpr (by omega), ?_⟩
  by_cases c0 : mI M 522 0 t = 0
  · refine itp c0 (ct_draft h ht (fun M1 h1 d1 f1 => ct_tryT h1 y1 y2 y3 d1 hF hCF (fun A1 S1 M2 p1 p2 p3 d2 f2 o1 o2 => ?_)))
    have em : metN (gTr T t) = (if (outS (gTr T t) 0).1 = 1 then (outS (gTr T t) 0).2 else if (outS (gTr T t) 0).1 = 4 then (outS (gTr T t) 0).2 / 100 else 0) := metN_eq _
    generalize ea : outS (gTr T t) 0 = oa at o1 o2 em
    rw [o1, o2]
    have e522 : ∀ i, mI M2 522 0 i = mI M 522 0 i := fun i => (f2.Ia (f := 522) rfl rfl 0 i).trans (f1.Ia (f := 522) rfl rfl 0 i)
    -- the loop over breaks
    have loop : ∀ n k A3 S3 M3, k ≤ 8 → 8 - k < n → A <+: A3 → S <+: S3 → MdT G U1 BB A3 S3 B F T M3 → dfT (gTr T t) M3 → (∀ i, mI M3 522 0 i = mI M 522 0 i) → mI M3 123 0 t = metN (gTr T t) → mI M3 124 0 t = fnK (gTr T t) k → w_Model_look_L68 0 Q' X n (Int32.ofNat t) oa.1 oa.2 (Int32.ofNat k) M3 := by
      intro n
      induction n with
      | zero => intro k A3 S3 M3 _ z; exact absurd z (by omega)
      | succ n ih =>
        intro k A3 S3 M3 hk8 hkn q1 q2 q3 q4 q5 q6 q7
        unfold w_Model_look_L68
        by_cases e8 : k = 8
        · subst e8
          refine itp (by decide) ?_
          rw [oN_tnc (k := t) (by omega)]
          refine ⟨by rw [q3.2.1.2.1.1]; exact (vp_oN (by omega)).mpr (by omega), ?_⟩
          have f3 : Fr (13729595320261219429963801598162786434538870600286610818788926918371086366795312104245119281322909109954592622782961716074243975999433287625148056582230114304) M3 (sI M3 522 0 t ((1 : Int32) &&& 1)) := Fr.wIa rfl rfl (Fr.rf _ _)
          obtain ⟨z1, ⟨z2, z3⟩, z4⟩ := q3
          refine hQ A3 S3 _ q1 q2 ⟨z1.fr (f3.sub rfl), ⟨z2.fr f3, ⟨z3.1, fun t' h1 h2 => ?_⟩⟩, z4⟩ ?_ (fun i hi => ?_)
          · rw [mI_sI, if_neg (fun z => absurd z.1 (by decide)), mI_sI, if_neg (fun z => absurd z.1 (by decide))]
            by_cases et : t' = t
            · rw [et]; exact ⟨q6, q7⟩
            · rw [mI_sI, if_neg (fun z => et z.2.2)] at h2
              exact z3.2 t' h1 h2
          · rw [mI_sI, if_pos ⟨rfl, rfl, rfl⟩]; decide
          · rw [mI_sI, if_neg (fun z => hi z.2.2)]; exact q5 i
        · refine itn (nle_oN (a := 8) (by omega) (by omega)) ?_
          rw [shl_k k (by omega)]
          refine ct_tryT q3 y1 y2 y3 q4 hF hCF (fun A4 S4 M4 p4 p5 p6 d4 f4 o3 o4 => ?_)
          rw [oN_tnc (k := t) (by omega)]
          refine ⟨by rw [p6.2.1.2.1.2.2.1]; exact (vp_oN (by omega)).mpr (by omega), ?_⟩
          have e124 : mI M4 124 0 t = fnK (gTr T t) k := (f4.Ia (f := 124) rfl rfl 0 t).trans q7
          have e123 : mI M4 123 0 t = metN (gTr T t) := (f4.Ia (f := 123) rfl rfl 0 t).trans q6
          have e5 : ∀ i, mI M4 522 0 i = mI M 522 0 i := fun i => (f4.Ia (f := 522) rfl rfl 0 i).trans (q5 i)
          generalize eb : outS (gTr T t) (Int32.ofNat (2 ^ k)) = ob at o3 o4
          rw [o3, o4, e124]
          have nx : ∀ v, v = (if fnB (gTr T t) (Int32.ofNat (2 ^ k)) = true then Int32.ofNat (2 ^ k) else 0) → w_Model_look_j114 0 Q' X (w_Model_look_L68 0 Q' X n) (Int32.ofNat t) oa.1 oa.2 (Int32.ofNat k) v (fnK (gTr T t) k) (Int32.ofNat t) M4 := fun v ev => by
            unfold w_Model_look_j114
            rw [oN_tnc (k := t) (by omega), lit32 1, oN_add]
            refine ⟨by rw [p6.2.1.2.1.2.2.1]; exact (vp_oN (by omega)).mpr (by omega), ?_⟩
            have f5 : Fr (21267647932558653966460912964485513216) M4 (sI M4 124 0 t (fnK (gTr T t) k ||| v)) := Fr.wIa rfl rfl (Fr.rf _ _)
            obtain ⟨z1, ⟨z2, z3⟩, z4⟩ := p6
            refine ih (k + 1) A4 S4 _ (by omega) (by omega) (q1.trans p4) (q2.trans p5) ⟨z1.fr (f5.sub rfl), ⟨z2.fr f5, ⟨z3.1, fun t' h1 h2 => ?_⟩⟩, z4⟩ (d4.fr f5) (fun i => (f5.Ia (f := 522) rfl rfl 0 i).trans (e5 i)) ((f5.Ia (f := 123) rfl rfl 0 t).trans e123) ?_
            · have h2 : mI M4 522 0 t' ≠ 0 := by rw [← f5.Ia (f := 522) rfl rfl 0 t']; exact h2
              have hne : t' ≠ t := fun z => by rw [z, e5 t] at h2; exact h2 c0
              rw [f5.Ia (f := 123) rfl rfl 0 t', mI_sI, if_neg (fun z => hne z.2.2)]
              exact z3.2 t' h1 h2
            · rw [mI_sI, if_pos ⟨rfl, rfl, rfl⟩, ev]; rfl
          obtain ⟨g1, g2⟩ := fnB_eq eb ea
          have j106 : fnB (gTr T t) (Int32.ofNat (2 ^ k)) = true → w_Model_look_j106 0 Q' X (w_Model_look_L68 0 Q' X n) (Int32.ofNat t) oa.1 oa.2 (Int32.ofNat k) (fnK (gTr T t) k) (Int32.ofNat t) M4 := fun e => by
            unfold w_Model_look_j106
            rw [shl_k k (by omega)]
            exact nx _ (by rw [if_pos e])
          by_cases c1 : ob.1 = oa.1
          · refine itp c1 ?_
            by_cases c2 : ob.2 = oa.2
            · exact itp c2 (nx 0 (by rw [g1 ⟨c1, c2⟩]; rfl))
            · exact itn c2 (j106 (g2 (fun z => c2 z.2)))
          · exact itn c1 (j106 (g2 (fun z => c1 z.1)))
    have j57 : ∀ s0, metN (gTr T t) = s0 → w_Model_look_j57 0 Q' X (Int32.ofNat t) oa.1 oa.2 s0 (Int32.ofNat t) M2 := fun s0 es => by
      unfold w_Model_look_j57
      rw [oN_tnc (k := t) (by omega)]
      have f3 : Fr (31901471898837980949691369446728269824) M2 (sI (sI M2 123 0 t s0) 124 0 t 0) := Fr.wIa rfl rfl (Fr.wIa rfl rfl (Fr.rf _ _))
      refine ⟨by rw [p3.2.1.2.1.2.1]; exact (vp_oN (by omega)).mpr (by omega), show vp_in _ (mL M2 124 0) from by rw [p3.2.1.2.1.2.2.1]; exact (vp_oN (by omega)).mpr (by omega), _, rfl, 9, ?_⟩
      obtain ⟨z1, ⟨z2, z3⟩, z4⟩ := p3
      refine loop 9 0 A1 S1 _ (by omega) (by omega) p1 p2 ⟨z1.fr (f3.sub rfl), ⟨z2.fr f3, ⟨z3.1, fun t' h1 h2 => ?_⟩⟩, z4⟩ (d2.fr f3) (fun i => (f3.Ia (f := 522) rfl rfl 0 i).trans (e522 i)) ?_ ?_
      · have h2 : mI M2 522 0 t' ≠ 0 := by rw [← f3.Ia (f := 522) rfl rfl 0 t']; exact h2
        have hne : t' ≠ t := fun z => by rw [z, e522 t] at h2; exact h2 c0
        rw [mI_sI, if_neg (fun z => absurd z.1 (by decide)), mI_sI, if_neg (fun z => hne z.2.2), mI_sI, if_neg (fun z => hne z.2.2), mI_sI, if_neg (fun z => hne z.2.2)]
        exact z3.2 t' h1 h2
      · rw [mI_sI, if_neg (fun z => absurd z.1 (by decide)), mI_sI, if_pos ⟨rfl, rfl, rfl⟩]; exact es.symm
      · rw [mI_sI, if_pos ⟨rfl, rfl, rfl⟩]; rfl
    by_cases c1 : oa.1 = 1
    · exact itp c1 (j57 _ (by rw [em, if_pos c1]))
    refine itn c1 ?_
    by_cases c4 : oa.1 = 4
    · exact itp c4 ⟨by decide, j57 _ (by rw [em, if_neg c1, if_pos c4])⟩
    · exact itn c4 (j57 _ (by rw [em, if_neg c1, if_neg c4]))
  · exact itn c0 (hQ A S M List.prefix_rfl List.prefix_rfl h c0 (fun _ _ => rfl))
theorem ct_wmeets (h : MdT G U1 BB A S B F T M) (hF : F < 1000000) (hCF : 601 < F) (hQ : ∀ A' S' M', A <+: A' → S <+: S' → MdT G U1 BB A' S' B F T M' → Q (metO T a) M') : w_Model_meets 0 a Q X M := by
  unfold metO at hQ
  unfold w_Model_meets
  refine ct_mdTr h (fun z => itp rfl (by have := hQ A S M List.prefix_rfl List.prefix_rfl h; rw [if_pos z] at this; exact this)) (fun i hi ea ea2 z => itn (by decide) ?_)
  rw [if_neg z, ea2] at hQ
  have h40 := h.n.2
  rw [ea]
  refine ct_look h hi hF hCF (fun A' S' M' p1 p2 p3 p4 _ => ?_)
  rw [oN_tnc (k := i) (by omega), (p3.2.1.2.2 i hi p4).1]
  exact ⟨by rw [p3.2.1.2.1.2.1]; exact (vp_oN (by omega)).mpr (by omega), hQ A' S' M' p1 p2 p3⟩
end
