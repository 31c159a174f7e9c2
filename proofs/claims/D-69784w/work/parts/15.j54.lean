/-! THE OPERATION change, in the twin: lines of a trial -/
section
variable {G : List Sl} {U1 : List (List Kd × Kd)} {BB A : List Nm} {S : List Sg} {B F t w i j k r : Nat} {T : List Trl} {L L' : Trl} {M M' : Mem} {Q : Int32 → Mem → Prop} {Q' X : Mem → Prop} {a b c d v : Int32}
theorem MdT.w129 (h : MdT G U1 BB A S B F T M) (hf : Fr (21022075495297667614751928455960893690002438624272829115943839442806697504563795810911475838925470847093888365073324129408307927215659038831381730042108594316069968993921710440066615373648013489084747192164702790165341729959309681053742435982348771802000052373069440771396425769052441514403521407536728128889781028801132578826022062769352911176463634450170163296745842783117938980939247969435740743001570797837710407965981817426675496744371408847255540644683853435409907956707419528276220597673982859710791069009098407760090115938669912137943834639403188507830370601269798039898169080981489165239144575694919684542547605895094295783643386486022949610288499640395373040658654793126647779511115211120505631892026006581024605674375718403810353971988226672991384150071118735359260805836448334210284378550299021477624961784815505849836613829000945773667835109750063160924999729813089929274408481335441801762749345552844581051831781871263333513232832871977532756648900473559067020893320654456691305452929024) M M') : MdT G U1 BB A S B F T M' := ⟨h.1.fr (hf.sub rfl), ⟨h.2.1.1.fr hf, h.2.1.2.fr hf⟩, h.2.2⟩
theorem MdT.row (h : MdT G U1 BB A S B F T M) (ht : t < T.length) : mI M 122 0 t = Int32.ofNat (txt (gTr T t)).length ∧ ∀ k, k < (txt (gTr T t)).length → mI M 412 0 (1204 * t + k) = gi (txt (gTr T t)) k := by
  obtain ⟨⟨x1, -⟩, x2⟩ := h.2.1.1.2.2 t (by rw [List.length_map]; exact ht)
  rw [gTr_map ht] at x1 x2
  exact ⟨x1, x2⟩
/-- where lines begin -/
def lfT (L : Trl) (M : Mem) : Prop := mL M 129 0 = 62 ∧ ∀ i, i ≤ L.length → mI M 129 0 i = Int32.ofNat (txt (L.take i)).length
theorem txt_all : (txt (L.take L.length)).length = (txt L).length := by rw [List.take_length]
theorem ct_linesOf (h : MdT G U1 BB A S B F T M) (ht : t < T.length) (hl : mL M 129 0 = 62) (hQ : ∀ M', Fr (680564733841876926926749214863536422912) M M' → lfT (gTr T t) M' → Q (Int32.ofNat (gTr T t).length) M') : w_Model_linesOf 0 (Int32.ofNat t) Q M := by
  have h40 := h.n
  obtain ⟨hTO, -⟩ := h.2.2 _ (gTr_mem ht)
  obtain ⟨x1, x2⟩ := h.row ht
  obtain ⟨-, ⟨l122, l412⟩, -⟩ := h.2.1.1
  obtain ⟨⟨hne, h60⟩, hsz, h10, -⟩ := hTO
  generalize gTr T t = L at hQ hne h60 hsz h10 x1 x2
  have loop : ∀ n c x M1, (txt L).length - ((txt (L.take c)).length + x) < n → c ≤ L.length → (c < L.length → x ≤ (glL L c).length) → (c = L.length → x = 0) → Fr (680564733841876926926749214863536422912) M M1 → (∀ i, i ≤ c → mI M1 129 0 i = Int32.ofNat (txt (L.take i)).length) → w_Model_linesOf_L11 0 Q n (Int32.ofNat t) (Int32.ofNat c) (Int32.ofNat ((txt (L.take c)).length + x)) M1 := by
    intro n
    induction n with
    | zero => intro c x M1 z; exact absurd z (by omega)
    | succ n ih =>
      intro c x M1 hn hc hx hx0 p1 p2
      have hle := txt_take_le (L := L) (k := c)
      unfold w_Model_linesOf_L11
      rw [oN_tnc (k := t) (by omega), p1.Ia (f := 122) rfl rfl, x1]
      refine ⟨by rw [p1.L (f := 122) rfl, l122]; exact (vp_oN (by omega)).mpr (by omega), ?_⟩
      by_cases ec : c = L.length
      · have e0 := hx0 ec
        subst e0
        subst ec
        refine itp (by rw [txt_all]; exact le_oN (Nat.le_refl _) (by omega)) (hQ M1 p1 ⟨by rw [p1.L (f := 129) rfl]; exact hl, p2⟩)
      have hcL : c < L.length := by omega
      have hxl := hx hcL
      have hlen := len_ln hcL
      have hle2 := txt_take_le (L := L) (k := c + 1)
      refine itn (nle_oN (by omega) (by omega)) ?_
      rw [lit32 1204, oN_mul, oN_add, oN_tnc (k := 1204 * t + ((txt (L.take c)).length + x)) (by omega), p1.Ia (f := 412) rfl rfl, x2 _ (by omega), gi_ln hcL hxl, lit32 1, oN_add, oN_add, oN_tnc (k := c + 1) (by omega)]
      refine ⟨by rw [p1.L (f := 412) rfl, l412]; exact (vp_oN (by omega)).mpr (by omega), ?_⟩
      by_cases ex : x = (glL L c).length
      · refine itp (by rw [ex]; exact gi_e) ⟨by rw [p1.L (f := 129) rfl, hl]; exact (vp_oN (by omega)).mpr (by omega), ?_⟩
        unfold w_Model_linesOf_j50
        rw [lit32 1, oN_add, show (txt (L.take c)).length + x + 1 = (txt (L.take (c + 1))).length by omega]
        have := ih (c + 1) 0 (sI M1 129 0 (c + 1) (Int32.ofNat (txt (L.take (c + 1))).length)) (by omega) (by omega) (fun _ => Nat.zero_le _) (fun _ => rfl) (Fr.wIa rfl rfl p1) (fun i hi => ?_)
        · rw [Nat.add_zero] at this; exact this
        · rw [mI_sI]
          by_cases e : i = c + 1
          · rw [if_pos ⟨rfl, rfl, e⟩, e]
          · rw [if_neg (fun z => e z.2.2)]; exact p2 i (by omega)
      · rw [gi_l (show x < (glL L c).length by omega)]
        refine itn (fun z => h10 _ (getD_mem hcL) (by rw [← z]; exact getD_mem (show x < (glL L c).length by omega))) ?_
        unfold w_Model_linesOf_j50
        rw [lit32 1, oN_add, Nat.add_assoc]
        exact ih c (x + 1) M1 (by omega) (by omega) (fun _ => by omega) (fun z => absurd z ec) p1 p2
  unfold w_Model_linesOf
  refine ⟨show vp_in (Int32.ofNat 0) _ from by rw [hl]; exact (vp_oN (by omega)).mpr (by omega), (txt L).length + 1, ?_⟩
  rw [show (0 : Int32).toNatClampNeg = 0 from rfl]
  exact loop ((txt L).length + 1) 0 0 (sI M 129 0 0 0) (by show (txt L).length - 0 < _; omega) (Nat.zero_le _) (fun _ => Nat.zero_le _) (fun _ => rfl) (Fr.wIa rfl rfl (Fr.rf _ _)) (fun i hi => by
    rw [show i = 0 by omega, mI_sI, if_pos ⟨rfl, rfl, rfl⟩]; rfl)
/-- what is drafted in the twin -/
def dfD (D : List Int32) (M : Mem) : Prop := mL M 402 2 = 2408 ∧ mI M 11 0 123 = Int32.ofNat D.length ∧ ∀ k, k < D.length → mI M 402 2 k = gi D k
theorem ct_draftLine {D : List Int32} (h : MdT G U1 BB A S B F T M) (ht : t < T.length) (hlf : lfT (gTr T t) M) (hi : i < (gTr T t).length) (hD : dfD D M) (hDl : D.length + szL (gTr T t) i ≤ 2408) (hQ : ∀ M', MdT G U1 BB A S B F T M' → lfT (gTr T t) M' → dfD (D ++ (glL (gTr T t) i ++ [10])) M' → Fr (21022075495297667614751928455960893690002438624272829115943839442806697504563795810911475838925470847093888365073324129408307927215659038831381730042108594316069968993921710440066615373648013489084747192164702790165341729959309681053742435982348771802000052373069440771396425769052441514403521407536728128889781028801132578826022062769352911176463634450170163296745842783117938980939247969435740743001570797837710407965981817426675496744371408847255540644683853435409907956707419528276220597673982859710791069009098407760090115938669912137943834639403188507830370601269798039898169080981489165239144575694919684542547605895094295783643386486022949610288499640395373040658654793126647779511115211120505631892026006581024605674375718403810353971988226672991384150071118735359260805836448334210284378550299021477624961784815505849836613829000945773667835109750063160924999729813089929274408481335441801762749345552844581051831781871263333513232832871977532756648899792994333179016393727707476441916506112) M M' → Q' M') : w_Model_draftLine 0 (Int32.ofNat t) (Int32.ofNat i) Q' M := by
  have h40 := h.n
  obtain ⟨hTO, -⟩ := h.2.2 _ (gTr_mem ht)
  obtain ⟨x1, x2⟩ := h.row ht
  obtain ⟨-, ⟨l122, l412⟩, -⟩ := id h.2.1.1
  obtain ⟨⟨hne, h60⟩, hsz, h10, -⟩ := hTO
  generalize gTr T t = L at hQ hne h60 hsz h10 x1 x2 hlf hi hDl
  have hle := len_ln hi
  have hle2 := txt_take_le (L := L) (k := i + 1)
  have hs : szL L i = (glL L i).length + 1 := rfl
  obtain ⟨d1, d2, d3⟩ := hD
  unfold w_Model_draftLine
  rw [lit32 1, oN_add, oN_tnc (k := i + 1) (by omega), oN_tnc (k := i) (by omega), hlf.2 (i + 1) (by omega), hlf.2 i (by omega), lit32 1204, oN_mul, oN_add, oN_tnc (k := 1204 * t + (txt (L.take i)).length) (by omega), d2, oN_tnc (k := D.length) (by omega)]
  refine ⟨by rw [hlf.1]; exact (vp_oN (by omega)).mpr (by omega), by rw [hlf.1]; exact (vp_oN (by omega)).mpr (by omega), _, rfl, by rw [hlf.1]; exact (vp_oN (by omega)).mpr (by omega), ?_⟩
  rw [oN_sub (by omega), show (txt (L.take (i + 1))).length - (txt (L.take i)).length = (glL L i).length + 1 by omega, oN_tnc (k := (glL L i).length + 1) (by omega)]
  refine ⟨nlt_oN (b := 0) (by omega) (by omega), nlt_oN (b := 0) (by omega) (by omega), nlt_oN (b := 0) (by omega) (by omega), by rw [l412]; omega, by rw [d1]; omega, _, rfl, ?_⟩
  have e3 : mI (cpI M 412 0 (1204 * t + (txt (L.take i)).length) 402 2 D.length ((glL L i).length + 1)) 11 0 123 = Int32.ofNat D.length := by rw [mI_cpI, if_neg (fun z => absurd z.1 (by decide))]; exact d2
  rw [e3, oN_add]
  have hl2 : (D ++ (glL L i ++ [10])).length = D.length + ((glL L i).length + 1) := by rw [List.length_append, List.length_append, List.length_singleton]
  have f1 : Fr (21022075495297667614751928455960893690002438624272829115943839442806697504563795810911475838925470847093888365073324129408307927215659038831381730042108594316069968993921710440066615373648013489084747192164702790165341729959309681053742435982348771802000052373069440771396425769052441514403521407536728128889781028801132578826022062769352911176463634450170163296745842783117938980939247969435740743001570797837710407965981817426675496744371408847255540644683853435409907956707419528276220597673982859710791069009098407760090115938669912137943834639403188507830370601269798039898169080981489165239144575694919684542547605895094295783643386486022949610288499640395373040658654793126647779511115211120505631892026006581024605674375718403810353971988226672991384150071118735359260805836448334210284378550299021477624961784815505849836613829000945773667835109750063160924999729813089929274408481335441801762749345552844581051831781871263333513232832871977532756648899792994333179016393727707476441916506112) M (sI (cpI M 412 0 (1204 * t + (txt (L.take i)).length) 402 2 D.length ((glL L i).length + 1)) 11 0 123 (Int32.ofNat (D.length + ((glL L i).length + 1)))) := Fr.wI rfl (Fr.wcp rfl rfl (Fr.rf _ _))
  refine hQ _ (h.w129 (f1.sub rfl)) ⟨hlf.1, fun i hi => (f1.Ia (f := 129) rfl rfl 0 i).trans (hlf.2 i hi)⟩ ⟨d1, by rw [mI_sI, if_pos ⟨rfl, rfl, rfl⟩, hl2], fun k hk => ?_⟩ f1
  rw [hl2] at hk
  rw [mI_sI, if_neg (fun z => absurd z.1 (by decide)), mI_cpI, if_pos ⟨rfl, rfl⟩, gi_apL]
  by_cases c : k < D.length
  · rw [if_neg (by omega), if_pos c]; exact d3 k c
  · rw [if_pos ⟨by omega, by omega⟩, if_neg c, show 1204 * t + (txt (L.take i)).length + (k - D.length) = 1204 * t + ((txt (L.take i)).length + (k - D.length)) by omega, x2 _ (by omega), gi_ln hi (by omega)]
/-- what is drafted is kept -/
theorem ct_keep (h : MdT G U1 BB A S B F T M) (hn : T.length < 40) (hL : TrO L') (hnm : nmL BB L') (hul : ulL U1 L') (hD : dfD (txt L') M) (hQ : ∀ M', MdT G U1 BB A S B F (T ++ [L']) M' → Fr (5255518873824416903687982113990223422500609656068207278985959860701674376140948952727868959731367711773472091268331032352076981803914759707845432510527148579017492248480427610016653843412003372271186798041175697541335432489827420263435608995587192950500013093267360192849106442263110378600880351884182032222445257200283144706505515692338227794115908612542540824186460695779484745234811992358935185750392699459427601991495454356668874186092852211813885161170963358852476989176854882069055149418495714927697767252274601940022528984667478034485958659850797126957592650317449509974542270245372291309786143923729921135636901473773573945910846621505737402572124910098843260164663698281661944877778802780126407973006501645256151418593929600952588492997056668247846037517779683839815201459112083552571094637574755369406240446203876462459153457250236457146554097698735220195051530616069491170723486511145910218623607092922892203491685383220156251282352124599164936815949425531153441746779572179382334815993856) M M' → Q (Int32.ofNat T.length) M') : w_Model_keepDraft 0 Q M := by
  have h40 := h.n
  have hl := hL.2.1
  obtain ⟨hB, ⟨hX, hLo⟩, hT⟩ := h
  obtain ⟨-, ⟨l122, l412⟩, hx⟩ := id hX
  obtain ⟨d1, d2, d3⟩ := hD
  unfold w_Model_keepDraft
  rw [h40.1, d2, lit32 1204, oN_mul, oN_tnc (k := 1204 * T.length) (by omega), oN_tnc (k := (txt L').length) (by omega), show (0 : Int32).toNatClampNeg = 0 from rfl]
  refine ⟨by decide, nlt_oN (b := 0) (by omega) (by omega), nlt_oN (b := 0) (by omega) (by omega), by rw [d1]; omega, by rw [l412]; omega, _, rfl, ?_⟩
  have f1 : Fr (10576895500643977583230644928524336637254474927428499508554380724390492659780981533203027367035444557561459392400373732868096) M (cpI M 402 2 0 412 0 (1204 * T.length) (txt L').length) := Fr.wcp rfl rfl (Fr.rf _ _)
  have e1 : ∀ x, mI (cpI M 402 2 0 412 0 (1204 * T.length) (txt L').length) 412 0 x = if 1204 * T.length ≤ x ∧ x < 1204 * T.length + (txt L').length then gi (txt L') (x - 1204 * T.length) else mI M 412 0 x := fun x => by
    rw [mI_cpI, if_pos ⟨rfl, rfl⟩]
    by_cases c : 1204 * T.length ≤ x ∧ x < 1204 * T.length + (txt L').length
    · rw [if_pos c, if_pos c, Nat.zero_add]; exact d3 _ (by omega)
    · rw [if_neg c, if_neg c]
  generalize cpI M 402 2 0 412 0 (1204 * T.length) (txt L').length = M1 at f1 e1 ⊢
  have e121 : mI M1 11 0 121 = Int32.ofNat T.length := (f1.I (f := 11) (k := 121) rfl 0).trans h40.1
  have e123 : mI M1 11 0 123 = Int32.ofNat (txt L').length := (f1.I (f := 11) (k := 123) rfl 0).trans d2
  rw [e121, e123, oN_tnc (k := T.length) (by omega)]
  have e121' : mI (sI M1 122 0 T.length (Int32.ofNat (txt L').length)) 11 0 121 = Int32.ofNat T.length := by rw [mI_sI, if_neg (fun z => absurd z.1 (by decide))]; exact e121
  rw [e121', oN_tnc (k := T.length) (by omega)]
  refine ⟨by rw [f1.L (f := 122) rfl, l122]; exact (vp_oN (by omega)).mpr (by omega), show vp_in _ (mL M1 522 0) from by rw [f1.L (f := 522) rfl, hLo.1.1]; exact (vp_oN (by omega)).mpr (by omega), _, rfl, ?_⟩
  have e121d : mI (sI (sI M1 122 0 T.length (Int32.ofNat (txt L').length)) 522 0 T.length ((0 : Int32) &&& 1)) 11 0 121 = Int32.ofNat T.length := by rw [mI_sI, if_neg (fun z => absurd z.1 (by decide))]; exact e121'
  rw [e121d, show Int32.ofNat T.length + (1 : Int32) = Int32.ofNat (T.length + 1) from oN_add _ 1]
  have f2 : Fr (5255518873824416903687982113990223422500609656068207278985959860701674376140948952727868959731367711773472091268331032352076981803914759707845432510527148579017492248480427610016653843412003372271186798041175697541335432489827420263435608995587192950500013093267360192849106442263110378600880351884182032222445257200283144706505515692338227794115908612542540824186460695779484745234811992358935185750392699459427601991495454356668874186092852211813885161170963358852476989176854882069055149418495714927697767252274601940022528984667478034485958659850797126957592650317449509974542270245372291309786143923729921135636901473773573945910846621505737402572124910098843260164663698281661944877778802780126407973006501645256151418593929600952588492997056668247846037517779683839815201459112083552571094637574755369406240446203876462459153457250236457146554097698735220195051530616069491170723486511145910218623607092922892203491685383220156251282352124599164936815949425531153441746779572179382334815993856) M (sI (sI (sI M1 122 0 T.length (Int32.ofNat (txt L').length)) 522 0 T.length ((0 : Int32) &&& 1)) 11 0 121 (Int32.ofNat (T.length + 1))) := Fr.wI rfl (Fr.wIa rfl rfl (Fr.wIa rfl rfl (f1.sub rfl)))
  have g121 : mI (sI (sI (sI M1 122 0 T.length (Int32.ofNat (txt L').length)) 522 0 T.length ((0 : Int32) &&& 1)) 11 0 121 (Int32.ofNat (T.length + 1))) 11 0 121 = Int32.ofNat (T.length + 1) := by rw [mI_sI, if_pos ⟨rfl, rfl, rfl⟩]
  have g122 : ∀ x, mI (sI (sI (sI M1 122 0 T.length (Int32.ofNat (txt L').length)) 522 0 T.length ((0 : Int32) &&& 1)) 11 0 121 (Int32.ofNat (T.length + 1))) 122 0 x = if x = T.length then Int32.ofNat (txt L').length else mI M 122 0 x := fun x => by
    rw [mI_sI, if_neg (fun z => absurd z.1 (by decide)), mI_sI, if_neg (fun z => absurd z.1 (by decide)), mI_sI]
    by_cases c : x = T.length
    · rw [if_pos ⟨rfl, rfl, c⟩, if_pos c]
    · rw [if_neg (fun z => c z.2.2), if_neg c, f1.Ia (f := 122) rfl rfl]
  have g522 : ∀ x, mI (sI (sI (sI M1 122 0 T.length (Int32.ofNat (txt L').length)) 522 0 T.length ((0 : Int32) &&& 1)) 11 0 121 (Int32.ofNat (T.length + 1))) 522 0 x = if x = T.length then 0 else mI M 522 0 x := fun x => by
    rw [mI_sI, if_neg (fun z => absurd z.1 (by decide)), mI_sI]
    by_cases c : x = T.length
    · rw [if_pos ⟨rfl, rfl, c⟩, if_pos c]; rfl
    · rw [if_neg (fun z => c z.2.2), if_neg c, mI_sI, if_neg (fun z => absurd z.1 (by decide)), f1.Ia (f := 522) rfl rfl]
  have g412 : ∀ x, mI (sI (sI (sI M1 122 0 T.length (Int32.ofNat (txt L').length)) 522 0 T.length ((0 : Int32) &&& 1)) 11 0 121 (Int32.ofNat (T.length + 1))) 412 0 x = mI M1 412 0 x := fun x => by
    rw [mI_sI, if_neg (fun z => absurd z.1 (by decide)), mI_sI, if_neg (fun z => absurd z.1 (by decide)), mI_sI, if_neg (fun z => absurd z.1 (by decide))]
  generalize sI (sI (sI M1 122 0 T.length (Int32.ofNat (txt L').length)) 522 0 T.length ((0 : Int32) &&& 1)) 11 0 121 (Int32.ofNat (T.length + 1)) = M2 at f2 g121 g122 g522 g412 ⊢
  rw [g121, lit32 1, oN_sub (by omega), Nat.add_sub_cancel]
  have hlen : ((T ++ [L']).map txt).length = T.length + 1 := by rw [List.length_map, List.length_append, List.length_singleton]
  refine hQ M2 ⟨hB.fr (f2.sub rfl), ⟨⟨⟨by rw [hlen]; exact g121, by rw [hlen]; omega⟩, ⟨(f2.L (f := 122) rfl 0).trans l122, (f2.L (f := 412) rfl 0).trans l412⟩, fun t ht => ?_⟩, ⟨(f2.L (f := 522) rfl 0).trans hLo.1.1, (f2.L (f := 123) rfl 0).trans hLo.1.2.1, (f2.L (f := 124) rfl 0).trans hLo.1.2.2.1, (f2.L (f := 402) rfl 2).trans hLo.1.2.2.2⟩, fun t ht h3 => ?_⟩, fun L hL2 => ?_⟩ f2
  · rw [hlen] at ht
    have ht' : t < (T ++ [L']).length := by rw [List.length_append, List.length_singleton]; exact ht
    rw [gTr_map ht', gTr_sn, g122]
    by_cases e : t = T.length
    · subst e
      rw [if_pos rfl, if_neg (Nat.lt_irrefl _), if_pos rfl]
      refine ⟨⟨rfl, by omega⟩, fun x hx2 => ?_⟩
      rw [g412, e1, if_pos ⟨by omega, by omega⟩, Nat.add_sub_cancel_left]
    · rw [if_neg e, if_pos (by omega)]
      obtain ⟨⟨y1, y2⟩, y3⟩ := hx t (by rw [List.length_map]; omega)
      rw [gTr_map (by omega)] at y1 y2 y3
      refine ⟨⟨y1, y2⟩, fun x hx2 => ?_⟩
      rw [g412, e1, if_neg (by omega)]; exact y3 x hx2
  · rw [List.length_append, List.length_singleton] at ht
    rw [g522] at h3
    by_cases e : t = T.length
    · rw [if_pos e] at h3; exact absurd rfl h3
    · rw [if_neg e] at h3
      rw [gTr_sn, if_pos (by omega), f2.Ia (f := 123) rfl rfl, f2.Ia (f := 124) rfl rfl]
      exact hLo.2 t (by omega) h3
  · rcases List.mem_append.mp hL2 with z | z
    · exact hT L z
    · rw [List.mem_singleton.mp z]; exact ⟨hL, hnm, hul⟩
end
