/-! THE OPERATION shrink, in the twin -/
/-- trials as the twin has them; of what was looked for nothing is told -/
def MdY (G : List Sl) (U1 : List (List Kd × Kd)) (BB A : List Nm) (S : List Sg) (B F : Nat) (T : List Trl) (M : Mem) : Prop := MdB G U1 BB A S B F M ∧ (tTx (T.map txt) M ∧ mL M 402 2 = 2408) ∧ ∀ L ∈ T, TrO L ∧ nmL BB L ∧ ulL U1 L
section
variable {G : List Sl} {U1 : List (List Kd × Kd)} {BB A : List Nm} {S : List Sg} {B F t w i j k r : Nat} {T : List Trl} {L L' : Trl} {M M' M0 : Mem} {Q : Int32 → Mem → Prop} {Q' X : Mem → Prop} {a b c d v : Int32}
theorem MdT.y (h : MdT G U1 BB A S B F T M) : MdY G U1 BB A S B F T M := ⟨h.1, ⟨h.2.1.1, h.2.1.2.1.2.2.2⟩, h.2.2⟩
theorem MdY.n (h : MdY G U1 BB A S B F T M) : mI M 11 0 121 = Int32.ofNat T.length ∧ T.length ≤ 40 := by
  have := h.2.1.1.1
  rw [List.length_map] at this; exact this
theorem MdY.w129 (h : MdY G U1 BB A S B F T M) (hf : Fr (21022075495297667614751928455960893690002438624272829115943839442806697504563795810911475838925470847093888365073324129408307927215659038831381730042108594316069968993921710440066615373648013489084747192164702790165341729959309681053742435982348771802000052373069440771396425769052441514403521407536728128889781028801132578826022062769352911176463634450170163296745842783117938980939247969435740743001570797837710407965981817426675496744371408847255540644683853435409907956707419528276220597673982859710791069009098407760090115938669912137943834639403188507830370601269798039898169080981489165239144575694919684542547605895094295783643386486022949610288499640395373040658654793126647779511115211120505631892026006581024605674375718403810353971988226672991384150071118735359260805836448334210284378550299021477624961784815505849836613829000945773667835109750063160924999729813089929274408481335441801762749345552844581051831781871263333513232832871977532756648900473559067020893320654456691305452929024) M M') : MdY G U1 BB A S B F T M' := ⟨h.1.fr (hf.sub rfl), ⟨h.2.1.1.fr hf, (hf.L (f := 402) rfl 2).trans h.2.1.2⟩, h.2.2⟩
theorem MdY.row (h : MdY G U1 BB A S B F T M) (ht : t < T.length) : mI M 122 0 t = Int32.ofNat (txt (gTr T t)).length ∧ ∀ k, k < (txt (gTr T t)).length → mI M 412 0 (1204 * t + k) = gi (txt (gTr T t)) k := by
  obtain ⟨⟨x1, -⟩, x2⟩ := h.2.1.1.2.2 t (by rw [List.length_map]; exact ht)
  rw [gTr_map ht] at x1 x2
  exact ⟨x1, x2⟩
theorem ct_linesOfY (h : MdY G U1 BB A S B F T M) (ht : t < T.length) (hl : mL M 129 0 = 62) (hQ : ∀ M', Fr (680564733841876926926749214863536422912) M M' → lfT (gTr T t) M' → Q (Int32.ofNat (gTr T t).length) M') : w_Model_linesOf 0 (Int32.ofNat t) Q M := by
  have h40 := h.n
  obtain ⟨hTO, -⟩ := h.2.2 _ (gTr_mem ht)
  obtain ⟨x1, x2⟩ := h.row ht
  obtain ⟨-, ⟨l122, l412⟩, -⟩ := h.2.1.1
  obtain ⟨⟨hne, h60⟩, hsz, h10, -⟩ := hTO
  generalize gTr T t = L at hQ hne h60 hsz h10 x1 x2
  have loop : ∀ n c x M1, (txt L).length - ((txt (L.take c)).length + x) < n → c ≤ L.length → (c < L.length → x ≤ (glL L c).length) → (c = L.length → x = 0) → Fr (680564733841876926926749214863536422912) M M1 → (∀ i, i ≤ c → mI M1 129 0 i = Int32.ofNat (txt (L.take i)).length) → w_Model_linesOf_L11 0 Q n (Int32.ofNat t) (Int32.ofNat c) (Int32.ofNat ((txt (L.take c)).length + x)) M1 := by
    intro n
    induction n with
    | zero => intro c x M1 z; exact absurd z (by omega)
    | succ n ih =>
      intro c x M1 hn hc hx hx0 p1 p2
      have hle := txt_take_le (L := L) (k := c)
      unfold w_Model_linesOf_L11
      rw [oN_tnc (k := t) (by omega), p1.Ia (f := 122) rfl rfl, x1]
      refine ⟨by rw [p1.L (f := 122) rfl, l122]; exact (vp_oN (by omega)).mpr (by omega), ?_⟩
      by_cases ec : c = L.length
      · have e0 := hx0 ec
        subst e0
        subst ec
        refine itp (by rw [txt_all]; exact le_oN (Nat.le_refl _) (by omega)) (hQ M1 p1 ⟨by rw [p1.L (f := 129) rfl]; exact hl, p2⟩)
      have hcL : c < L.length := by omega
      have hxl := hx hcL
      have hlen := len_ln hcL
      have hle2 := txt_take_le (L := L) (k := c + 1)
      refine itn (nle_oN (by omega) (by omega)) ?_
      rw [lit32 1204, oN_mul, oN_add, oN_tnc (k := 1204 * t + ((txt (L.take c)).length + x)) (by omega), p1.Ia (f := 412) rfl rfl, x2 _ (by omega), gi_ln hcL hxl, lit32 1, oN_add, oN_add, oN_tnc (k := c + 1) (by omega)]
      refine ⟨by rw [p1.L (f := 412) rfl, l412]; exact (vp_oN (by omega)).mpr (by omega), ?_⟩
      by_cases ex : x = (glL L c).length
      · refine itp (by rw [ex]; exact gi_e) ⟨by rw [p1.L (f := 129) rfl, hl]; exact (vp_oN (by omega)).mpr (by omega), ?_⟩
        unfold w_Model_linesOf_j50
        rw [lit32 1, oN_add, show (txt (L.take c)).length + x + 1 = (txt (L.take (c + 1))).length by omega]
        have := ih (c + 1) 0 (sI M1 129 0 (c + 1) (Int32.ofNat (txt (L.take (c + 1))).length)) (by omega) (by omega) (fun _ => Nat.zero_le _) (fun _ => rfl) (Fr.wIa rfl rfl p1) (fun i hi => ?_)
        · rw [Nat.add_zero] at this; exact this
        · rw [mI_sI]
          by_cases e : i = c + 1
          · rw [if_pos ⟨rfl, rfl, e⟩, e]
          · rw [if_neg (fun z => e z.2.2)]; exact p2 i (by omega)
      · rw [gi_l (show x < (glL L c).length by omega)]
        refine itn (fun z => h10 _ (getD_mem hcL) (by rw [← z]; exact getD_mem (show x < (glL L c).length by omega))) ?_
        unfold w_Model_linesOf_j50
        rw [lit32 1, oN_add, Nat.add_assoc]
        exact ih c (x + 1) M1 (by omega) (by omega) (fun _ => by omega) (fun z => absurd z ec) p1 p2
  unfold w_Model_linesOf
  refine ⟨show vp_in (Int32.ofNat 0) _ from by rw [hl]; exact (vp_oN (by omega)).mpr (by omega), (txt L).length + 1, ?_⟩
  rw [show (0 : Int32).toNatClampNeg = 0 from rfl]
  exact loop ((txt L).length + 1) 0 0 (sI M 129 0 0 0) (by show (txt L).length - 0 < _; omega) (Nat.zero_le _) (fun _ => Nat.zero_le _) (fun _ => rfl) (Fr.wIa rfl rfl (Fr.rf _ _)) (fun i hi => by
    rw [show i = 0 by omega, mI_sI, if_pos ⟨rfl, rfl, rfl⟩]; rfl)
theorem ct_draftLineY {D : List Int32} (h : MdY G U1 BB A S B F T M) (ht : t < T.length) (hlf : lfT (gTr T t) M) (hi : i < (gTr T t).length) (hD : dfD D M) (hDl : D.length + szL (gTr T t) i ≤ 2408) (hQ : ∀ M', MdY G U1 BB A S B F T M' → lfT (gTr T t) M' → dfD (D ++ (glL (gTr T t) i ++ [10])) M' → Fr (21022075495297667614751928455960893690002438624272829115943839442806697504563795810911475838925470847093888365073324129408307927215659038831381730042108594316069968993921710440066615373648013489084747192164702790165341729959309681053742435982348771802000052373069440771396425769052441514403521407536728128889781028801132578826022062769352911176463634450170163296745842783117938980939247969435740743001570797837710407965981817426675496744371408847255540644683853435409907956707419528276220597673982859710791069009098407760090115938669912137943834639403188507830370601269798039898169080981489165239144575694919684542547605895094295783643386486022949610288499640395373040658654793126647779511115211120505631892026006581024605674375718403810353971988226672991384150071118735359260805836448334210284378550299021477624961784815505849836613829000945773667835109750063160924999729813089929274408481335441801762749345552844581051831781871263333513232832871977532756648899792994333179016393727707476441916506112) M M' → Q' M') : w_Model_draftLine 0 (Int32.ofNat t) (Int32.ofNat i) Q' M := by
  have h40 := h.n
  obtain ⟨hTO, -⟩ := h.2.2 _ (gTr_mem ht)
  obtain ⟨x1, x2⟩ := h.row ht
  obtain ⟨-, ⟨l122, l412⟩, -⟩ := id h.2.1.1
  obtain ⟨⟨hne, h60⟩, hsz, h10, -⟩ := hTO
  generalize gTr T t = L at hQ hne h60 hsz h10 x1 x2 hlf hi hDl
  have hle := len_ln hi
  have hle2 := txt_take_le (L := L) (k := i + 1)
  have hs : szL L i = (glL L i).length + 1 := rfl
  obtain ⟨d1, d2, d3⟩ := hD
  unfold w_Model_draftLine
  rw [lit32 1, oN_add, oN_tnc (k := i + 1) (by omega), oN_tnc (k := i) (by omega), hlf.2 (i + 1) (by omega), hlf.2 i (by omega), lit32 1204, oN_mul, oN_add, oN_tnc (k := 1204 * t + (txt (L.take i)).length) (by omega), d2, oN_tnc (k := D.length) (by omega)]
  refine ⟨by rw [hlf.1]; exact (vp_oN (by omega)).mpr (by omega), by rw [hlf.1]; exact (vp_oN (by omega)).mpr (by omega), _, rfl, by rw [hlf.1]; exact (vp_oN (by omega)).mpr (by omega), ?_⟩
  rw [oN_sub (by omega), show (txt (L.take (i + 1))).length - (txt (L.take i)).length = (glL L i).length + 1 by omega, oN_tnc (k := (glL L i).length + 1) (by omega)]
  refine ⟨nlt_oN (b := 0) (by omega) (by omega), nlt_oN (b := 0) (by omega) (by omega), nlt_oN (b := 0) (by omega) (by omega), by rw [l412]; omega, by rw [d1]; omega, _, rfl, ?_⟩
  have e3 : mI (cpI M 412 0 (1204 * t + (txt (L.take i)).length) 402 2 D.length ((glL L i).length + 1)) 11 0 123 = Int32.ofNat D.length := by rw [mI_cpI, if_neg (fun z => absurd z.1 (by decide))]; exact d2
  rw [e3, oN_add]
  have hl2 : (D ++ (glL L i ++ [10])).length = D.length + ((glL L i).length + 1) := by rw [List.length_append, List.length_append, List.length_singleton]
  have f1 : Fr (21022075495297667614751928455960893690002438624272829115943839442806697504563795810911475838925470847093888365073324129408307927215659038831381730042108594316069968993921710440066615373648013489084747192164702790165341729959309681053742435982348771802000052373069440771396425769052441514403521407536728128889781028801132578826022062769352911176463634450170163296745842783117938980939247969435740743001570797837710407965981817426675496744371408847255540644683853435409907956707419528276220597673982859710791069009098407760090115938669912137943834639403188507830370601269798039898169080981489165239144575694919684542547605895094295783643386486022949610288499640395373040658654793126647779511115211120505631892026006581024605674375718403810353971988226672991384150071118735359260805836448334210284378550299021477624961784815505849836613829000945773667835109750063160924999729813089929274408481335441801762749345552844581051831781871263333513232832871977532756648899792994333179016393727707476441916506112) M (sI (cpI M 412 0 (1204 * t + (txt (L.take i)).length) 402 2 D.length ((glL L i).length + 1)) 11 0 123 (Int32.ofNat (D.length + ((glL L i).length + 1)))) := Fr.wI rfl (Fr.wcp rfl rfl (Fr.rf _ _))
  refine hQ _ (h.w129 (f1.sub rfl)) ⟨hlf.1, fun i hi => (f1.Ia (f := 129) rfl rfl 0 i).trans (hlf.2 i hi)⟩ ⟨d1, by rw [mI_sI, if_pos ⟨rfl, rfl, rfl⟩, hl2], fun k hk => ?_⟩ f1
  rw [hl2] at hk
  rw [mI_sI, if_neg (fun z => absurd z.1 (by decide)), mI_cpI, if_pos ⟨rfl, rfl⟩, gi_apL]
  by_cases c : k < D.length
  · rw [if_neg (by omega), if_pos c]; exact d3 k c
  · rw [if_pos ⟨by omega, by omega⟩, if_neg c, show 1204 * t + (txt (L.take i)).length + (k - D.length) = 1204 * t + ((txt (L.take i)).length + (k - D.length)) by omega, x2 _ (by omega), gi_ln hi (by omega)]
theorem ct_tryY (h : MdY G U1 BB A S B F T M) (hL : TrO L) (hnm : nmL BB L) (hul : ulL U1 L) (hD : dfT L M) (hF : F < 1000000) (hCF : 601 < F)
    (hQ : ∀ A' S' M', A <+: A' → S <+: S' → MdY G U1 BB A' S' B F T M' → dfT L M' → Fr F_Model_tryDraft M M' → mI M' 11 0 124 = (outS L v).1 → mI M' 11 0 125 = (outS L v).2 → Q' M') : w_Model_tryDraft 0 v Q' X M := by
  obtain ⟨hB, ⟨hX, hl⟩, hT⟩ := h
  exact ct_try hB hL (nmT_of hL hnm) (ulT_of hL hul) hD hF hCF (fun A' S' M' p1 p2 p3 p4 hf o1 o2 => hQ A' S' M' p1 p2 ⟨p3, ⟨hX.fr hf, (hf.L (f := 402) rfl 2).trans hl⟩, hT⟩ p4 hf o1 o2)
theorem dfT.ofD (h : dfD (txt L) M) : dfT L M := ⟨⟨h.1, h.2.2⟩, h.2.1⟩
/-- a trial is written anew -/
theorem MdY.setT (h : MdY G U1 BB A S B F T M) (ht : t < T.length) (hL : TrO L') (hnm : nmL BB L') (hul : ulL U1 L') (hf : Fr (10576895500643977583230644928524336637254474927428499508554380724390492659780981533203032683947427697224951007628614854246400) M M') (e122 : mI M' 122 0 t = Int32.ofNat (txt L').length) (o122 : ∀ j, j ≠ t → mI M' 122 0 j = mI M 122 0 j) (e412 : ∀ x, x < (txt L').length → mI M' 412 0 (1204 * t + x) = gi (txt L') x) (o412 : ∀ x, (x < 1204 * t ∨ 1204 * t + 1204 ≤ x) → mI M' 412 0 x = mI M 412 0 x) : MdY G U1 BB A S B F (T.set t L') M' := by
  obtain ⟨hB, ⟨hX, hl4⟩, hT⟩ := h
  obtain ⟨⟨e1, h40⟩, ⟨l1, l2⟩, hx⟩ := hX
  rw [List.length_map] at e1 h40
  have hl := hL.2.1
  have hlen : ((T.set t L').map txt).length = T.length := by rw [List.length_map, List.length_set]
  refine ⟨hB.fr (hf.sub rfl), ⟨⟨⟨by rw [hlen]; exact (hf.I (f := 11) (k := 121) rfl 0).trans e1, by rw [hlen]; exact h40⟩, ⟨(hf.L (f := 122) rfl 0).trans l1, (hf.L (f := 412) rfl 0).trans l2⟩, fun i hi2 => ?_⟩, (hf.L (f := 402) rfl 2).trans hl4⟩, fun L hL2 => ?_⟩
  · rw [hlen] at hi2
    have hi3 : i < (T.set t L').length := by rw [List.length_set]; exact hi2
    rw [gTr_map hi3, gTr_set ht]
    by_cases e : i = t
    · subst e
      rw [if_pos rfl]
      exact ⟨⟨e122, by omega⟩, e412⟩
    · rw [if_neg e, o122 i e]
      obtain ⟨⟨x1, x2⟩, x3⟩ := hx i (by rw [List.length_map]; exact hi2)
      rw [gTr_map hi2] at x1 x2 x3
      refine ⟨⟨x1, x2⟩, fun q hq => ?_⟩
      rw [o412 _ (by omega)]
      exact x3 q hq
  · rcases List.mem_or_eq_of_mem_set hL2 with z | z
    · exact hT L z
    · rw [z]; exact ⟨hL, hnm, hul⟩
/-- a text without one of its lines, as it is drafted -/
def erD (L : Trl) (c : Nat) : Nat → List Int32
  | 0 => []
  | k + 1 => if k = c then erD L c k else erD L c k ++ (glL L k ++ [10])
theorem erD_lo {c : Nat} : ∀ k, k ≤ c → k ≤ L.length → erD L c k = txt (L.take k)
  | 0, _, _ => rfl
  | k + 1, h, h2 => by
    unfold erD
    rw [if_neg (by omega), erD_lo k (by omega) (by omega), txt_s (by omega)]
theorem erD_hi {c : Nat} : ∀ k, c < k → k ≤ L.length → erD L c k = txt (L.take c) ++ txt ((L.take k).drop (c + 1))
  | 0, h, _ => absurd h (Nat.not_lt_zero _)
  | k + 1, h, h2 => by
    unfold erD
    by_cases e : k = c
    · subst e
      rw [if_pos rfl, erD_lo k (Nat.le_refl _) (by omega), List.drop_eq_nil_of_le (by rw [List.length_take]; omega)]
      show _ = _ ++ []
      rw [List.append_nil]
    · rw [if_neg e, erD_hi k (by omega) (by omega), takeL_s (by omega), List.drop_append_of_le_length (by rw [List.length_take]; omega), txt_app, txt_11, List.append_assoc]
theorem erD_all {c : Nat} (hc : c < L.length) : erD L c L.length = txt (L.eraseIdx c) := by
  rw [erD_hi _ hc (Nat.le_refl _), List.take_length, txt_er]
theorem erD_len {c : Nat} : ∀ k, k ≤ L.length → (erD L c k).length ≤ (txt (L.take k)).length
  | 0, _ => Nat.zero_le _
  | k + 1, h => by
    have := erD_len (c := c) k (by omega)
    have hl := len_ln (show k < L.length by omega)
    unfold erD
    split
    · omega
    · rw [List.length_append, List.length_append, List.length_singleton]; omega
end
