/-! THE OPERATION shrink, in the twin: the whole -/
section
variable {G : List Sl} {U1 : List (List Kd × Kd)} {BB A : List Nm} {S : List Sg} {B F t : Nat} {T : List Trl} {L L' : Trl} {M M' M0 : Mem} {Q : Int32 → Mem → Prop} {Q' X : Mem → Prop} {a b v : Int32}
abbrev STs : Nat := F_Model_tryDraft ||| (21022075495297667614751928455960893690002438624272829115943839442806697504563795810911475838925470847093888365073324129408307927215659038831381730042108594316069968993921710440066615373648013489084747192164702790165341729959309681053742435982348771802000052373069440771396425769052441514403521407536728128889781028801132578826022062769352911176463634450170163296745842783117938980939247969435740743001570797837710407965981817426675496744371408847255540644683853435409907956707419528276220597673982859710791069009098407760090115938669912137943834639403188507830370601269798039898169080981489165239144575694919684542547605895094295783643386486022949610288499640395373040658654793126647779511115211120505631892026006581024605674375718403810353971988226672991384150071118735359260805836448334210284378550299021477624961784815505849836613829000945773667835109750063160924999729813100506169909125313025032407677869889481835526759210370771887893957223364637313738182103506243014448590545605464319920307175424)
theorem ct_wshrink (h : MdT G U1 BB A S B F T M) (hl9 : mL M 129 0 = 62) (hF : F < 1000000) (hCF : 601 < F) (hQ : ∀ A' S' M', A <+: A' → S <+: S' → MdT G U1 BB A' S' B F (shkO T a b).2 M' → mL M' 129 0 = 62 → Q (shkO T a b).1 M') : w_Model_shrink 0 a b Q X M := by
  have h40 := h.n
  unfold shkO at hQ
  unfold w_Model_shrink
  refine ct_mdTr h (fun z => itp rfl (by rw [if_pos z] at hQ; exact hQ A S M List.prefix_rfl List.prefix_rfl h hl9)) (fun t ht ea ea2 z => itn (by decide) ?_)
  rw [if_neg z, ea2] at hQ
  by_cases cb0 : b < 0
  · rw [if_pos (Or.inl cb0)] at hQ
    exact itp cb0 (hQ A S M List.prefix_rfl List.prefix_rfl h hl9)
  refine itn cb0 ?_
  by_cases cb3 : 255 < b
  · rw [if_pos (Or.inr cb3)] at hQ
    exact itn (Int32.not_le.mpr cb3) (hQ A S M List.prefix_rfl List.prefix_rfl h hl9)
  refine itp (Int32.not_lt.mp cb3) ?_
  rw [if_neg (fun z => z.elim cb0 cb3)] at hQ
  rw [ea]
  obtain ⟨hTO, hnm, hul⟩ := h.2.2 _ (gTr_mem ht)
  refine ct_draft h ht (fun M1 h1 d1 f1 => ct_tryT h1 hTO hnm hul d1 hF hCF (fun A2 S2 M2 p1 p2 p3 d2 f2 o1 o2 => ct_tryT p3 hTO hnm hul d2 hF hCF (fun A3 S3 M3 p4 p5 p6 d3 f3 o3 o4 => ?_)))
  have l3 : mL M3 129 0 = 62 := (((f3.L (f := 129) rfl 0).trans (f2.L (f := 129) rfl 0)).trans (f1.L (f := 129) rfl 0)).trans hl9
  refine ct_linesOf p6 ht l3 (fun M4 f4 lf4 => ?_)
  have h4 := p6.w129 (f4.sub rfl)
  have eS : shL (gTr T t) b = shF b (outS (gTr T t) 0) (outS (gTr T t) b) ((gTr T t).length - 1) (gTr T t) := rfl
  rw [eS] at hQ
  generalize eL0 : gTr T t = L0 at hTO hnm hul o1 o2 o3 o4 hQ eS lf4
  clear eS
  generalize outS L0 0 = oa at o1 o2 hQ
  generalize outS L0 b = ob at o3 o4 hQ
  rw [o1, o2, o3, o4]
  obtain ⟨⟨hne0, h60⟩, hsz0, -, -⟩ := id hTO
  obtain ⟨m0, hm0⟩ : ∃ m0, L0.length = m0 + 1 := ⟨L0.length - 1, by
    cases L0 with
    | nil => exact absurd rfl hne0
    | cons x y => rw [List.length_cons]; omega⟩
  have hTe : T.set t L0 = T := by
    rw [← eL0]
    apply List.ext_getElem?
    intro i
    rw [List.getElem?_set]
    by_cases e : t = i
    · subst e
      rw [if_pos rfl, if_pos ht]
      show some (T.getD t []) = _
      rw [List.getD_eq_getElem?_getD, List.getElem?_eq_getElem ht]; rfl
    · rw [if_neg e]
  have loop : ∀ n k L A5 S5 M5, k < n → k + 1 ≤ L.length → TrO L → nmL BB L → ulL U1 L → A <+: A5 → S <+: S5 → MdY G U1 BB A5 S5 B F (T.set t L) M5 → Fr STs M4 M5 → shF b oa ob k L = shF b oa ob (L0.length - 1) L0 → ∀ v, v + 1 = Int32.ofNat k → w_Model_shrink_L68 0 Q X n (Int32.ofNat t) b oa.1 oa.2 ob.1 ob.2 v M5 := by
    intro n
    induction n with
    | zero => intro k L A5 S5 M5 z; exact absurd z (by omega)
    | succ n ih =>
      intro k L A5 S5 M5 hkn hk q1 q2 q2' q3 q3' q4 q5 q8 v ev
      have ht5 : t < (T.set t L).length := by rw [List.length_set]; exact ht
      have eg : gTr (T.set t L) t = L := by rw [gTr_set ht, if_pos rfl]
      have l5 : mL M5 129 0 = 62 := (q5.L (f := 129) rfl 0).trans lf4.1
      obtain ⟨⟨hne, h60'⟩, hsz, h10, -⟩ := id q1
      have ev2 : v = Int32.ofNat k - 1 := by rw [← ev, Int32.add_sub_cancel]
      have lo : ∀ {M6 : Mem} {Q6 : Int32 → Mem → Prop}, MdY G U1 BB A5 S5 B F (T.set t L) M6 → mL M6 129 0 = 62 → (∀ M', Fr (680564733841876926926749214863536422912) M6 M' → lfT L M' → Q6 (Int32.ofNat L.length) M') → w_Model_linesOf 0 (Int32.ofNat t) Q6 M6 := fun {M6 Q6} g1 g2 g3 => by
        have := ct_linesOfY (Q := Q6) g1 ht5 g2
        rw [eg] at this
        exact this g3
      unfold w_Model_shrink_L68
      cases k with
      | zero =>
        refine itp (by rw [ev2]; decide) ?_
        rw [oN_tnc (k := t) (by omega)]
        refine ⟨by rw [q5.L (f := 522) rfl, h4.2.1.2.1.1]; exact (vp_oN (by omega)).mpr (by omega), ?_⟩
        have f6 : Fr (13729595320261219429963801598162786434538870600286610818788926918371086366795312104245119281322909109954592622782961716074243975999433287625148056582230114304) M5 (sI M5 522 0 t ((0 : Int32) &&& 1)) := Fr.wIa rfl rfl (Fr.rf _ _)
        have e6 : ∀ i, mI (sI M5 522 0 t ((0 : Int32) &&& 1)) 522 0 i = if i = t then 0 else mI M5 522 0 i := fun i => by
          rw [mI_sI]
          by_cases c : i = t
          · rw [if_pos ⟨rfl, rfl, c⟩, if_pos c]; rfl
          · rw [if_neg (fun z => c z.2.2), if_neg c]
        generalize sI M5 522 0 t ((0 : Int32) &&& 1) = M6 at f6 e6 ⊢
        have q6 : MdY G U1 BB A5 S5 B F (T.set t L) M6 := ⟨q4.1.fr (f6.sub rfl), ⟨q4.2.1.1.fr f6, (f6.L (f := 402) rfl 2).trans q4.2.1.2⟩, q4.2.2⟩
        refine lo q6 ((f6.L (f := 129) rfl 0).trans l5) (fun M7 f7 lf7 => ?_)
        have e8 : L = shF b oa ob (L0.length - 1) L0 := q8
        rw [← e8] at hQ
        have q7 := q6.w129 (f7.sub rfl)
        have hLo := h4.2.1.2
        refine hQ A5 S5 M7 q3 q3' ⟨q7.1, ⟨q7.2.1.1, ⟨⟨((f7.L (f := 522) rfl 0).trans (f6.L (f := 522) rfl 0)).trans ((q5.L (f := 522) rfl 0).trans hLo.1.1), ((f7.L (f := 123) rfl 0).trans (f6.L (f := 123) rfl 0)).trans ((q5.L (f := 123) rfl 0).trans hLo.1.2.1), ((f7.L (f := 124) rfl 0).trans (f6.L (f := 124) rfl 0)).trans ((q5.L (f := 124) rfl 0).trans hLo.1.2.2.1), q7.2.1.2⟩, fun i hi h3 => ?_⟩⟩, q7.2.2⟩ lf7.1
        rw [List.length_set] at hi
        rw [f7.Ia (f := 522) rfl rfl, e6] at h3
        by_cases c : i = t
        · rw [if_pos c] at h3; exact absurd rfl h3
        · rw [if_neg c, q5.Ia (f := 522) rfl rfl] at h3
          rw [gTr_set ht, if_neg c, f7.Ia (f := 123) rfl rfl, f6.Ia (f := 123) rfl rfl, q5.Ia (f := 123) rfl rfl, f7.Ia (f := 124) rfl rfl, f6.Ia (f := 124) rfl rfl, q5.Ia (f := 124) rfl rfl]
          exact hLo.2 i hi h3
      | succ k =>
        rw [show Int32.ofNat (k + 1) - 1 = Int32.ofNat k from by rw [← oN_add]; exact Int32.add_sub_cancel _ _] at ev2
        subst ev2
        have q8 : shF b oa ob k (if sm2 (L.eraseIdx k) b oa ob = true then L.eraseIdx k else L) = shF b oa ob (L0.length - 1) L0 := q8
        have hkL : k < L.length := by omega
        have hTO' : TrO (L.eraseIdx k) := q1.er (by omega)
        have hnm' : nmL BB (L.eraseIdx k) := q2.er
        have hul' : ulL U1 (L.eraseIdx k) := q2'.er
        have hel := er_len hkL
        have hsz' := hTO'.2.1
        refine itn (nlt_oN (b := 0) (Nat.zero_le _) (by omega)) (lo q4 l5 (fun M6 f6 lf6 => ⟨L.length + 1, ?_⟩))
        have q6 := q4.w129 (f6.sub rfl)
        have f7 : Fr (21022075495297667614751928455960893690002438624272829115943839442806697504563795810911475838925470847093888365073324129408307927215659038831381730042108594316069968993921710440066615373648013489084747192164702790165341729959309681053742435982348771802000052373069440771396425769052441514403521407536728128889781028801132578826022062769352911176463634450170163296745842783117938980939247969435740743001570797837710407965981817426675496744371408847255540644683853435409907956707419528276220597673982859710791069009098407760090115938669912137943834639403188507830370601269798039898169080981489165239144575694919684542547605895094295783643386486022949610288499640395373040658654793126647779511115211120505631892026006581024605674375718403810353971988226672991384150071118735359260805836448334210284378550299021477624961784815505849836613829000945773667835109750063160924999729813089929274408481335441801762749345552844581051831781871263333513232832871977532756648900473559067020893320654456691305452929024) M6 (sI M6 11 0 123 0) := Fr.wI rfl (Fr.rf _ _)
        have j215 : ∀ L2 A8 S8 M8, k + 1 ≤ L2.length → TrO L2 → nmL BB L2 → ulL U1 L2 → A <+: A8 → S <+: S8 → MdY G U1 BB A8 S8 B F (T.set t L2) M8 → Fr STs M4 M8 → shF b oa ob k L2 = shF b oa ob (L0.length - 1) L0 → w_Model_shrink_j215 0 Q X (w_Model_shrink_L68 0 Q X n) (Int32.ofNat t) b oa.1 oa.2 ob.1 ob.2 (Int32.ofNat k) M8 := fun L2 A8 S8 M8 y1 y2 y3 y4 y5 y6 y7 y8 y9 => by
          unfold w_Model_shrink_j215
          exact ih k L2 A8 S8 M8 (by omega) y1 y2 y3 y4 y5 y6 y7 y8 y9 _ (by rw [← Int32.sub_eq_add_neg]; exact Int32.sub_add_cancel _ _)
        have keep : ∀ A8 S8 M8, A <+: A8 → S <+: S8 → MdY G U1 BB A8 S8 B F (T.set t L) M8 → Fr STs M4 M8 → sm2 (L.eraseIdx k) b oa ob = false → w_Model_shrink_j179 0 Q X (w_Model_shrink_L68 0 Q X n) (Int32.ofNat t) b oa.1 oa.2 ob.1 ob.2 (Int32.ofNat k) 0 M8 := fun A8 S8 M8 y1 y2 y3 y4 y5 => by
          unfold w_Model_shrink_j179
          rw [y5, if_neg (by decide)] at q8
          exact itp rfl (j215 L A8 S8 M8 (by omega) q1 q2 q2' y1 y2 y3 y4 q8)
        -- lines are drafted
        have dl : ∀ m x A6 S6 M7, L.length - x < m → x ≤ L.length → A <+: A6 → S <+: S6 → MdY G U1 BB A6 S6 B F (T.set t L) M7 → lfT L M7 → dfD (erD L k x) M7 → Fr STs M4 M7 → w_Model_shrink_L88 0 Q X (w_Model_shrink_L68 0 Q X n) m (Int32.ofNat t) b oa.1 oa.2 ob.1 ob.2 (Int32.ofNat k) (Int32.ofNat L.length) (Int32.ofNat x) M7 := by
          intro m
          induction m with
          | zero => intro x A6 S6 M7 z; exact absurd z (by omega)
          | succ m im =>
            intro x A6 S6 M7 hm hx y1 y2 y3 y4 y5 y6
            unfold w_Model_shrink_L88
            by_cases ex : x = L.length
            · subst ex
              rw [erD_all hkL] at y5
              refine itp (le_oN (Nat.le_refl _) (by omega)) (ct_tryY y3 hTO' hnm' hul' (dfT.ofD y5) hF hCF (fun A8 S8 M8 g1 g2 g3 g4 g5 g6 g7 => ?_))
              generalize ec : outS (L.eraseIdx k) 0 = oc at g6 g7
              have f8 : Fr STs M4 M8 := y6.trans (g5.sub rfl)
              have j141 : oc ≠ oa → w_Model_shrink_j141 0 Q X (w_Model_shrink_L68 0 Q X n) (Int32.ofNat t) b oa.1 oa.2 ob.1 ob.2 (Int32.ofNat k) M8 := fun hne => by
                unfold w_Model_shrink_j141 w_Model_shrink_j142
                exact itp rfl (keep A8 S8 M8 (y1.trans g1) (y2.trans g2) g3 f8 (by rw [sm2_df, ec]; exact decide_eq_false (fun z => hne z.1)))
              rw [g6, g7]
              by_cases c1 : oc.1 = oa.1
              · refine itp c1 ?_
                by_cases c2 : oc.2 = oa.2
                · refine itp c2 ?_
                  have eca : oc = oa := Prod.ext c1 c2
                  unfold w_Model_shrink_j142
                  refine itn (by decide) (ct_tryY g3 hTO' hnm' hul' g4 hF hCF (fun A9 S9 M9 u1 u2 u3 u4 u5 u6 u7 => ?_))
                  generalize ed : outS (L.eraseIdx k) b = od at u6 u7
                  have f9 : Fr STs M4 M9 := f8.trans (u5.sub rfl)
                  have j176 : od ≠ ob → w_Model_shrink_j176 0 Q X (w_Model_shrink_L68 0 Q X n) (Int32.ofNat t) b oa.1 oa.2 ob.1 ob.2 (Int32.ofNat k) M9 := fun hne => by
                    unfold w_Model_shrink_j176 w_Model_shrink_j177
                    exact keep A9 S9 M9 ((y1.trans g1).trans u1) ((y2.trans g2).trans u2) u3 f9 (by rw [sm2_df, ed]; exact decide_eq_false (fun z => hne z.2))
                  rw [u6, u7]
                  by_cases c3 : od.1 = ob.1
                  · refine itp c3 ?_
                    by_cases c4 : od.2 = ob.2
                    · refine itp c4 ?_
                      have edb : od = ob := Prod.ext c3 c4
                      have es : sm2 (L.eraseIdx k) b oa ob = true := by rw [sm2_df, ec, ed]; exact decide_eq_true ⟨eca, edb⟩
                      rw [es, if_pos rfl] at q8
                      unfold w_Model_shrink_j177 w_Model_shrink_j179
                      obtain ⟨⟨v1, v2⟩, v3⟩ := u4
                      have l412 := u3.2.1.1.2.1.2
                      rw [v3, lit32 1204, oN_mul, oN_tnc (k := 1204 * t) (by omega), oN_tnc (k := (txt (L.eraseIdx k)).length) (by omega), show (0 : Int32).toNatClampNeg = 0 from rfl]
                      refine itn (by decide) ⟨by decide, nlt_oN (b := 0) (by omega) (by omega), nlt_oN (b := 0) (by omega) (by omega), by rw [v1]; omega, by rw [l412]; omega, _, rfl, ?_⟩
                      rw [oN_tnc (k := t) (by omega), show mI (cpI M9 402 2 0 412 0 (1204 * t) (txt (L.eraseIdx k)).length) 11 0 123 = Int32.ofNat (txt (L.eraseIdx k)).length from by rw [mI_cpI, if_neg (fun z => absurd z.1 (by decide))]; exact v3]
                      refine ⟨show vp_in _ (mL M9 122 0) from by rw [u3.2.1.1.2.1.1]; exact (vp_oN (by omega)).mpr (by omega), ?_⟩
                      have fA : Fr (10576895500643977583230644928524336637254474927428499508554380724390492659780981533203032683947427697224951007628614854246400) M9 (sI (cpI M9 402 2 0 412 0 (1204 * t) (txt (L.eraseIdx k)).length) 122 0 t (Int32.ofNat (txt (L.eraseIdx k)).length)) := Fr.wIa rfl rfl (Fr.wcp rfl rfl (Fr.rf _ _))
                      have hS := u3.setT ht5 hTO' hnm' hul' fA (by rw [mI_sI, if_pos ⟨rfl, rfl, rfl⟩]) (fun j hj => by rw [mI_sI, if_neg (fun z => hj z.2.2), mI_cpI, if_neg (fun z => absurd z.1 (by decide))]) (fun x hx => by
                        rw [mI_sI, if_neg (fun z => absurd z.1 (by decide)), mI_cpI, if_pos ⟨rfl, rfl⟩, if_pos ⟨by omega, by omega⟩, Nat.zero_add, Nat.add_sub_cancel_left]
                        exact v2 x hx) (fun x hx => by rw [mI_sI, if_neg (fun z => absurd z.1 (by decide)), mI_cpI, if_pos ⟨rfl, rfl⟩, if_neg (by omega)])
                      rw [List.set_set] at hS
                      exact j215 (L.eraseIdx k) A9 S9 _ (by omega) hTO' hnm' hul' ((y1.trans g1).trans u1) ((y2.trans g2).trans u2) hS (f9.trans (fA.sub rfl)) q8
                    · exact itn c4 (j176 (fun z => c4 (by rw [z])))
                  · exact itn c3 (j176 (fun z => c3 (by rw [z])))
                · exact itn c2 (j141 (fun z => c2 (by rw [z])))
              · exact itn c1 (j141 (fun z => c1 (by rw [z])))
            refine itn (nle_oN (by omega) (by omega)) ?_
            have hxL : x < L.length := by omega
            have j109 : ∀ M8, MdY G U1 BB A6 S6 B F (T.set t L) M8 → lfT L M8 → dfD (erD L k (x + 1)) M8 → Fr STs M4 M8 → w_Model_shrink_j109 0 Q X (w_Model_shrink_L68 0 Q X n) (w_Model_shrink_L88 0 Q X (w_Model_shrink_L68 0 Q X n) m) (Int32.ofNat t) b oa.1 oa.2 ob.1 ob.2 (Int32.ofNat k) (Int32.ofNat L.length) (Int32.ofNat x) M8 := fun M8 z1 z2 z3 z4 => by
              unfold w_Model_shrink_j109
              rw [lit32 1, oN_add]
              exact im (x + 1) A6 S6 M8 (by omega) (by omega) y1 y2 z1 z2 z3 z4
            have es : erD L k (x + 1) = if x = k then erD L k x else erD L k x ++ (glL L x ++ [10]) := rfl
            by_cases exk : x = k
            · rw [es, if_pos exk] at j109
              exact itp (by rw [exk]) (j109 M7 y3 y4 y5 y6)
            · rw [es, if_neg exk] at j109
              refine itn (fun z => exk ((eqN (by omega) (by omega)).mp z)) ?_
              have hle := erD_len (L := L) (c := k) x (by omega)
              have hle1 := len_ln hxL
              have hle2 := txt_take_le (L := L) (k := x + 1)
              have := ct_draftLineY (i := x) (D := erD L k x) (Q' := fun M34 => w_Model_shrink_j109 0 Q X (w_Model_shrink_L68 0 Q X n) (w_Model_shrink_L88 0 Q X (w_Model_shrink_L68 0 Q X n) m) (Int32.ofNat t) b oa.1 oa.2 ob.1 ob.2 (Int32.ofNat k) (Int32.ofNat L.length) (Int32.ofNat x) M34) y3 ht5
              rw [eg] at this
              exact this y4 hxL y5 (by show _ + ((glL L x).length + 1) ≤ 2408; omega) (fun M8 z1 z2 z3 z4 => j109 M8 z1 z2 z3 (y6.trans (z4.sub rfl)))
        exact dl (L.length + 1) 0 A5 S5 _ (by omega) (Nat.zero_le _) q3 q3' (q6.w129 f7) ⟨lf6.1, fun i hi => by rw [mI_sI, if_neg (fun z => absurd z.1 (by decide))]; exact lf6.2 i hi⟩ ⟨q6.2.1.2, by rw [mI_sI, if_pos ⟨rfl, rfl, rfl⟩]; rfl, fun x hx => absurd hx (by show ¬ x < 0; omega)⟩ ((q5.trans (f6.sub rfl)).trans (f7.sub rfl))
  refine ⟨m0 + 1, ?_⟩
  refine loop (m0 + 1) m0 L0 A3 S3 M4 (by omega) (by omega) hTO hnm hul (p1.trans p4) (p2.trans p5) (by rw [hTe]; exact h4.y) (Fr.rf _ _) (by rw [show L0.length - 1 = m0 by omega]) _ ?_
  rw [hm0, ← oN_add, Int32.sub_eq_add_neg, Int32.add_assoc, Int32.add_assoc, show (Int32.ofNat 1 + (-2 + 1) : Int32) = 0 by decide, Int32.add_zero]
end
