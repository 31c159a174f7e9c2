/-! THE OPERATION least, in the twin -/
section
variable {G : List Sl} {U1 : List (List Kd × Kd)} {BB A : List Nm} {S : List Sg} {B F t b : Nat} {T : List Trl} {L : Trl} {M M' M0 : Mem} {Q : Int32 → Mem → Prop} {X : Mem → Prop} {a c d v : Int32} {k n : Nat} {v1 v3 : Int64} {K : Int64 → Int64 → Int32 → Mem → Prop}
/-- the trial that lies at a place, while those from t on move up to k -/
abbrev gSh (T : List Trl) (t k j : Nat) : Trl := if t ≤ j ∧ j < k then gTr T (j + 1) else gTr T j
/-- trials from t on have been moved, up to k -/
def LmI (M0 : Mem) (T : List Trl) (t k : Nat) (M : Mem) : Prop := Fr (10576895500643977583230644928524336637254474927428499508554380724390492659780981533203064585419326535205900698998061582516224) M0 M ∧ ∀ j, j < T.length → (mI M 122 0 j = Int32.ofNat (txt (gSh T t k j)).length ∧ mI M 123 0 j = metN (gSh T t k j) ∧ mI M 124 0 j = fnK (gSh T t k j) 8) ∧ ∀ x, x < (txt (gSh T t k j)).length → mI M 412 0 (1204 * j + x) = gi (txt (gSh T t k j)) x
theorem ct_lm78 (h : MdT G U1 BB A S B F T M0) (ht : t < T.length) (hlk : ∀ i, i < T.length → mI M0 522 0 i ≠ 0) (hQ : ∀ M', MdT G U1 BB A S B F (T.eraseIdx t) M' → (∀ i, i < (T.eraseIdx t).length → mI M' 522 0 i ≠ 0) → w_Model_least_j187 0 Q X K v1 v3 v M') : ∀ n k M, T.length - 1 - k < n → t ≤ k → k ≤ T.length - 1 → LmI M0 T t k M → w_Model_least_L78 0 Q X K n v1 v3 v (Int32.ofNat k) M := by
  have h40 := h.n
  obtain ⟨hB, ⟨hX, hLo⟩, hT⟩ := h
  obtain ⟨-, ⟨l122, l412⟩, hx⟩ := id hX
  have hlen : ∀ i, i < T.length → (txt (gTr T i)).length ≤ 1201 := fun i hi => (hT _ (gTr_mem hi)).1.2.1
  intro n
  induction n with
  | zero => intro k M z; exact absurd z (by omega)
  | succ n ih =>
    intro k M hn htk hk hI
    obtain ⟨hf, hI⟩ := hI
    have e121 : mI M 11 0 121 = Int32.ofNat T.length := (hf.I (f := 11) (k := 121) rfl 0).trans h40.1
    have m122 : mL M 122 0 = 40 := (hf.L (f := 122) rfl 0).trans l122
    have m412 : mL M 412 0 = 48160 := (hf.L (f := 412) rfl 0).trans l412
    have m123 : mL M 123 0 = 40 := (hf.L (f := 123) rfl 0).trans hLo.1.2.1
    have m124 : mL M 124 0 = 40 := (hf.L (f := 124) rfl 0).trans hLo.1.2.2.1
    unfold w_Model_least_L78
    rw [e121, show Int32.ofNat T.length - 1 = Int32.ofNat (T.length - 1) from by rw [lit32 1, oN_sub (by omega)]]
    by_cases ek : k = T.length - 1
    · subst ek
      refine itp (le_oN (Nat.le_refl _) (by omega)) ?_
      have f2 : Fr (5255518873824416903687982113990223422500609656068207278985959860701674376140948952727868959731367711773472091268331032352076981803914759707845432510527148579017492248480427610016653843412003372271186798041175697541335432489827420263435608995587192950500013093267360192849106442263110378600880351884182032222445257200283144706505515692338227794115908612542540824186460695779484745234811992358935185750392699459427601991495454356668874186092852211813885161170963358852476989176854882069055149418495714927697767252274601940022528984667478034485958659850797126957592650317449509974542270245372291309786143923729921135636901473773573945910846621505737402572124910098843260164663698281661944877778802780126407973006501645256151418593929600952588492997056668247846037517779683839815201459112083552571094637574755369406240446203876462459153457250236443416958777437515790231249932453283056631852886224535091429696688721836525408179581138100874928373242170006542153854233383188649341151472896722695199314149376) M0 (sI M 11 0 121 (Int32.ofNat (T.length - 1))) := Fr.wI rfl (hf.sub rfl)
      have hle : (T.eraseIdx t).length = T.length - 1 := by rw [List.length_eraseIdx, if_pos ht]
      have gs : ∀ j, j < T.length - 1 → gSh T t (T.length - 1) j = gTr (T.eraseIdx t) j := fun j hj => by
        rw [gTr_er]
        by_cases c1 : j < t
        · rw [if_pos c1]; exact if_neg (by omega)
        · rw [if_neg c1]; exact if_pos (by omega)
      have i9 : ∀ f j, f ≠ 11 → mI (sI M 11 0 121 (Int32.ofNat (T.length - 1))) f 0 j = mI M f 0 j := fun f j hne => by rw [mI_sI, if_neg (fun z => hne z.1)]
      refine hQ _ ⟨hB.fr (f2.sub rfl), ⟨⟨⟨?_, ?_⟩, ⟨m122, m412⟩, fun j hj => ?_⟩, ⟨⟨(f2.L (f := 522) rfl 0).trans hLo.1.1, m123, m124, (f2.L (f := 402) rfl 2).trans hLo.1.2.2.2⟩, fun j hj _ => ?_⟩⟩, fun L hL => hT L (List.mem_of_mem_eraseIdx hL)⟩ (fun i hi => ?_)
      · rw [List.length_map, hle, mI_sI, if_pos ⟨rfl, rfl, rfl⟩]
      · rw [List.length_map, hle]; omega
      · rw [List.length_map, hle] at hj
        have hj' : j < (T.eraseIdx t).length := by rw [hle]; exact hj
        rw [gTr_map hj', ← gs j hj, i9 122 j (by decide)]
        obtain ⟨⟨q1, -, -⟩, q2⟩ := hI j (by omega)
        refine ⟨⟨q1, ?_⟩, fun x hx => by rw [i9 412 _ (by decide)]; exact q2 x hx⟩
        have : ∀ j, j < T.length - 1 → (txt (gSh T t (T.length - 1) j)).length ≤ 1204 := fun j hj => by
          by_cases c1 : t ≤ j ∧ j < T.length - 1
          · show (txt (if _ then _ else _)).length ≤ _
            rw [if_pos c1]; exact Nat.le_trans (hlen (j + 1) (by omega)) (by omega)
          · show (txt (if _ then _ else _)).length ≤ _
            rw [if_neg c1]; exact Nat.le_trans (hlen j (by omega)) (by omega)
        exact this j hj
      · rw [hle] at hj
        rw [← gs j hj, i9 123 j (by decide), i9 124 j (by decide)]
        exact ⟨(hI j (by omega)).1.2.1, (hI j (by omega)).1.2.2⟩
      · rw [hle] at hi
        rw [f2.Ia (f := 522) rfl rfl]
        exact hlk i (by omega)
    refine itn (nle_oN (by omega) (by omega)) ?_
    have eg : gSh T t k (k + 1) = gTr T (k + 1) := if_neg (by omega)
    have hl1 := hlen (k + 1) (by omega)
    obtain ⟨⟨q1, q2, q3⟩, q4⟩ := hI (k + 1) (by omega)
    rw [eg] at q1 q2 q3 q4
    rw [lit32 1, oN_add, oN_tnc (k := k + 1) (by omega), oN_tnc (k := k) (by omega), q1, lit32 1204, oN_mul, oN_mul, oN_tnc (k := 1204 * (k + 1)) (by omega), oN_tnc (k := 1204 * k) (by omega), oN_tnc (k := (txt (gTr T (k + 1))).length) (by omega)]
    have vp1 : vp_in (Int32.ofNat (k + 1)) 40 := (vp_oN (by omega)).mpr (by omega)
    have vp0 : vp_in (Int32.ofNat k) 40 := (vp_oN (by omega)).mpr (by omega)
    refine ⟨by rw [m122]; exact vp1, nlt_oN (b := 0) (by omega) (by omega), nlt_oN (b := 0) (by omega) (by omega), nlt_oN (b := 0) (by omega) (by omega), by rw [m412]; omega, by rw [m412]; omega, _, rfl, show vp_in _ (mL M 122 0) from by rw [m122]; exact vp1, show vp_in _ (mL M 122 0) from by rw [m122]; exact vp0, _, rfl, show vp_in _ (mL M 123 0) from by rw [m123]; exact vp1, show vp_in _ (mL M 123 0) from by rw [m123]; exact vp0, _, rfl, show vp_in _ (mL M 124 0) from by rw [m124]; exact vp1, show vp_in _ (mL M 124 0) from by rw [m124]; exact vp0, _, rfl, ?_⟩
    have o1 : ∀ f j, f ≠ 412 → mI (cpI M 412 0 (1204 * (k + 1)) 412 0 (1204 * k) (txt (gTr T (k + 1))).length) f 0 j = mI M f 0 j := fun f j hne => by rw [mI_cpI, if_neg (fun z => hne z.1)]
    rw [show mI (cpI M 412 0 (1204 * (k + 1)) 412 0 (1204 * k) (txt (gTr T (k + 1))).length) 122 0 (k + 1) = Int32.ofNat (txt (gTr T (k + 1))).length from (o1 122 _ (by decide)).trans q1]
    rw [show mI (sI (cpI M 412 0 (1204 * (k + 1)) 412 0 (1204 * k) (txt (gTr T (k + 1))).length) 122 0 k (Int32.ofNat (txt (gTr T (k + 1))).length)) 123 0 (k + 1) = metN (gTr T (k + 1)) from by rw [mI_sI, if_neg (fun z => absurd z.1 (by decide))]; exact (o1 123 _ (by decide)).trans q2]
    rw [show mI (sI (sI (cpI M 412 0 (1204 * (k + 1)) 412 0 (1204 * k) (txt (gTr T (k + 1))).length) 122 0 k (Int32.ofNat (txt (gTr T (k + 1))).length)) 123 0 k (metN (gTr T (k + 1)))) 124 0 (k + 1) = fnK (gTr T (k + 1)) 8 from by rw [mI_sI, if_neg (fun z => absurd z.1 (by decide)), mI_sI, if_neg (fun z => absurd z.1 (by decide))]; exact (o1 124 _ (by decide)).trans q3]
    refine ih (k + 1) _ (by omega) (by omega) (by omega) ⟨Fr.wIa rfl rfl (Fr.wIa rfl rfl (Fr.wIa rfl rfl (Fr.wcp rfl rfl hf))), fun j hj => ?_⟩
    by_cases ej : j = k
    · subst ej
      have eg2 : gSh T t (j + 1) j = gTr T (j + 1) := if_pos (by omega)
      rw [eg2]
      refine ⟨⟨?_, ?_, ?_⟩, fun x hx => ?_⟩
      · rw [mI_sI, if_neg (fun z => absurd z.1 (by decide)), mI_sI, if_neg (fun z => absurd z.1 (by decide)), mI_sI, if_pos ⟨rfl, rfl, rfl⟩]
      · rw [mI_sI, if_neg (fun z => absurd z.1 (by decide)), mI_sI, if_pos ⟨rfl, rfl, rfl⟩]
      · rw [mI_sI, if_pos ⟨rfl, rfl, rfl⟩]
      · rw [mI_sI, if_neg (fun z => absurd z.1 (by decide)), mI_sI, if_neg (fun z => absurd z.1 (by decide)), mI_sI, if_neg (fun z => absurd z.1 (by decide)), mI_cpI, if_pos ⟨rfl, rfl⟩, if_pos ⟨by omega, by omega⟩, show 1204 * (j + 1) + (1204 * j + x - 1204 * j) = 1204 * (j + 1) + x by omega]
        exact q4 x hx
    · have eg2 : gSh T t (k + 1) j = gSh T t k j := by
        by_cases c1 : t ≤ j ∧ j < k
        · show (if _ then _ else _) = (if _ then _ else _)
          rw [if_pos c1, if_pos (by omega)]
        · show (if _ then _ else _) = (if _ then _ else _)
          rw [if_neg c1, if_neg (by omega)]
      obtain ⟨⟨z1, z2, z3⟩, z4⟩ := hI j hj
      have hl2 : (txt (gSh T t k j)).length ≤ 1201 := by
        by_cases c1 : t ≤ j ∧ j < k
        · show (txt (if _ then _ else _)).length ≤ _
          rw [if_pos c1]; exact hlen (j + 1) (by omega)
        · show (txt (if _ then _ else _)).length ≤ _
          rw [if_neg c1]; exact hlen j hj
      rw [eg2]
      refine ⟨⟨?_, ?_, ?_⟩, fun x hx => ?_⟩
      · rw [mI_sI, if_neg (fun z => absurd z.1 (by decide)), mI_sI, if_neg (fun z => absurd z.1 (by decide)), mI_sI, if_neg (fun z => ej z.2.2), o1 122 _ (by decide)]; exact z1
      · rw [mI_sI, if_neg (fun z => absurd z.1 (by decide)), mI_sI, if_neg (fun z => ej z.2.2), mI_sI, if_neg (fun z => absurd z.1 (by decide)), o1 123 _ (by decide)]; exact z2
      · rw [mI_sI, if_neg (fun z => ej z.2.2), mI_sI, if_neg (fun z => absurd z.1 (by decide)), mI_sI, if_neg (fun z => absurd z.1 (by decide)), o1 124 _ (by decide)]; exact z3
      · rw [mI_sI, if_neg (fun z => absurd z.1 (by decide)), mI_sI, if_neg (fun z => absurd z.1 (by decide)), mI_sI, if_neg (fun z => absurd z.1 (by decide)), mI_cpI, if_pos ⟨rfl, rfl⟩, if_neg (by omega)]
        exact z4 x hx
theorem ct_wleast (h : MdT G U1 BB A S B F T M) (hF : F < 1000000) (hCF : 601 < F) (hQ : ∀ A' S' M', A <+: A' → S <+: S' → MdT G U1 BB A' S' B F (leaF T.length T) M' → Q (Int32.ofNat (leaF T.length T).length) M') : w_Model_least 0 Q X M := by
  have l45 : ∀ n k T1 A1 S1 M1, k < n → k ≤ T1.length → A <+: A1 → S <+: S1 → MdT G U1 BB A1 S1 B F T1 M1 → (∀ i, i < T1.length → mI M1 522 0 i ≠ 0) → leaF k T1 = leaF T.length T → ∀ v, v + 1 = Int32.ofNat k → w_Model_least_L45 0 Q X n (tg mb T1 40 T1.length) (tg fb T1 40 T1.length) v M1 := by
    intro n
    induction n with
    | zero => intro k T1 A1 S1 M1 z; exact absurd z (by omega)
    | succ n ih =>
      intro k T1 A1 S1 M1 hn hk p1 p2 p3 p4 e v ev
      have h40 := p3.n
      have ev2 : v = Int32.ofNat k - 1 := by rw [← ev, Int32.add_sub_cancel]
      unfold w_Model_least_L45
      cases k with
      | zero =>
        refine itp (by rw [ev2]; decide) ?_
        have e : T1 = leaF T.length T := e
        rw [h40.1, e]
        rw [e] at p3
        exact hQ A1 S1 M1 p1 p2 p3
      | succ k =>
        rw [show Int32.ofNat (k + 1) - 1 = Int32.ofNat k from by rw [← oN_add]; exact Int32.add_sub_cancel _ _] at ev2
        subst ev2
        have hO : ∀ L ∈ T1, TrO L := fun L hL => (p3.2.2 L hL).1
        have hv : ∀ o, o < T1.length → (Int32.ofNat o = Int32.ofNat k ↔ o = k) := fun o ho => oN_inj (by omega) (by omega)
        refine itn (nlt_oN (b := 0) (Nat.zero_le _) (by omega)) (ct_together p3 p4 hv ?_)
        have j187 : ∀ T2 M2, k ≤ T2.length → MdT G U1 BB A1 S1 B F T2 M2 → (∀ i, i < T2.length → mI M2 522 0 i ≠ 0) → leaF k T2 = leaF T.length T → tg mb T2 40 T2.length = tg mb T1 40 T1.length → tg fb T2 40 T2.length = tg fb T1 40 T1.length → w_Model_least_j187 0 Q X (w_Model_least_L45 0 Q X n) (tg mb T1 40 T1.length) (tg fb T1 40 T1.length) (Int32.ofNat k) M2 := fun T2 M2 g0 g2 g3 g4 g5 g6 => by
          unfold w_Model_least_j187
          rw [← g5, ← g6]
          exact ih k T2 A1 S1 M2 (by omega) g0 p1 p2 g2 g3 g4 _ (by rw [← Int32.sub_eq_add_neg]; exact Int32.sub_add_cancel _ _)
        have e : leaF k (if neL T1 k = true then T1.eraseIdx k else T1) = leaF T.length T := e
        have hne := ne_iff hO (show k < T1.length by omega) h40.2
        rw [if_pos rfl]
        by_cases c1 : tg mb T1 k T1.length = tg mb T1 40 T1.length
        · refine itp (lg_cmp0.mpr c1) (ct_together p3 p4 hv ?_)
          rw [if_neg (show ¬ (1 : Int32) = 0 by decide)]
          by_cases c2 : tg fb T1 k T1.length = tg fb T1 40 T1.length
          · rw [if_pos (hne.mp ⟨c1, c2⟩)] at e
            have hle : (T1.eraseIdx k).length = T1.length - 1 := by rw [List.length_eraseIdx, if_pos (by omega)]
            refine itp (lg_cmp0.mpr c2) ⟨T1.length + 1, ct_lm78 p3 (by omega) p4 (fun M2 g1 g2 => j187 (T1.eraseIdx k) M2 (by rw [hle]; omega) g1 g2 e (by rw [hle, tg_er (by omega) h40.2]; exact c1) (by rw [hle, tg_er (by omega) h40.2]; exact c2)) (T1.length + 1) k M1 (by omega) (Nat.le_refl _) (by omega) ⟨Fr.rf _ _, fun j hj => ?_⟩⟩
            have eg : gSh T1 k k j = gTr T1 j := if_neg (by omega)
            obtain ⟨⟨z1, -⟩, z2⟩ := p3.2.1.1.2.2 j (by rw [List.length_map]; exact hj)
            rw [gTr_map hj] at z1 z2
            obtain ⟨z3, z4⟩ := p3.2.1.2.2 j hj (p4 j hj)
            rw [eg]
            exact ⟨⟨z1, z3, z4⟩, z2⟩
          · rw [if_neg (fun z => c2 (hne.mpr z).2)] at e
            exact itn (fun z => c2 (lg_cmp0.mp z)) (j187 T1 M1 (by omega) p3 p4 e rfl rfl)
        · rw [if_neg (fun z => c1 (hne.mpr z).1)] at e
          exact itn (fun z => c1 (lg_cmp0.mp z)) (j187 T1 M1 (by omega) p3 p4 e rfl rfl)
  have l2 : ∀ n k A1 S1 M1, T.length - k < n → k ≤ T.length → A <+: A1 → S <+: S1 → MdT G U1 BB A1 S1 B F T M1 → (∀ i, i < k → mI M1 522 0 i ≠ 0) → w_Model_least_L2 0 Q X n (Int32.ofNat k) M1 := by
    intro n
    induction n with
    | zero => intro k A1 S1 M1 z; exact absurd z (by omega)
    | succ n ih =>
      intro k A1 S1 M1 hn hk p1 p2 p3 p4
      have h40 := p3.n
      unfold w_Model_least_L2
      rw [h40.1]
      by_cases ek : k = T.length
      · subst ek
        have hv : ∀ o, o < T.length → (Int32.ofNat o = -2 ↔ o = 40) := fun o ho => ⟨fun z => absurd z (fun z => by
          have := congrArg Int32.toInt z
          rw [oN_toInt (by omega), show (-2 : Int32).toInt = -2 from rfl] at this
          omega), fun z => absurd z (by omega)⟩
        refine itp (le_oN (Nat.le_refl _) (by omega)) (ct_together p3 p4 hv (ct_together p3 p4 hv ?_))
        rw [if_pos rfl, if_neg (show ¬ (1 : Int32) = 0 by decide), h40.1]
        exact ⟨T.length + 1, l45 (T.length + 1) T.length T A1 S1 M1 (by omega) (Nat.le_refl _) p1 p2 p3 p4 rfl _ (Int32.sub_add_cancel _ _)⟩
      refine itn (nle_oN (by omega) (by omega)) (ct_look p3 (by omega) hF hCF (fun A2 S2 M2 p5 p6 p7 p8 p9 => ?_))
      rw [lit32 1, oN_add]
      refine ih (k + 1) A2 S2 M2 (by omega) (by omega) (p1.trans p5) (p2.trans p6) p7 (fun i hi => ?_)
      by_cases e : i = k
      · rw [e]; exact p8
      · rw [p9 i e]; exact p4 i (by omega)
  unfold w_Model_least
  exact ⟨T.length + 1, l2 (T.length + 1) 0 A S M (by omega) (Nat.zero_le _) List.prefix_rfl List.prefix_rfl h (fun i hi => absurd hi (by omega))⟩
end
