/-! THE OPERATION shrink, in the works -/
section
variable {BB A : List Nm} {B F t r : Nat} {T : List Trl} {L L' : Trl} {M M' M0 : Mem} {Q : Int32 → Mem → Prop} {Q' X : Mem → Prop} {a b c d v : Int32}
abbrev SSh : Nat := F_Works_work1 ||| (2582249878086908589655919172003011874329705792829223512830659356540647622016841194629645353280137831435903171972747493376)
/-- the trial that lies in a row is another one -/
theorem WkT.setT (h : (cTx (T.map txt) M ∧ cKn T M) ∧ ∀ L ∈ T, TrO L ∧ nmL BB L) (ht : t < T.length) (hW : WkB BB A B F M') (hL : TrO L') (hnm : nmL BB L') (hf : Fr (SSh ||| (214524926879081553593184399971293538039669853129478294043576983099548224481176751628829988770670454843040509730983776813660062441903795176200288758273146880)) M M') (e98 : mI M' 98 0 t = Int32.ofNat (txt L').length) (o98 : ∀ j, j ≠ t → mI M' 98 0 j = mI M 98 0 j) (hr : mR M 701 0 t = some (400, r)) (e400 : ∀ k, k < (txt L').length → mI M' 400 r k = gi (txt L') k) (o400 : ∀ q k, q ≠ r → q ≠ 41 → mI M' 400 q k = mI M 400 q k) (e516 : ∀ k, k < 9 → mI M' 516 0 (9 * t + k) = 0) (o516 : ∀ q, (q < 9 * t ∨ 9 * t + 9 ≤ q) → mI M' 516 0 q = mI M 516 0 q) : WkT BB A B F (T.set t L') M' := by
  obtain ⟨⟨hX, hK⟩, hT⟩ := h
  obtain ⟨⟨e10, h40⟩, ⟨l701, l98⟩, π, hr', hi, hx⟩ := hX
  rw [List.length_map] at e10 h40
  have er : π t = r := by
    have := (hr' t (by omega)).1.symm.trans hr
    cases this; rfl
  have hl := hL.2.1
  have hlen : ((T.set t L').map txt).length = T.length := by rw [List.length_map, List.length_set]
  refine ⟨hW, ⟨⟨⟨by rw [hlen]; exact (hf.I (f := 10) (k := 10) rfl 0).trans e10, by rw [hlen]; exact h40⟩, ⟨(hf.L (f := 701) rfl 0).trans l701, (hf.L (f := 98) rfl 0).trans l98⟩, π, fun t ht => ?_, hi, fun i hi2 => ?_⟩, ⟨(hf.L (f := 516) rfl 0).trans hK.1.1, (hf.L (f := 99) rfl 0).trans hK.1.2.1, (hf.L (f := 100) rfl 0).trans hK.1.2.2⟩, fun i k hi2 hk h3 => ?_⟩, fun L hL2 => ?_⟩
  · rw [hf.Ra (f := 701) rfl rfl, hf.L (f := 400) rfl]; exact hr' t ht
  · rw [hlen] at hi2
    have hi3 : i < (T.set t L').length := by rw [List.length_set]; exact hi2
    rw [gTr_map hi3, gTr_set ht]
    by_cases e : i = t
    · subst e
      rw [if_pos rfl, er]
      exact ⟨⟨e98, by omega⟩, e400⟩
    · rw [if_neg e, o98 i e]
      obtain ⟨⟨x1, x2⟩, x3⟩ := hx i (by rw [List.length_map]; exact hi2)
      rw [gTr_map hi2] at x1 x2 x3
      refine ⟨⟨x1, x2⟩, fun q hq => ?_⟩
      rw [o400 (π i) q (fun z => e (hi i t (by omega) (by omega) (z.trans er.symm))) (hr' i (by omega)).2.2.2]
      exact x3 q hq
  · rw [List.length_set] at hi2
    by_cases e : i = t
    · subst e; exact absurd (e516 k hk) h3
    · rw [gTr_set ht, if_neg e, hf.Ia (f := 99) rfl rfl, hf.Ia (f := 100) rfl rfl]
      rw [o516 _ (by omega)] at h3
      exact hK.2 i k hi2 hk h3
  · rcases List.mem_or_eq_of_mem_set hL2 with z | z
    · exact hT L z
    · rw [z]; exact ⟨hL, hnm⟩
theorem k_work2 (h : w_Works_work2 0 a b (fun M' => Fr F_Works_work2 M M' → Q' M') (fun M' => X M') M) : w_Works_work2 0 a b Q' X M := mf_w_Works_work2 (fun _ hf hp => hp hf) (fun _ _ hp => hp) h
theorem c_wshrink (h : WkT BB A B F T M) (hd : mL M 400 41 = 1260) (hF : F < 1000000) (hCF : 601 < F) (hQ : ∀ A' M', A <+: A' → WkT BB A' B F (shkO T a b).2 M' → mL M' 400 41 = 1260 → Q (shkO T a b).1 M') : w_Works_shrink 0 a b Q X M := by
  have h40 := h.n
  unfold shkO at hQ
  unfold w_Works_shrink
  refine c_wkTr h (fun z => itp rfl (by rw [if_pos z] at hQ; exact hQ A M List.prefix_rfl h hd)) (fun t ht ea ea2 z => itn (by decide) ?_)
  rw [if_neg z, ea2] at hQ
  refine c_isInG (fun z => itp rfl (by rw [if_pos z] at hQ; exact hQ A M List.prefix_rfl h hd)) (fun z => itn (by decide) ?_)
  rw [if_neg z] at hQ
  obtain ⟨nb, hnb, eb, -⟩ := in256 z
  rw [eb] at hQ ⊢
  rw [ea]
  refine k_work2 (c_work2 (b := 0) h ht (by omega) hF hCF (fun A1 M1 p1 p2 o1 o2 f1 => k_work2 (c_work2 p2 ht hnb hF hCF (fun A2 M2 p3 p4 o3 o4 f2 => ?_))))
  rw [show Int32.ofNat 0 = (0 : Int32) from rfl] at o1 o2
  obtain ⟨hTO, hnm⟩ := h.2.2 _ (gTr_mem ht)
  obtain ⟨r, r1, r2, r3, r4, r5⟩ := p4.row (t := t) (by omega)
  obtain ⟨x1, x2⟩ := r5 ht
  obtain ⟨-, ⟨l701, l98⟩, -⟩ := id p4.2.1.1
  have hd2 : mL M2 400 41 = 1260 := ((f2.L (f := 400) rfl 41).trans (f1.L (f := 400) rfl 41)).trans hd
  have eS : shL (gTr T t) (Int32.ofNat nb) = shF (Int32.ofNat nb) (outS (gTr T t) 0) (outS (gTr T t) (Int32.ofNat nb)) ((gTr T t).length - 1) (gTr T t) := rfl
  rw [eS] at hQ
  generalize eL0 : gTr T t = L0 at hTO hnm x1 x2 o1 o2 o3 o4 hQ eS
  clear eS
  generalize outS L0 0 = oa at o1 o2 hQ
  generalize outS L0 (Int32.ofNat nb) = ob at o3 o4 hQ
  rw [oN_tnc (k := t) (by omega), x1, o1, o2, o3, o4]
  refine ⟨by rw [l701]; exact (vp_oN (by omega)).mpr (by omega), r, r1, by rw [l98]; exact (vp_oN (by omega)).mpr (by omega), ?_⟩
  -- the loop over lines
  have loop : ∀ n k L A3 M3, k < n → k + 1 ≤ L.length → TrO L → nmL BB L → A <+: A3 → WkB BB A3 B F M3 → Fr SSh M2 M3 → (∀ x, x < (txt L).length → mI M3 400 r x = gi (txt L) x) → (∀ q x, q ≠ r → q ≠ 41 → mI M3 400 q x = mI M2 400 q x) → shF (Int32.ofNat nb) oa ob k L = shF (Int32.ofNat nb) oa ob (L0.length - 1) L0 → w_Works_shrink_L104 0 Q X n (Int32.ofNat t) (Int32.ofNat nb) oa.1 oa.2 ob.1 ob.2 r (Int32.ofNat (txt L).length) (Int32.ofNat (txt (L.take k)).length) (Int32.ofNat (L.length - k)) M3 := by
    intro n
    induction n with
    | zero => intro k L A3 M3 z; exact absurd z (by omega)
    | succ n ih =>
      intro k L A3 M3 hkn hk q1 q2 q3 q4 q5 q6 q7 q8
      obtain ⟨⟨hne, h60⟩, hsz, h10, -⟩ := id q1
      have l400 : mL M3 400 r = 1260 := (q5.L (f := 400) rfl r).trans r2
      have l41 : mL M3 400 41 = 1260 := (q5.L (f := 400) rfl 41).trans hd2
      unfold w_Works_shrink_L104
      cases k with
      | zero =>
        refine itp (show Int32.ofNat (txt (L.take 0)).length ≤ 0 from le_oN (b := 0) (Nat.le_refl _) (by omega)) ?_
        rw [oN_tnc (k := t) (by omega)]
        refine ⟨by rw [q5.L (f := 98) rfl, l98]; exact (vp_oN (by omega)).mpr (by omega), ?_⟩
        have f4 : Fr (316912650057057350374175801344) M3 (sI M3 98 0 t (Int32.ofNat (txt L).length)) := Fr.wIa rfl rfl (Fr.rf _ _)
        have e98 : mI (sI M3 98 0 t (Int32.ofNat (txt L).length)) 98 0 t = Int32.ofNat (txt L).length := by rw [mI_sI, if_pos ⟨rfl, rfl, rfl⟩]
        have o98 : ∀ j, j ≠ t → mI (sI M3 98 0 t (Int32.ofNat (txt L).length)) 98 0 j = mI M3 98 0 j := fun j hj => by rw [mI_sI, if_neg (fun z => hj z.2.2)]
        generalize sI M3 98 0 t (Int32.ofNat (txt L).length) = M4 at f4 e98 o98 ⊢
        refine c_forget (by rw [f4.L (f := 516) rfl, q5.L (f := 516) rfl]; exact p4.2.1.2.1.1) (by omega) (fun M5 f5 z1 z2 => ?_)
        have e8 : L = shF (Int32.ofNat nb) oa ob (L0.length - 1) L0 := q8
        rw [← e8] at hQ
        have fin : WkT BB A3 B F (T.set t L) M5 := WkT.setT p4.2 ht ((q4.fr f4).fr f5) q1 q2 (((q5.sub rfl).trans (f4.sub rfl)).trans (f5.sub rfl)) (by rw [f5.Ia (f := 98) rfl rfl]; exact e98) (fun j hj => by rw [f5.Ia (f := 98) rfl rfl, o98 j hj, q5.Ia (f := 98) rfl rfl]) r1 (fun x hx => by rw [f5.Ia (f := 400) rfl rfl, f4.Ia (f := 400) rfl rfl]; exact q6 x hx) (fun q x g1 g2 => by rw [f5.Ia (f := 400) rfl rfl, f4.Ia (f := 400) rfl rfl]; exact q7 q x g1 g2) z1 (fun q hq => by rw [z2 q hq, f4.Ia (f := 516) rfl rfl, q5.Ia (f := 516) rfl rfl])
        exact hQ A3 M5 q3 fin (by rw [f5.L (f := 400) rfl, f4.L (f := 400) rfl]; exact l41)
      | succ k =>
        have hkL : k < L.length := by omega
        have hl1 := len_ln hkL
        have hle1 := txt_take_le (L := L) (k := k + 1)
        have q8 : shF (Int32.ofNat nb) oa ob k (if sm2 (L.eraseIdx k) (Int32.ofNat nb) oa ob = true then L.eraseIdx k else L) = shF (Int32.ofNat nb) oa ob (L0.length - 1) L0 := q8
        refine itn (nle_oN (b := 0) (by omega) (by omega)) ⟨(glL L k).length + 1, ?_⟩
        have hTO' : TrO (L.eraseIdx k) := q1.er (by omega)
        have hnm' : nmL BB (L.eraseIdx k) := q2.er
        have hel := er_len hkL
        have hS : (txt (L.eraseIdx k)).length = (txt L).length - ((glL L k).length + 1) := by
          rw [txt_er, List.length_append, drop_ln]; omega
        -- a line is left out
        have j138 : w_Works_shrink_j138 0 Q X (w_Works_shrink_L104 0 Q X n) (Int32.ofNat t) (Int32.ofNat nb) oa.1 oa.2 ob.1 ob.2 r (Int32.ofNat (txt L).length) (Int32.ofNat (txt (L.take (k + 1))).length) (Int32.ofNat (L.length - (k + 1))) (Int32.ofNat (txt (L.take k)).length) M3 := by
          unfold w_Works_shrink_j138
          rw [oN_tnc (k := (txt (L.take k)).length) (by omega), oN_tnc (k := (txt (L.take (k + 1))).length) (by omega), oN_sub (a := (txt L).length) (by omega), oN_sub (a := (txt (L.take (k + 1))).length) (by omega), oN_sub (by omega), oN_tnc (k := (txt L).length - (txt (L.take (k + 1))).length) (by omega), show (txt L).length - ((txt (L.take (k + 1))).length - (txt (L.take k)).length) = (txt (L.eraseIdx k)).length by omega, show (0 : Int32).toNatClampNeg = 0 from rfl]
          refine ⟨by decide, by decide, nlt_oN (b := 0) (by omega) (by omega), by rw [l400]; omega, by rw [l41]; omega, _, rfl, nlt_oN (b := 0) (by omega) (by omega), nlt_oN (b := 0) (by omega) (by omega), nlt_oN (b := 0) (by omega) (by omega), by show _ ≤ mL M3 400 r; rw [l400]; omega, by show _ ≤ mL M3 400 41; rw [l41]; omega, _, rfl, ?_⟩
          have f4 : Fr (2582249878086908589655919172003011874329705792829223512830659356540647622016841194629645353280137831435903171972747493376) M3 (cpI (cpI M3 400 r 0 400 41 0 (txt (L.take k)).length) 400 r (txt (L.take (k + 1))).length 400 41 (txt (L.take k)).length ((txt L).length - (txt (L.take (k + 1))).length)) := Fr.wcp rfl rfl (Fr.wcp rfl rfl (Fr.rf _ _))
          have o4' : ∀ q x, q ≠ 41 → mI (cpI (cpI M3 400 r 0 400 41 0 (txt (L.take k)).length) 400 r (txt (L.take (k + 1))).length 400 41 (txt (L.take k)).length ((txt L).length - (txt (L.take (k + 1))).length)) 400 q x = mI M3 400 q x := fun q x hq => by rw [mI_cpI, if_neg (fun z => hq z.2), mI_cpI, if_neg (fun z => hq z.2)]
          have e4 : ∀ x, x < (txt (L.eraseIdx k)).length → mI (cpI (cpI M3 400 r 0 400 41 0 (txt (L.take k)).length) 400 r (txt (L.take (k + 1))).length 400 41 (txt (L.take k)).length ((txt L).length - (txt (L.take (k + 1))).length)) 400 41 x = gi (txt (L.eraseIdx k)) x := fun x hx => by
            rw [mI_cpI, if_pos ⟨rfl, rfl⟩, txt_er, gi_apL]
            by_cases c : x < (txt (L.take k)).length
            · rw [if_neg (by omega), if_pos c, mI_cpI, if_pos ⟨rfl, rfl⟩, if_pos ⟨Nat.zero_le _, by omega⟩, Nat.sub_zero, Nat.zero_add, q6 x (by omega)]
              conv => lhs; rw [txt_td (L := L) (k := k)]
              exact gi_l c
            · rw [if_pos ⟨by omega, by omega⟩, if_neg c, mI_cpI, if_neg (fun z => r4 z.2), q6 _ (by omega), gi_dr (by omega)]
          generalize cpI (cpI M3 400 r 0 400 41 0 (txt (L.take k)).length) 400 r (txt (L.take (k + 1))).length 400 41 (txt (L.take k)).length ((txt L).length - (txt (L.take (k + 1))).length) = M4 at f4 o4' e4 ⊢
          have hsz' := hTO'.2.1
          have hD : (txt (L.eraseIdx k)).length ≤ mL M4 400 41 ∧ ∀ x, x < (txt (L.eraseIdx k)).length → mI M4 400 41 x = gi (txt (L.eraseIdx k)) x := ⟨by rw [f4.L (f := 400) rfl, l41]; omega, e4⟩
          refine c_work1 (q4.fr f4) hTO' (nmT_of hTO' hnm') hD hF hCF (fun A5 M5 g1 g2 g3 g4 g5 => ?_)
          generalize ec : outS (L.eraseIdx k) 0 = oc at g4 g5
          have f35 : Fr SSh M2 M5 := (q5.trans (f4.sub rfl)).trans (g3.sub rfl)
          have r5' : ∀ q x, q ≠ 41 → mI M5 400 q x = mI M3 400 q x := fun q x hq => (g3.Ia (f := 400) rfl rfl q x).trans (o4' q x hq)
          have keep : ∀ A6 M6, A <+: A6 → WkB BB A6 B F M6 → Fr SSh M2 M6 → (∀ q x, q ≠ 41 → mI M6 400 q x = mI M3 400 q x) → sm2 (L.eraseIdx k) (Int32.ofNat nb) oa ob = false → w_Works_shrink_j255 0 Q X (w_Works_shrink_L104 0 Q X n) (Int32.ofNat t) (Int32.ofNat nb) oa.1 oa.2 ob.1 ob.2 r (Int32.ofNat (txt L).length) (Int32.ofNat (L.length - (k + 1))) (Int32.ofNat (txt (L.take k)).length) (Int32.ofNat (txt (L.eraseIdx k)).length) 0 M6 := fun A6 M6 y1 y2 y3 y4 y5 => by
            unfold w_Works_shrink_j255
            refine itp rfl ?_
            unfold w_Works_shrink_j283
            rw [lit32 1, oN_add, show L.length - (k + 1) + 1 = L.length - k by omega]
            rw [y5, if_neg (by decide)] at q8
            exact ih k L A6 M6 (by omega) (by omega) q1 q2 y1 y2 y3 (fun x hx => (y4 r x r4).trans (q6 x hx)) (fun q x hq hq2 => (y4 q x hq2).trans (q7 q x hq hq2)) q8
          have j211 : oc ≠ oa → w_Works_shrink_j211 0 Q X (w_Works_shrink_L104 0 Q X n) (Int32.ofNat t) (Int32.ofNat nb) oa.1 oa.2 ob.1 ob.2 r (Int32.ofNat (txt L).length) (Int32.ofNat (L.length - (k + 1))) (Int32.ofNat (txt (L.take k)).length) (Int32.ofNat (txt (L.eraseIdx k)).length) M5 := fun hne => by
            unfold w_Works_shrink_j211 w_Works_shrink_j212
            exact itp rfl (keep A5 M5 (q3.trans g1) g2 f35 r5' (by rw [sm2_df, ec]; exact decide_eq_false (fun z => hne z.1)))
          rw [g4, g5]
          by_cases c1 : oc.1 = oa.1
          · refine itp c1 ?_
            by_cases c2 : oc.2 = oa.2
            · refine itp c2 ?_
              have eca : oc = oa := Prod.ext c1 c2
              unfold w_Works_shrink_j212
              have hD5 : (txt (L.eraseIdx k)).length ≤ mL M5 400 41 ∧ ∀ x, x < (txt (L.eraseIdx k)).length → mI M5 400 41 x = gi (txt (L.eraseIdx k)) x := ⟨by rw [g3.L (f := 400) rfl]; exact hD.1, fun x hx => (g3.Ia (f := 400) rfl rfl 41 x).trans (e4 x hx)⟩
              refine itn (by decide) (c_work1 g2 hTO' (nmT_of hTO' hnm') hD5 hF hCF (fun A6 M6 y1 y2 y3 y4 y5 => ?_))
              generalize ed : outS (L.eraseIdx k) (Int32.ofNat nb) = od at y4 y5
              have f36 : Fr SSh M2 M6 := f35.trans (y3.sub rfl)
              have r6' : ∀ q x, q ≠ 41 → mI M6 400 q x = mI M3 400 q x := fun q x hq => (y3.Ia (f := 400) rfl rfl q x).trans (r5' q x hq)
              have j252 : od ≠ ob → w_Works_shrink_j252 0 Q X (w_Works_shrink_L104 0 Q X n) (Int32.ofNat t) (Int32.ofNat nb) oa.1 oa.2 ob.1 ob.2 r (Int32.ofNat (txt L).length) (Int32.ofNat (L.length - (k + 1))) (Int32.ofNat (txt (L.take k)).length) (Int32.ofNat (txt (L.eraseIdx k)).length) M6 := fun hne => by
                unfold w_Works_shrink_j252 w_Works_shrink_j253
                exact keep A6 M6 ((q3.trans g1).trans y1) y2 f36 r6' (by rw [sm2_df, ed]; exact decide_eq_false (fun z => hne z.2))
              rw [y4, y5]
              by_cases c3 : od.1 = ob.1
              · refine itp c3 ?_
                by_cases c4 : od.2 = ob.2
                · refine itp c4 ?_
                  have edb : od = ob := Prod.ext c3 c4
                  have es : sm2 (L.eraseIdx k) (Int32.ofNat nb) oa ob = true := by rw [sm2_df, ec, ed]; exact decide_eq_true ⟨eca, edb⟩
                  rw [es, if_pos rfl] at q8
                  unfold w_Works_shrink_j253 w_Works_shrink_j255
                  have l41' : mL M6 400 41 = 1260 := (f36.L (f := 400) rfl 41).trans hd2
                  have l40' : mL M6 400 r = 1260 := (f36.L (f := 400) rfl r).trans r2
                  rw [oN_tnc (k := (txt (L.eraseIdx k)).length) (by omega), show (0 : Int32).toNatClampNeg = 0 from rfl]
                  refine itn (by decide) ⟨by decide, by decide, nlt_oN (b := 0) (by omega) (by omega), by rw [l41']; omega, by rw [l40']; omega, _, rfl, ?_⟩
                  have f7 : Fr (2582249878086908589655919172003011874329705792829223512830659356540647622016841194629645353280137831435903171972747493376) M6 (cpI M6 400 41 0 400 r 0 (txt (L.eraseIdx k)).length) := Fr.wcp rfl rfl (Fr.rf _ _)
                  unfold w_Works_shrink_j283
                  rw [show L.length - (k + 1) = (L.eraseIdx k).length - k by omega]
                  have etk : (L.eraseIdx k).take k = L.take k := by
                    rw [er_td, List.take_append_of_le_length (by rw [List.length_take]; omega), List.take_take, Nat.min_self]
                  have := ih k (L.eraseIdx k) A6 (cpI M6 400 41 0 400 r 0 (txt (L.eraseIdx k)).length) (by omega) (by omega) hTO' hnm' ((q3.trans g1).trans y1) (y2.fr f7) (f36.trans (f7.sub rfl)) (fun x hx => by
                    rw [mI_cpI, if_pos ⟨rfl, rfl⟩, if_pos ⟨Nat.zero_le _, by omega⟩, Nat.sub_zero, Nat.zero_add, y3.Ia (f := 400) rfl rfl]
                    exact hD5.2 x hx) (fun q x hq hq2 => by
                    rw [mI_cpI, if_neg (fun z => hq z.2), r6' q x hq2]
                    exact q7 q x hq hq2) q8
                  rw [etk] at this
                  exact this
                · exact itn c4 (j252 (fun z => c4 (by rw [z])))
              · exact itn c3 (j252 (fun z => c3 (by rw [z])))
            · exact itn c2 (j211 (fun z => c2 (by rw [z])))
          · exact itn c1 (j211 (fun z => c1 (by rw [z])))
        have inn : ∀ m x, x < m → x ≤ (glL L k).length → w_Works_shrink_L115 0 Q X (w_Works_shrink_L104 0 Q X n) m (Int32.ofNat t) (Int32.ofNat nb) oa.1 oa.2 ob.1 ob.2 r (Int32.ofNat (txt L).length) (Int32.ofNat (txt (L.take (k + 1))).length) (Int32.ofNat (L.length - (k + 1))) (Int32.ofNat ((txt (L.take k)).length + x)) M3 := by
          intro m
          induction m with
          | zero => intro x z; exact absurd z (by omega)
          | succ m im =>
            intro x hm hx
            unfold w_Works_shrink_L115
            by_cases e0 : (txt (L.take k)).length + x = 0
            · have ex : x = 0 := by omega
              rw [ex, Nat.add_zero]
              exact itp (show Int32.ofNat (txt (L.take k)).length ≤ 0 from le_oN (b := 0) (by omega) (by omega)) j138
            refine itn (show ¬ Int32.ofNat ((txt (L.take k)).length + x) ≤ 0 from nle_oN (b := 0) (by omega) (by omega)) ?_
            have es : Int32.ofNat ((txt (L.take k)).length + x) - 1 = Int32.ofNat ((txt (L.take k)).length + x - 1) := by rw [lit32 1, oN_sub (by omega)]
            have ea : Int32.ofNat ((txt (L.take k)).length + x) + (-1 : Int32) = Int32.ofNat ((txt (L.take k)).length + x - 1) := by rw [← es, Int32.sub_eq_add_neg]
            rw [es, ea, oN_tnc (k := (txt (L.take k)).length + x - 1) (by omega), q6 _ (by omega)]
            refine ⟨by rw [l400]; exact (vp_oN (by omega)).mpr (by omega), ?_⟩
            by_cases ex : x = 0
            · rw [ex, Nat.add_zero]
              exact itp (gi_pre (by omega) (by omega)) j138
            · rw [show (txt (L.take k)).length + x - 1 = (txt (L.take k)).length + (x - 1) by omega, gi_ln hkL (by omega), gi_l (show x - 1 < (glL L k).length by omega)]
              exact itn (fun z => h10 _ (getD_mem hkL) (by rw [← z]; exact getD_mem (show x - 1 < (glL L k).length by omega))) (im (x - 1) (by omega) (by omega))
        rw [show Int32.ofNat (txt (L.take (k + 1))).length - 1 = Int32.ofNat ((txt (L.take k)).length + (glL L k).length) from by rw [lit32 1, oN_sub (by omega), show (txt (L.take (k + 1))).length - 1 = (txt (L.take k)).length + (glL L k).length by omega]]
        exact inn _ _ (by omega) (Nat.le_refl _)
  obtain ⟨⟨hne, h60⟩, hsz, h10, -⟩ := id hTO
  obtain ⟨m0, hm0⟩ : ∃ m0, L0.length = m0 + 1 := ⟨L0.length - 1, by
    cases L0 with
    | nil => exact absurd rfl hne
    | cons x y => rw [List.length_cons]; omega⟩
  have hkL : m0 < L0.length := by omega
  have hl1 := len_ln hkL
  rw [← hm0, txt_all] at hl1
  have j101 : w_Works_shrink_j101 0 Q X (Int32.ofNat t) (Int32.ofNat nb) oa.1 oa.2 ob.1 ob.2 r (Int32.ofNat (txt L0).length) (Int32.ofNat (txt (L0.take m0)).length) M2 := by
    unfold w_Works_shrink_j101
    refine ⟨m0 + 1, ?_⟩
    have := loop (m0 + 1) m0 L0 A2 M2 (by omega) (by omega) hTO hnm (p1.trans p3) p4.1 (Fr.rf _ _) x2 (fun _ _ _ _ => rfl) (by rw [show L0.length - 1 = m0 by omega])
    rw [show L0.length - m0 = 1 by omega] at this
    exact this
  refine ⟨(glL L0 m0).length + 1, ?_⟩
  have inn : ∀ m x, x < m → x ≤ (glL L0 m0).length → w_Works_shrink_L78 0 Q X m (Int32.ofNat t) (Int32.ofNat nb) oa.1 oa.2 ob.1 ob.2 r (Int32.ofNat (txt L0).length) (Int32.ofNat ((txt (L0.take m0)).length + x)) M2 := by
    intro m
    induction m with
    | zero => intro x z; exact absurd z (by omega)
    | succ m im =>
      intro x hm hx
      unfold w_Works_shrink_L78
      by_cases e0 : (txt (L0.take m0)).length + x = 0
      · have ex : x = 0 := by omega
        rw [ex, Nat.add_zero]
        exact itp (show Int32.ofNat (txt (L0.take m0)).length ≤ 0 from le_oN (b := 0) (by omega) (by omega)) j101
      refine itn (show ¬ Int32.ofNat ((txt (L0.take m0)).length + x) ≤ 0 from nle_oN (b := 0) (by omega) (by omega)) ?_
      have es : Int32.ofNat ((txt (L0.take m0)).length + x) - 1 = Int32.ofNat ((txt (L0.take m0)).length + x - 1) := by rw [lit32 1, oN_sub (by omega)]
      have ea : Int32.ofNat ((txt (L0.take m0)).length + x) + (-1 : Int32) = Int32.ofNat ((txt (L0.take m0)).length + x - 1) := by rw [← es, Int32.sub_eq_add_neg]
      rw [es, ea, oN_tnc (k := (txt (L0.take m0)).length + x - 1) (by omega), x2 _ (by omega)]
      refine ⟨by rw [r2]; exact (vp_oN (by omega)).mpr (by omega), ?_⟩
      by_cases ex : x = 0
      · rw [ex, Nat.add_zero]
        exact itp (gi_pre (by omega) (by omega)) j101
      · rw [show (txt (L0.take m0)).length + x - 1 = (txt (L0.take m0)).length + (x - 1) by omega, gi_ln hkL (by omega), gi_l (show x - 1 < (glL L0 m0).length by omega)]
        exact itn (fun z => h10 _ (getD_mem hkL) (by rw [← z]; exact getD_mem (show x - 1 < (glL L0 m0).length by omega))) (im (x - 1) (by omega) (by omega))
  rw [show Int32.ofNat (txt L0).length - 1 = Int32.ofNat ((txt (L0.take m0)).length + (glL L0 m0).length) from by rw [lit32 1, oN_sub (by omega), show (txt L0).length - 1 = (txt (L0.take m0)).length + (glL L0 m0).length by omega]]
  exact inn _ _ (by omega) (Nat.le_refl _)
end
