/-! B: the twin's checker: where it goes, handlers -/
/-- what the twin's checker has at hand -/
def TS (A : List Nm) (x : Mth) (lo st : List Kd) (kn : Bool) (M : Mem) : Prop := (mL M 111 0 = 20 ∧ mL M 212 0 = 28 ∧ mL M 112 0 = 10) ∧ (TLk A (co x) 111 0 lo M ∧ lo.length = lr x) ∧ (TLk A (co x) 212 0 st M ∧ mI M 11 0 72 = Int32.ofNat st.length ∧ st.length ≤ sr x) ∧ mI M 11 0 73 = b2 kn
section
variable {G : List Sl} {US : UST} {A : List Nm} {S : List Sg} {W : List Cls} {w c k : Nat} {br : Int32} {nq nl nf nk : Nat} {M M' : Mem} {Q : Int32 → Mem → Prop} {lo st : List Kd}
theorem ct_goesTo {kn : Bool} {t : Nat} (h : TE G US A S W w c k br nq nl nf nk M) (hS : TS A (gmt (gc W c) k) lo st kn M) (ht : t < (co (gmt (gc W c) k)).length) (hQ : Q (Int32.ofNat (goesS W (gmt (gc W c) k) lo st t)) M) : w_Model_goesTo 0 (Int32.ofNat t) Q M := by
  obtain ⟨q0, a1, a2, ⟨a3, a4⟩, hI, -, -⟩ := h.mc
  have hb := h.1.1.2.2.2
  have hm := h.mlt
  have hsr := h.sr.2
  have hfr := h.frm a1 (by omega) ht
  have hlt := (h.ins a1 (by omega) ht).2.1
  have hrl := h.rl.1 (sCf w) (by simp)
  unfold w_Model_goesTo
  refine ⟨w, h.r45, rdI M (sCf w), h.sl (s := sCf w) (by simp), w, h.r45, ?_⟩
  rw [h.m75, oN_tnc (k := 12 * c + k) (by omega), a1, oN_add, oN_tnc (by omega), h.ml (by omega) (by omega)]
  refine ⟨(vp_oN (by omega)).mpr hm, (by show vp_in _ (rl M (sCf w)); exact (vp_oN (by omega)).mpr (by omega)), _, rfl, ?_⟩
  unfold goesS at hQ
  cases e : frOf (gmt (gc W c) k) t with
  | none =>
    rw [e] at hfr hQ
    rw [show mI M 300 (rdI M (sCf w)) (q0 + t) = 0 from hfr]
    exact itn (by decide) hQ
  | some p =>
    obtain ⟨fl, fs⟩ := p
    rw [e] at hfr hQ
    obtain ⟨f, kf, e1, hf, hF⟩ := hfr
    rw [show mI M 300 (rdI M (sCf w)) (q0 + t) = Int32.ofNat (f + 1) from e1, show Int32.ofNat (f + 1) - (1 : Int32) = Int32.ofNat f from oN_sub (a := f + 1) (b := 1) (by omega)]
    have hQ : Q (Int32.ofNat (if wrongF (gmt (gc W c) k) fl fs = true then 38 else fitS W lo st fl fs)) M := hQ
    refine itp (oN_zero_le (by omega)) (ct_isWrong h hF ?_)
    cases cw : wrongF (gmt (gc W c) k) fl fs with
    | true =>
      rw [if_pos cw] at hQ
      exact itn (by decide) hQ
    | false =>
      rw [if_neg (by rw [cw]; decide)] at hQ
      exact itp rfl (ct_fitState h hF hS.2.1.1 hS.2.1.2 hS.1.1 hS.2.2.1.1 hS.2.2.1.2.1 (by have := hS.2.2.1.2.2; omega) hS.1.2.1 hQ)
theorem ct_askHandlers {a : Nat} (h : TE G US A S W w c k br nq nl nf nk M) (hl : TLk A (co (gmt (gc W c) k)) 111 0 lo M) (hll : lo.length = lr (gmt (gc W c) k)) (h111 : mL M 111 0 = 20) (ha : a ≤ 80) (hQ : Q (Int32.ofNat (handS W (gmt (gc W c) k) lo a (hs (gmt (gc W c) k)))) M) : w_Model_askHandlers 0 (Int32.ofNat a) Q M := by
  obtain ⟨q0, a1, a2, ⟨a3, a4⟩, hI, ⟨a5, a6⟩, hH⟩ := h.mc
  have a5' : mI M 151 w (12 * c + k) = Int32.ofNat (hs (gmt (gc W c) k)).length := a5
  have a6' : (hs (gmt (gc W c) k)).length ≤ 8 := a6
  have hb := h.1.1.2.2.2
  have hm := h.mlt
  have hla := h.la
  have hK := h.1.2.2.1
  have h155 := h.ms.2.1
  have hrl := h.rl.1 (sCf w) (by simp)
  have loop : ∀ n j, (hs (gmt (gc W c) k)).length - j < n → j ≤ (hs (gmt (gc W c) k)).length → handS W (gmt (gc W c) k) lo a (hs (gmt (gc W c) k)) = handS W (gmt (gc W c) k) lo a ((hs (gmt (gc W c) k)).drop j) → w_Model_askHandlers_L8 0 Q n (Int32.ofNat a) (Int32.ofNat (8 * (12 * c + k) + j)) M := by
    intro n
    induction n with
    | zero => intro j hn; exact absurd hn (by omega)
    | succ n ih =>
      intro j hn hj he
      unfold w_Model_askHandlers_L8
      refine ⟨w, h.r45, ?_⟩
      rw [h.m75, oN_tnc (k := 12 * c + k) (by omega), a5', show (8 : Int32) * Int32.ofNat (12 * c + k) = Int32.ofNat (8 * (12 * c + k)) from oN_mul 8 _, oN_add, h.ml (by omega) (by omega)]
      refine ⟨(vp_oN (by omega)).mpr hm, ?_⟩
      by_cases cj : (hs (gmt (gc W c) k)).length ≤ j
      · refine itp (le_oN (by omega) (by omega)) ?_
        rw [he, List.drop_eq_nil_of_le cj] at hQ; exact hQ
      refine itn (nle_oN (by omega) (by omega)) ⟨w, h.r45, ?_⟩
      have hjl : j < (hs (gmt (gc W c) k)).length := by omega
      obtain ⟨g1, g2, g3, g4, g5⟩ := hH j hjl
      have hwf := h.wf.2.2.2.1.2 (ghn (hs (gmt (gc W c) k)) j) (by
        show (hs (gmt (gc W c) k)).getD j _ ∈ _
        rw [List.getD_eq_getElem?_getD, List.getElem?_eq_getElem hjl]; exact List.getElem_mem hjl)
      have g1 : mI M 152 w (8 * (12 * c + k) + j) = Int32.ofNat (ghn (hs (gmt (gc W c) k)) j).1 := g1
      have g2 : mI M 153 w (8 * (12 * c + k) + j) = Int32.ofNat (ghn (hs (gmt (gc W c) k)) j).2.1 := g2
      have g3 : mI M 154 w (8 * (12 * c + k) + j) = Int32.ofNat (ghn (hs (gmt (gc W c) k)) j).2.2.1 := g3
      have g4 : mI M 155 w (8 * (12 * c + k) + j) = anyC A (ghn (hs (gmt (gc W c) k)) j).2.2.2 := g4
      have g5 : (ghn (hs (gmt (gc W c) k)) j).2.2.2 ∈ A := g5
      rw [handS_drop hjl] at he
      generalize ghn (hs (gmt (gc W c) k)) j = H at g1 g2 g3 g4 g5 hwf he
      obtain ⟨w1, w2, w3, w4⟩ := hwf
      have hco := h.wf.2.2.1.1
      rw [oN_tnc (k := 8 * (12 * c + k) + j) (by omega), g1, h155 152 (by omega) (by omega)]
      refine ⟨(vp_oN (by omega)).mpr (by omega), ?_⟩
      unfold w_Model_askHandlers_j211
      have next : handS W (gmt (gc W c) k) lo a (hs (gmt (gc W c) k)) = handS W (gmt (gc W c) k) lo a ((hs (gmt (gc W c) k)).drop (j + 1)) → w_Model_askHandlers_L8 0 Q n (Int32.ofNat a) (Int32.ofNat (8 * (12 * c + k) + j) + 1) M := fun e2 => by
        rw [show Int32.ofNat (8 * (12 * c + k) + j) + (1 : Int32) = Int32.ofNat (8 * (12 * c + k) + (j + 1)) from oN_add _ 1]
        exact ih (j + 1) (by omega) (by omega) e2
      by_cases c1 : a < H.1
      · rw [if_pos (Or.inl c1)] at he
        exact itp (lt_oN c1 (by omega)) (next he)
      refine itn (nlt_oN (by omega) (by omega)) ⟨w, h.r45, ?_⟩
      rw [g2, h155 153 (by omega) (by omega)]
      refine ⟨(vp_oN (by omega)).mpr (by omega), ?_⟩
      by_cases c2 : a < H.2.1
      · rw [if_neg (by omega)] at he
        refine itp (lt_oN c2 (by omega)) ⟨w, h.r45, rdI M (sCf w), h.sl (s := sCf w) (by simp), w, h.r45, (by rw [h.ml (by omega) (by omega)]; exact (vp_oN (by omega)).mpr hm), w, h.r45, ?_⟩
        rw [g3, a1, h155 154 (by omega) (by omega), oN_add, oN_tnc (k := q0 + H.2.2.1) (by omega)]
        have hlt := (h.ins a1 (by omega) w3).2.1
        refine ⟨(vp_oN (by omega)).mpr (by omega), (by show vp_in _ (rl M (sCf w)); exact (vp_oN (by omega)).mpr (by omega)), _, rfl, ?_⟩
        have hfr := h.frm a1 (by omega) w3
        -- the end of it
        have hle := handOne_le (W := W) (x := gmt (gc W c) k) (lo := lo) (h := H)
        have fin : w_Model_askHandlers_j203 0 Q (w_Model_askHandlers_L8 0 Q n) (Int32.ofNat a) (Int32.ofNat (8 * (12 * c + k) + j)) (Int32.ofNat (handOne W (gmt (gc W c) k) lo H)) M := by
          unfold w_Model_askHandlers_j203 w_Model_askHandlers_j211
          by_cases z : handOne W (gmt (gc W c) k) lo H = 0
          · rw [if_pos z] at he
            rw [z]
            exact itp (by decide) (next he)
          · rw [if_neg z] at he
            rw [he] at hQ
            exact itn (nle_oN (b := 0) (by omega) (by omega)) hQ
        clear next ih he
        unfold handOne at fin
        have no : ∀ x3 r, r ≠ 0 → r < 1000 → w_Model_askHandlers_j203 0 Q (w_Model_askHandlers_L8 0 Q n) (Int32.ofNat a) (Int32.ofNat (8 * (12 * c + k) + j)) (Int32.ofNat r) M → w_Model_askHandlers_j139 0 Q (w_Model_askHandlers_L8 0 Q n) (Int32.ofNat a) (Int32.ofNat (8 * (12 * c + k) + j)) x3 (Int32.ofNat r) M := fun x3 r hr hr2 hj' => by
          unfold w_Model_askHandlers_j139
          exact itn (ne_oN (b := 0) hr (by omega) (by omega)) hj'
        cases e : frOf (gmt (gc W c) k) H.2.2.1 with
        | none =>
          rw [e] at hfr fin
          rw [show mI M 300 (rdI M (sCf w)) (q0 + H.2.2.1) = 0 from hfr]
          exact itn (by decide) (no _ 36 (by omega) (by omega) fin)
        | some p =>
          obtain ⟨fl, fs⟩ := p
          rw [e] at hfr fin
          obtain ⟨f, kf, e1, hf, hF⟩ := hfr
          have hF0 := hF
          obtain ⟨⟨b1, b2, b3, b4⟩, f1, f2, f3, ⟨f4, f5⟩, f6⟩ := hF0
          rw [show mI M 300 (rdI M (sCf w)) (q0 + H.2.2.1) = Int32.ofNat (f + 1) from e1, show Int32.ofNat (f + 1) - (1 : Int32) = Int32.ofNat f from oN_sub (a := f + 1) (b := 1) (by omega)]
          refine itp (oN_zero_le (by omega)) (ct_isWrong h hF ?_)
          have fin : w_Model_askHandlers_j203 0 Q (w_Model_askHandlers_L8 0 Q n) (Int32.ofNat a) (Int32.ofNat (8 * (12 * c + k) + j)) (Int32.ofNat (if wrongF (gmt (gc W c) k) fl fs = true then 38 else if fs.length ≠ 1 then 37 else if fitL W lo fl ≠ 0 then fitL W lo fl else fitK W (2, if H.2.2.2 = nAny then nFault else H.2.2.2) (gk fs 0))) M := fin
          cases cw : wrongF (gmt (gc W c) k) fl fs with
          | true =>
            rw [if_pos cw] at fin
            exact itn (by decide) (no _ 38 (by omega) (by omega) fin)
          | false =>
            rw [if_neg (by rw [cw]; decide)] at fin
            have hwl := (not_congr (wrongF_iff (x := gmt (gc W c) k) (fl := fl) (fs := fs))).mp (by rw [cw]; decide)
            have hsr := h.sr.2
            refine itp rfl ⟨w, h.r45, rdI M (sFs w), h.sl (s := sFs w) (by simp), (by show vp_in _ (rl M (sFs w)); exact (vp_oN (by omega)).mpr b2), ?_⟩
            rw [oN_tnc (k := f) (by omega), show mI M 300 (rdI M (sFs w)) f = Int32.ofNat fs.length from f3]
            by_cases c3 : fs.length = 1
            · rw [if_neg (by omega)] at fin
              refine itp (by rw [c3]; rfl) (ct_fitLocals h hF hl hll h111 ?_)
              have hfl := fitL_le (W := W) (lo := lo) (fl := fl)
              by_cases c4 : fitL W lo fl = 0
              · rw [if_neg (by omega)] at fin
                rw [c4]
                unfold w_Model_askHandlers_j139
                refine itp rfl ⟨w, h.r45, ?_⟩
                rw [oN_tnc (k := 8 * (12 * c + k) + j) (by omega), g4, h155 155 (by omega) (by omega)]
                refine ⟨(vp_oN (by omega)).mpr (by omega), ?_⟩
                have step : ∀ nm, (if H.2.2.2 = nAny then nFault else H.2.2.2) = nm → nm ∈ A → w_Model_askHandlers_j176 0 Q (w_Model_askHandlers_L8 0 Q n) (Int32.ofNat a) (Int32.ofNat (8 * (12 * c + k) + j)) (Int32.ofNat f) (nc A nm) M := fun nm en hnm => by
                  rw [en] at fin
                  unfold w_Model_askHandlers_j176
                  refine ⟨w, h.r45, rdI M (sFl w), h.sl (s := sFl w) (by simp), (by show vp_in _ (rl M (sFl w)); exact (vp_oN (by omega)).mpr b1), ?_⟩
                  rw [oN_tnc (k := f) (by omega), show mI M 300 (rdI M (sFl w)) f = Int32.ofNat fl.length from f2]
                  refine ct_frameKind h hF (by omega) (fun hk => ?_)
                  rw [gk_ap, if_neg (by omega), show fl.length - fl.length = 0 by omega] at hk ⊢
                  rw [← kt_cls]
                  exact ct_fit h.r45 h.cl hK hla (kwf_cls hnm) hk fin
                unfold anyC
                by_cases c5 : H.2.2.2 = nAny
                · rw [if_pos c5]
                  refine itn (by decide) ?_
                  rw [hK.thing.1, h.fault.1]
                  exact step nFault (by rw [if_pos c5]) h.fault.2
                · rw [if_neg c5]
                  unfold nc
                  refine itp (oN_zero_le (by have := List.idxOf_lt_length_of_mem g5; omega)) ⟨w, h.r45, ?_⟩
                  rw [h155 155 (by omega) (by omega), g4]
                  unfold anyC
                  rw [if_neg c5]
                  exact ⟨(vp_oN (by omega)).mpr (by omega), step _ (by rw [if_neg c5]) g5⟩
              · rw [if_pos c4] at fin
                exact no _ _ c4 (by omega) fin
            · rw [if_pos c3] at fin
              exact itn (fun q => c3 ((oN_inj (b := 1) (by omega) (by omega)).mp q)) (no _ 37 (by omega) (by omega) fin)
      · rw [if_pos (by omega)] at he
        exact itn (nlt_oN (by omega) (by omega)) (next he)
  unfold w_Model_askHandlers
  refine ⟨(hs (gmt (gc W c) k)).length + 1, ?_⟩
  rw [h.m75, show (8 : Int32) * Int32.ofNat (12 * c + k) = Int32.ofNat (8 * (12 * c + k)) from oN_mul 8 _]
  exact loop _ 0 (by omega) (by omega) rfl
end
