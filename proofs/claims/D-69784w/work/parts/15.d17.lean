/-! B: the twin's checker: frames, handlers -/
/-- a frame of the twin, by its number -/
def FT (A : List Nm) (co : List Ins) (w f kf : Nat) (fl fs : List Kd) (M : Mem) : Prop := (f < rl M (sFl w) ∧ f < rl M (sFs w) ∧ f < rl M (sFf w) ∧ f < 8000) ∧ rd M (sFf w) f = Int32.ofNat kf ∧ rd M (sFl w) f = Int32.ofNat fl.length ∧ rd M (sFs w) f = Int32.ofNat fs.length ∧ (kf + (fl.length + fs.length) ≤ rl M (sFk w) ∧ rl M (sFk w) ≤ 8000) ∧ ∀ j, j < fl.length + fs.length → rd M (sFk w) (kf + j) = kt A (gk (fl ++ fs) j) ∧ kwf A co (gk (fl ++ fs) j)
section
variable {G : List Sl} {US : UST} {A : List Nm} {S : List Sg} {W : List Cls} {w c k : Nat} {br : Int32} {nq nl nf nk : Nat} {M M' : Mem} {Q : Int32 → Mem → Prop}
theorem TE.ins {q0 t : Nat} (h : TE G US A S W w c k br nq nl nf nk M) (hq : mI M 149 w (12 * c + k) = Int32.ofNat q0) (hq0 : q0 ≤ 30000) (ht : t < (co (gmt (gc W c) k)).length) : tFi A S w nl nf nk (q0 + t) (gin (co (gmt (gc W c) k)) t) M ∧ (q0 + t < nq ∧ nq ≤ 3900) ∧ wfI (co (gmt (gc W c) k)).length (gin (co (gmt (gc W c) k)) t) := by
  obtain ⟨q1, a1, a2, ⟨a3, a4⟩, hI, -, -⟩ := h.mc
  have hb := h.1.1.2.2.2
  have e : q1 = q0 := (oN_inj (by omega) (by omega)).mp (a1.symm.trans hq)
  subst e
  have ht' : t < (gmt (gc W c) k).2.2.2.2.2.2.1.length := ht
  refine ⟨hI t ht, by omega, h.wf.2.2.1.2 _ ?_⟩
  show (co (gmt (gc W c) k)).getD t _ ∈ _
  rw [List.getD_eq_getElem?_getD, List.getElem?_eq_getElem ht]; exact List.getElem_mem ht
/-- the frame in front of an instruction -/
theorem TE.frm {q0 t : Nat} (h : TE G US A S W w c k br nq nl nf nk M) (hq : mI M 149 w (12 * c + k) = Int32.ofNat q0) (hq0 : q0 ≤ 30000) (ht : t < (co (gmt (gc W c) k)).length) : match frOf (gmt (gc W c) k) t with
    | none => rd M (sCf w) (q0 + t) = 0
    | some (fl, fs) => ∃ f kf, rd M (sCf w) (q0 + t) = Int32.ofNat (f + 1) ∧ f < 4000 ∧ FT A (co (gmt (gc W c) k)) w f kf fl fs M := by
  obtain ⟨hi, hlt, hwf⟩ := h.ins hq hq0 ht
  have hf : tFrm A w nf nk (q0 + t) (iF (gin (co (gmt (gc W c) k)) t)) M := hi.2.2.1
  have hR := h.rl
  have hb := h.1.1.2.2.2
  unfold frOf
  unfold tFrm at hf
  cases e : iF (gin (co (gmt (gc W c) k)) t) with
  | none => rw [e] at hf; exact hf
  | some p =>
    obtain ⟨fl, fs⟩ := p
    rw [e] at hf
    obtain ⟨f, b1, b2, kf, b3, b4, b5, b6, b7, b8⟩ := hf
    have r1 := hR.2.2.1 (sFl w) (by simp)
    have r2 := hR.2.2.1 (sFs w) (by simp)
    have r3 := hR.2.2.1 (sFf w) (by simp)
    have r4 := hR.2.2.2.1
    have r5 := hR.2.2.2.2 (sFk w) (by simp)
    refine ⟨f, kf, b2, by omega, ⟨by omega, by omega, by omega, by omega⟩, b3, b4, b5, ⟨Nat.le_trans b6 r4, r5⟩, fun j hj => ?_⟩
    have hj' : j < (fl ++ fs).length := by rw [List.length_append]; exact hj
    exact ⟨b8 j hj, kwf_fk (b7 _ (gk_me hj')).2 (b7 _ (gk_me hj')).1⟩
theorem ct_frameKind {co' : List Ins} {f kf j : Nat} {fl fs : List Kd} (h : TE G US A S W w c k br nq nl nf nk M) (hF : FT A co' w f kf fl fs M) (hj : j < fl.length + fs.length) (hQ : kwf A co' (gk (fl ++ fs) j) → Q (kt A (gk (fl ++ fs) j)) M) : w_Model_frameKind 0 (Int32.ofNat f) (Int32.ofNat j) Q M := by
  obtain ⟨⟨a1, a2, a3, a4⟩, f1, f2, f3, ⟨f4, f5⟩, f6⟩ := hF
  unfold w_Model_frameKind
  refine ⟨w, h.r45, rdI M (sFk w), h.sl (s := sFk w) (by simp), w, h.r45, rdI M (sFf w), h.sl (s := sFf w) (by simp), ?_⟩
  show vp_in (Int32.ofNat f) (rl M (sFf w)) ∧ vp_in (rd M (sFf w) (Int32.ofNat f).toNatClampNeg + Int32.ofNat j) (rl M (sFk w)) ∧ Q (rd M (sFk w) (rd M (sFf w) (Int32.ofNat f).toNatClampNeg + Int32.ofNat j).toNatClampNeg) M
  rw [oN_tnc (k := f) (by omega), f1, oN_add, oN_tnc (by omega), (f6 j hj).1]
  exact ⟨(vp_oN (by omega)).mpr a3, (vp_oN (by omega)).mpr (by omega), hQ (f6 j hj).2⟩
theorem ct_isWrong {f kf : Nat} {fl fs : List Kd} (h : TE G US A S W w c k br nq nl nf nk M) (hF : FT A (co (gmt (gc W c) k)) w f kf fl fs M) (hQ : Q (b2 (wrongF (gmt (gc W c) k) fl fs)) M) : w_Model_isWrongFrame 0 (Int32.ofNat f) Q M := by
  have hF0 := hF
  obtain ⟨⟨a1, a2, a3, a4⟩, f1, f2, f3, ⟨f4, f5⟩, f6⟩ := hF
  have hm := h.mlt
  have hlr := h.lr
  have hsr := h.sr
  have hla := h.la
  have hK := h.1.2.2.1
  have loop : ∀ n j (b : Bool), fl.length + fs.length - j < n → j ≤ fl.length + fs.length → (b = true → wrongF (gmt (gc W c) k) fl fs = true) → (b = false → (∀ i, i < j → ¬ badK (gmt (gc W c) k) fl.length i (gk (fl ++ fs) i)) ∧ ¬ (lr (gmt (gc W c) k) < fl.length ∨ sr (gmt (gc W c) k) < fs.length)) → w_Model_isWrongFrame_L72 0 Q n (Int32.ofNat f) (Int32.ofNat fl.length) (Int32.ofNat (fl.length + fs.length)) (b2 b) (Int32.ofNat j) M := by
    intro n
    induction n with
    | zero => intro j b hn; exact absurd hn (by omega)
    | succ n ih =>
      intro j b hn hj h1 h0
      unfold w_Model_isWrongFrame_L72
      by_cases cj : fl.length + fs.length ≤ j
      · refine itp (le_oN cj (by omega)) ⟨by cases b <;> simp [b2], ?_⟩
        have e : wrongF (gmt (gc W c) k) fl fs = b := by
          cases b with
          | true => exact h1 rfl
          | false =>
            have := h0 rfl
            cases q : wrongF (gmt (gc W c) k) fl fs with
            | false => rfl
            | true =>
              rcases wrongF_iff.mp q with z | ⟨i, hi, z⟩
              · exact absurd z this.2
              · exact absurd z (this.1 i (by omega))
        rw [e] at hQ; exact hQ
      refine itn (nle_oN (by omega) (by omega)) ?_
      cases b with
      | true =>
        refine itn (by decide) ⟨Or.inr rfl, ?_⟩
        rw [h1 rfl] at hQ; exact hQ
      | false =>
        obtain ⟨g1, g2⟩ := h0 rfl
        refine itp rfl (ct_frameKind h hF0 (by omega) (fun hk => ?_))
        have next : ∀ b' : Bool, (b' = true ↔ badK (gmt (gc W c) k) fl.length j (gk (fl ++ fs) j)) → w_Model_isWrongFrame_L72 0 Q n (Int32.ofNat f) (Int32.ofNat fl.length) (Int32.ofNat (fl.length + fs.length)) (b2 b') (Int32.ofNat j + 1) M := fun b' hb' => by
          rw [show Int32.ofNat j + (1 : Int32) = Int32.ofNat (j + 1) from oN_add j 1]
          refine ih (j + 1) b' (by omega) (by omega) (fun e => wrongF_iff.mpr (Or.inr ⟨j, by omega, hb'.mp e⟩)) (fun e => ⟨fun i hi => ?_, g2⟩)
          by_cases ei : i = j
          · rw [ei]
            exact fun z => by have := hb'.mpr z; rw [e] at this; cases this
          · exact g1 i (by omega)
        unfold w_Model_isWrongFrame_j104 w_Model_isWrongFrame_j129 w_Model_isWrongFrame_j133 w_Model_isWrongFrame_j134
        have j104 : ¬ ((gk (fl ++ fs) j).1 = -2 ∧ fl.length ≤ j) → (if kt A (gk (fl ++ fs) j) = (5 : Int32) then (∃ i18, (mR M 11 0 45) = some (12, i18) ∧ vp_in (mI M 11 0 75) (mL M 144 i18) ∧ if (mI M 144 i18 (mI M 11 0 75).toNatClampNeg) = (mI M 11 0 6) then (w_Model_isWrongFrame_L72 0 Q n (Int32.ofNat f) (Int32.ofNat fl.length) (Int32.ofNat (fl.length + fs.length)) 0 (Int32.ofNat j + 1) M) else (w_Model_isWrongFrame_L72 0 Q n (Int32.ofNat f) (Int32.ofNat fl.length) (Int32.ofNat (fl.length + fs.length)) 1 (Int32.ofNat j + 1) M)) else (w_Model_isWrongFrame_L72 0 Q n (Int32.ofNat f) (Int32.ofNat fl.length) (Int32.ofNat (fl.length + fs.length)) 0 (Int32.ofNat j + 1) M)) := fun hn2 => by
          by_cases c3 : (gk (fl ++ fs) j).1 = -3
          · refine itp ((kt_e (n := 5) hk hla (by omega)).mpr c3) ⟨w, h.r45, ?_⟩
            rw [h.m75, oN_tnc (k := 12 * c + k) (by omega), h.ml (by omega) (by omega), h.hd.1.1, hK.make.1]
            refine ⟨(vp_oN (by omega)).mpr hm, ?_⟩
            by_cases c4 : (gmt (gc W c) k).1 = nMake
            · exact itp (by rw [c4]) (next false ⟨(fun q => by cases q), fun z => z.elim (fun y => absurd y hn2) (fun y => absurd c4 y.2)⟩)
            · exact itn (fun q => c4 ((nc_inj (by omega) h.hd.1.2 hK.make.2).mp q)) (next true ⟨fun _ => Or.inr ⟨c3, c4⟩, fun _ => rfl⟩)
          · exact itn (fun q => c3 ((kt_e (n := 5) (m := -3) hk hla (by omega)).mp q)) (next false ⟨(fun q => by cases q), fun z => z.elim (fun y => absurd y hn2) (fun y => absurd y.1 c3)⟩)
        by_cases c5 : (gk (fl ++ fs) j).1 = -2
        · refine itp ((kt_e (n := 4) hk hla (by omega)).mpr c5) ?_
          by_cases c6 : fl.length ≤ j
          · exact itp (le_oN c6 (by omega)) (next true ⟨fun _ => Or.inl ⟨c5, c6⟩, fun _ => rfl⟩)
          · exact itn (nle_oN (by omega) (by omega)) (j104 (fun z => c6 z.2))
        · exact itn (fun q => c5 ((kt_e (n := 4) (m := -2) hk hla (by omega)).mp q)) (j104 (fun z => c5 z.1))
  unfold w_Model_isWrongFrame
  refine ⟨w, h.r45, rdI M (sFl w), h.sl (s := sFl w) (by simp), ?_⟩
  refine ⟨(by show vp_in _ (rl M (sFl w)); exact (vp_oN (by omega)).mpr a1), w, h.r45, rdI M (sFs w), h.sl (s := sFs w) (by simp), (by show vp_in _ (rl M (sFs w)); exact (vp_oN (by omega)).mpr a2), _, rfl, w, h.r45, ?_⟩
  rw [h.m75, oN_tnc (k := 12 * c + k) (by omega), oN_tnc (k := f) (by omega), hlr.1, h.ml (by omega) (by omega)]
  have e1 : mI M 300 (rdI M (sFl w)) f = Int32.ofNat fl.length := f2
  have e2 : mI M 300 (rdI M (sFs w)) f = Int32.ofNat fs.length := f3
  rw [e1, e2, oN_add]
  refine ⟨(vp_oN (by omega)).mpr hm, ?_⟩
  unfold w_Model_isWrongFrame_j62 w_Model_isWrongFrame_j67
  have go : ∀ b : Bool, (b = true ↔ (lr (gmt (gc W c) k) < fl.length ∨ sr (gmt (gc W c) k) < fs.length)) → ∃ n21 : Nat, w_Model_isWrongFrame_L72 0 Q n21 (Int32.ofNat f) (Int32.ofNat fl.length) (Int32.ofNat (fl.length + fs.length)) (b2 b) 0 M := fun b hb => by
    refine ⟨fl.length + fs.length + 1, loop _ 0 b (by omega) (by omega) (fun e => wrongF_iff.mpr (Or.inl (hb.mp e))) (fun e => ⟨fun i hi => absurd hi (by omega), fun z => by have := hb.mpr z; rw [e] at this; cases this⟩)⟩
  by_cases c1 : lr (gmt (gc W c) k) < fl.length
  · exact itp (lt_oN c1 (by omega)) (go true ⟨fun _ => Or.inl c1, fun _ => rfl⟩)
  refine itn (nlt_oN (by omega) (by omega)) ⟨w, h.r45, rdI M (sFs w), h.sl (s := sFs w) (by simp), (by show vp_in _ (rl M (sFs w)); exact (vp_oN (by omega)).mpr a2), w, h.r45, ?_⟩
  rw [h.ml (by omega) (by omega), hsr.1, e2]
  refine ⟨(vp_oN (by omega)).mpr hm, ?_⟩
  by_cases c2 : fs.length ≤ sr (gmt (gc W c) k)
  · exact itp (le_oN c2 (by omega)) (go false ⟨(fun q => by cases q), fun z => by omega⟩)
  · exact itn (nle_oN (by omega) (by omega)) (go true ⟨fun _ => Or.inr (by omega), fun _ => rfl⟩)
/-- kinds in a row of the twin's checker -/
def TLk (A : List Nm) (co : List Ins) (f i : Nat) (ks : List Kd) (M : Mem) : Prop := ∀ j, j < ks.length → mI M f i j = kt A (gk ks j) ∧ kwf A co (gk ks j)
theorem ct_fitLocals {f kf : Nat} {fl fs lo : List Kd} (h : TE G US A S W w c k br nq nl nf nk M) (hF : FT A (co (gmt (gc W c) k)) w f kf fl fs M) (hl : TLk A (co (gmt (gc W c) k)) 111 0 lo M) (hll : lo.length = lr (gmt (gc W c) k)) (h111 : mL M 111 0 = 20) (hQ : Q (Int32.ofNat (fitL W lo fl)) M) : w_Model_fitLocals 0 (Int32.ofNat f) Q M := by
  have hF0 := hF
  obtain ⟨⟨a1, a2, a3, a4⟩, f1, f2, f3, ⟨f4, f5⟩, f6⟩ := hF
  have hm := h.mlt
  have hlr := h.lr
  have loop : ∀ n j, lo.length - j < n → j ≤ lo.length → fitL W lo fl = fitL W (lo.drop j) (fl.drop j) → w_Model_fitLocals_L2 0 Q n (Int32.ofNat f) (Int32.ofNat j) M := by
    intro n
    induction n with
    | zero => intro j hn; exact absurd hn (by omega)
    | succ n ih =>
      intro j hn hj he
      unfold w_Model_fitLocals_L2
      refine ⟨w, h.r45, ?_⟩
      rw [h.m75, oN_tnc (k := 12 * c + k) (by omega), hlr.1, h.ml (by omega) (by omega)]
      refine ⟨(vp_oN (by omega)).mpr hm, ?_⟩
      by_cases cj : lo.length ≤ j
      · refine itp (le_oN (by omega) (by omega)) ?_
        rw [he, fitL_end cj] at hQ; exact hQ
      refine itn (nle_oN (by omega) (by omega)) ?_
      rw [h111, oN_tnc (k := j) (by omega), (hl j (by omega)).1]
      refine ⟨(vp_oN (by omega)).mpr (by omega), w, h.r45, rdI M (sFl w), h.sl (s := sFl w) (by simp), (by show vp_in _ (rl M (sFl w)); exact (vp_oN (by omega)).mpr a1), ?_⟩
      rw [oN_tnc (k := f) (by omega), show mI M 300 (rdI M (sFl w)) f = Int32.ofNat fl.length from f2]
      rw [fitL_drop (by omega)] at he
      have step : ∀ κ, (if j < fl.length then gk fl j else uns) = κ → kwf A (co (gmt (gc W c) k)) κ → w_Model_fitLocals_j48 0 Q (w_Model_fitLocals_L2 0 Q n) (Int32.ofNat f) (Int32.ofNat j) (kt A κ) (kt A (gk lo j)) M := fun κ eκ hκ => by
        rw [eκ] at he
        unfold w_Model_fitLocals_j48
        refine ct_fit h.r45 h.cl h.1.2.2.1 h.la (hl j (by omega)).2 hκ ?_
        have hv := fitK_le (W := W) (a := gk lo j) (b := κ)
        by_cases z : fitK W (gk lo j) κ = 0
        · rw [if_pos z] at he
          rw [z, show Int32.ofNat j + (1 : Int32) = Int32.ofNat (j + 1) from oN_add j 1]
          exact itp (by decide) (ih (j + 1) (by omega) (by omega) he)
        · rw [if_neg z] at he
          rw [he] at hQ
          exact itn (nle_oN (b := 0) (by omega) (by omega)) hQ
      by_cases c1 : fl.length ≤ j
      · exact itp (le_oN c1 (by omega)) (step uns (by rw [if_neg (by omega)]) kwf_uns)
      · refine itn (nle_oN (by omega) (by omega)) (ct_frameKind h hF0 (by omega) (fun hk => ?_))
        rw [gk_ap, if_pos (by omega)] at hk ⊢
        exact step (gk fl j) (by rw [if_pos (by omega)]) hk
  unfold w_Model_fitLocals
  exact ⟨lo.length + 1, loop _ 0 (by omega) (by omega) rfl⟩
theorem ct_fitState {f kf : Nat} {fl fs lo st : List Kd} (h : TE G US A S W w c k br nq nl nf nk M) (hF : FT A (co (gmt (gc W c) k)) w f kf fl fs M) (hl : TLk A (co (gmt (gc W c) k)) 111 0 lo M) (hll : lo.length = lr (gmt (gc W c) k)) (h111 : mL M 111 0 = 20) (hs : TLk A (co (gmt (gc W c) k)) 212 0 st M) (hh : mI M 11 0 72 = Int32.ofNat st.length) (hs20 : st.length ≤ 20) (h212 : mL M 212 0 = 28) (hQ : Q (Int32.ofNat (fitS W lo st fl fs)) M) : w_Model_fitState 0 (Int32.ofNat f) Q M := by
  have hF0 := hF
  obtain ⟨⟨a1, a2, a3, a4⟩, f1, f2, f3, ⟨f4, f5⟩, f6⟩ := hF
  unfold w_Model_fitState
  refine ct_fitLocals h hF0 hl hll h111 ?_
  unfold fitS at hQ
  have hv := fitL_le (W := W) (lo := lo) (fl := fl)
  by_cases c1 : fitL W lo fl = 0
  · rw [if_neg (by omega)] at hQ
    rw [c1]
    refine itp (by decide) ⟨w, h.r45, rdI M (sFs w), h.sl (s := sFs w) (by simp), (by show vp_in _ (rl M (sFs w)); exact (vp_oN (by omega)).mpr a2), ?_⟩
    rw [oN_tnc (k := f) (by omega), show mI M 300 (rdI M (sFs w)) f = Int32.ofNat fs.length from f3, hh]
    by_cases c2 : st.length = fs.length
    · rw [if_neg (by omega)] at hQ
      refine itp (by rw [c2]) ⟨st.length + 1, ?_⟩
      have loop : ∀ n j r, st.length - j < n → j ≤ st.length → (r = 0 → fitL W st fs = fitL W (st.drop j) (fs.drop j)) → (r ≠ 0 → fitL W st fs = r) → r ≤ 60 → w_Model_fitState_L33 0 Q n (Int32.ofNat f) (Int32.ofNat r) (Int32.ofNat j) M := by
        intro n
        induction n with
        | zero => intro j r hn; exact absurd hn (by omega)
        | succ n ih =>
          intro j r hn hj he her h60
          unfold w_Model_fitState_L33
          rw [hh]
          by_cases cj : st.length ≤ j
          · refine itp (le_oN cj (by omega)) ?_
            by_cases c3 : r = 0
            · rw [he c3, fitL_end cj] at hQ; rw [c3]; exact hQ
            · rw [her c3] at hQ; exact hQ
          refine itn (nle_oN (by omega) (by omega)) ?_
          by_cases c3 : r = 0
          · have he := he c3
            rw [c3]
            refine itp rfl ?_
            rw [h212, oN_tnc (k := j) (by omega), (hs j (by omega)).1]
            refine ⟨(vp_oN (by omega)).mpr (by omega), w, h.r45, rdI M (sFl w), h.sl (s := sFl w) (by simp), (by show vp_in _ (rl M (sFl w)); exact (vp_oN (by omega)).mpr a1), ?_⟩
            rw [oN_tnc (k := f) (by omega), show mI M 300 (rdI M (sFl w)) f = Int32.ofNat fl.length from f2, oN_add]
            refine ct_frameKind h hF0 (by omega) (fun hk => ?_)
            rw [gk_ap, if_neg (by omega), show fl.length + j - fl.length = j by omega] at hk ⊢
            refine ct_fit h.r45 h.cl h.1.2.2.1 h.la (hs j (by omega)).2 hk ?_
            rw [fitL_drop (by omega), if_pos (show j < fs.length by omega)] at he
            rw [show Int32.ofNat j + (1 : Int32) = Int32.ofNat (j + 1) from oN_add j 1]
            refine ih (j + 1) _ (by omega) (by omega) (fun z => ?_) (fun z => ?_) fitK_le
            · rw [if_pos z] at he; exact he
            · rw [if_neg z] at he; exact he
          · rw [her c3] at hQ
            exact itn (ne_oN (b := 0) c3 (by omega) (by omega)) hQ
      exact loop _ 0 0 (by omega) (by omega) (fun _ => rfl) (fun q => absurd rfl q) (by omega)
    · rw [if_pos c2] at hQ
      exact itn (ne_oN c2 (by omega) (by omega)) hQ
  · rw [if_pos c1] at hQ
    exact itn (nle_oN (b := 0) (by omega) (by omega)) hQ
end
