/-! B: the works' checker: frames, handlers -/
def FX (A : List Nm) (co : List Ins) (w q kf : Nat) (fl fs : List Kd) (M : Mem) : Prop := mI M 70 w q = Int32.ofNat kf ∧ mI M 71 w q = Int32.ofNat fl.length ∧ mI M 72 w q = Int32.ofNat fs.length ∧ kf + (fl.length + fs.length) ≤ L73 w ∧ ∀ j, j < fl.length + fs.length → mI M 73 w (kf + j) = kC A (gk (fl ++ fs) j) ∧ kwf A co (gk (fl ++ fs) j)
def FO (A : List Nm) (co : List Ins) (w q : Nat) (fr : Option (List Kd × List Kd)) (M : Mem) : Prop := q < L6 w ∧ match fr with
  | none => mI M 70 w q = -1
  | some (fl, fs) => ∃ kf, FX A co w q kf fl fs M
/-- kinds in a row of the checker -/
def KL (A : List Nm) (co : List Ins) (f : Nat) (ks : List Kd) (this : Nat) (M : Mem) : Prop := ∀ i, i < ks.length → mI M f this i = kC A (gk ks i) ∧ kwf A co (gk ks i)
theorem KL.mem {A : List Nm} {co : List Ins} {f : Nat} {ks : List Kd} {this : Nat} {M : Mem} (h : KL A co f ks this M) : ∀ κ ∈ ks, kwf A co κ := fun κ hκ => by
  obtain ⟨i, hi, e⟩ := List.mem_iff_getElem.mp hκ
  have := (h i hi).2
  rw [show gk ks i = κ by rw [← e]; simp [List.getD_eq_getElem?_getD, hi]] at this
  exact this
def rightS (x : Mth) (fr : Option (List Kd × List Kd)) : Nat := match fr with
  | none => 36
  | some (fl, fs) => if wrongF x fl fs then 38 else 0
theorem gk_ap {a b : List Kd} {j : Nat} : gk (a ++ b) j = if j < a.length then gk a j else gk b (j - a.length) := by
  show (a ++ b).getD j _ = _
  rw [List.getD_eq_getElem?_getD, List.getElem?_append]
  split <;> rw [← List.getD_eq_getElem?_getD]
theorem gk_me {a : List Kd} {j : Nat} (h : j < a.length) : gk a j ∈ a := by
  show a.getD j _ ∈ a
  rw [List.getD_eq_getElem?_getD, List.getElem?_eq_getElem h]
  exact List.getElem_mem h
theorem mem_gk {a : List Kd} {κ : Kd} (h : κ ∈ a) : ∃ j, j < a.length ∧ gk a j = κ := by
  obtain ⟨i, hi, e⟩ := List.mem_iff_getElem.mp h
  exact ⟨i, hi, by rw [← e]; simp [List.getD_eq_getElem?_getD, hi]⟩
/-- a kind that can't be in a frame there -/
def badK (x : Mth) (nl j : Nat) (κ : Kd) : Prop := (κ.1 = -2 ∧ nl ≤ j) ∨ (κ.1 = -3 ∧ x.1 ≠ nMake)
theorem wrongF_iff {x : Mth} {fl fs : List Kd} : wrongF x fl fs = true ↔ (lr x < fl.length ∨ sr x < fs.length) ∨ ∃ j, j < fl.length + fs.length ∧ badK x fl.length j (gk (fl ++ fs) j) := by
  unfold wrongF
  rw [Bool.or_eq_true, Bool.or_eq_true, decide_eq_true_iff, decide_eq_true_iff, Bool.or_eq_true, Bool.and_eq_true, decide_eq_true_iff]
  refine or_congr Iff.rfl ⟨fun q => ?_, fun q => ?_⟩
  · rcases q with q | ⟨q1, q2⟩
    · obtain ⟨κ, hκ, e⟩ := List.any_eq_true.mp q
      obtain ⟨j, hj, ej⟩ := mem_gk hκ
      refine ⟨fl.length + j, by omega, Or.inl ⟨?_, by omega⟩⟩
      rw [gk_ap, if_neg (by omega), show fl.length + j - fl.length = j by omega, ej]
      exact of_decide_eq_true e
    · obtain ⟨κ, hκ, e⟩ := List.any_eq_true.mp q2
      obtain ⟨j, hj, ej⟩ := mem_gk hκ
      rw [List.length_append] at hj
      exact ⟨j, hj, Or.inr ⟨by rw [ej]; exact of_decide_eq_true e, q1⟩⟩
  · obtain ⟨j, hj, q⟩ := q
    rcases q with ⟨q1, q2⟩ | ⟨q1, q2⟩
    · refine Or.inl (List.any_eq_true.mpr ⟨gk (fl ++ fs) j, ?_, decide_eq_true q1⟩)
      rw [gk_ap, if_neg (by omega)]
      exact gk_me (by omega)
    · exact Or.inr ⟨q2, List.any_eq_true.mpr ⟨gk (fl ++ fs) j, gk_me (by rw [List.length_append]; exact hj), decide_eq_true q1⟩⟩
section
variable {A : List Nm} {W : List Cls} {w c k this : Nat} {br : Int32} {nq nk np nh nr : Nat} {M M' : Mem} {Q : Int32 → Mem → Prop}
theorem KE.rm (h : KE A W w c k br nq nk np nh nr this M) : cRm w M := h.2.1.2.2.2.1
theorem KE.kb (h : KE A W w c k br nq nk np nh nr this M) : KB w nq nk np nh nr := h.2.2.2.1.2
theorem KE.na (h : KE A W w c k br nq nk np nh nr this M) : nA A := h.2.2.2.1.1
theorem KE.ins {q0 t : Nat} (h : KE A W w c k br nq nk np nh nr this M) (hq : mI M 62 w (moff W c + k) = Int32.ofNat q0) (hq0 : q0 ≤ 30000) (ht : t < (co (gmt (gc W c) k)).length) : cFi A w nk np nr (q0 + t) (gin (co (gmt (gc W c) k)) t) M ∧ q0 + t < L6 w ∧ FO A (co (gmt (gc W c) k)) w (q0 + t) (frOf (gmt (gc W c) k) t) M := by
  obtain ⟨q1, h1, ⟨a1, a2, a3, a4, a5, a6, a7, a8⟩, hI, hH⟩ := h.mc
  have hb := h.kb
  have hL := L_le w
  unfold KB at hb
  have e : q1 = q0 := (oN_inj (by omega) (by omega)).mp (a1.symm.trans hq)
  subst e
  have hi := hI t ht
  have hlt : q1 + t < L6 w := by
    have : t < (gmt (gc W c) k).2.2.2.2.2.2.1.length := ht
    omega
  refine ⟨hi, hlt, hlt, ?_⟩
  have hf : cFm A w nk (q1 + t) (iF (gin (co (gmt (gc W c) k)) t)) M := hi.2.2.2.1
  have hwf := h.wf.2.2.1.2 (gin (co (gmt (gc W c) k)) t) (by
    show (co (gmt (gc W c) k)).getD t _ ∈ _
    rw [List.getD_eq_getElem?_getD, List.getElem?_eq_getElem ht]; exact List.getElem_mem ht)
  unfold frOf
  unfold cFm at hf
  cases e : iF (gin (co (gmt (gc W c) k)) t) with
  | none => rw [e] at hf; exact hf.1
  | some f =>
    obtain ⟨fl, fs⟩ := f
    rw [e] at hf
    obtain ⟨kf, b1, b2, b3, b4, b5⟩ := hf
    refine ⟨kf, b2, b3, b4, by omega, fun j hj => ?_⟩
    have hj' : j < (fl ++ fs).length := by rw [List.length_append]; exact hj
    refine ⟨(b5 j hj').1, kwf_fk (hwf.2.2.2.2 _ e _ (gk_me hj')) (b5 j hj').2⟩
theorem c_isMaker (h : KE A W w c k br nq nk np nh nr this M) (hQ : Q (b2 (decide ((gmt (gc W c) k).1 = nMake))) M) : w_Checker_isMaker this Q M := by
  unfold w_Checker_isMaker
  refine ⟨w, h.r, ?_⟩
  have hm := h.mlt
  rw [h.m6, oN_tnc (by omega), h.ml (by omega) (by omega), h.hd.2.1.1]
  refine ⟨(vp_oN (by omega)).mpr (by omega), ?_⟩
  have hA := h.na
  by_cases e : (gmt (gc W c) k).1 = nMake
  · rw [decide_eq_true e] at hQ
    exact itp (by rw [e]; exact hA.make.1) hQ
  · rw [decide_eq_false e] at hQ
    exact itn (fun q => e ((nc_inj (by have := hA.1; omega) h.hd.2.1.2 hA.make.2).mp (q.trans hA.make.1.symm))) hQ
theorem c_isRight {fr : Option (List Kd × List Kd)} {q : Nat} (h : KE A W w c k br nq nk np nh nr this M) (hF : FO A (co (gmt (gc W c) k)) w q fr M) (h8 : mI M 4 this 8 = 0) (h0 : rightS (gmt (gc W c) k) fr = 0 → Q 1 M) (h1 : rightS (gmt (gc W c) k) fr ≠ 0 → Q 0 (sI M 4 this 8 (Int32.ofNat (rightS (gmt (gc W c) k) fr)))) : w_Checker_isRight this (Int32.ofNat q) Q M := by
  obtain ⟨hq, hF⟩ := hF
  have hL := L_le w
  have hr := h.rm
  have hm := h.mlt
  have hla := h.la
  unfold w_Checker_isRight
  rw [oN_tnc (by omega), h.m6, oN_tnc (by omega)]
  refine ⟨w, h.r, by rw [hr.1 70 (by omega) (by omega)]; exact (vp_oN (by omega)).mpr hq, w, h.r, by rw [hr.1 71 (by omega) (by omega)]; exact (vp_oN (by omega)).mpr hq, ?_⟩
  cases fr with
  | none =>
    rw [show mI M 70 w q = -1 from hF]
    exact itn (by decide) (k_breaks (r := 36) h8 ⟨Or.inl rfl, h1 (by show (36 : Nat) ≠ 0; decide)⟩)
  | some f =>
    obtain ⟨fl, fs⟩ := f
    obtain ⟨kf, f1, f2, f3, f4, f5⟩ := hF
    rw [f1, f2]
    have hlr := h.lr.2
    have hsr := h.sr.2
    refine itp (oN_zero_le (by omega)) ⟨w, h.r, by rw [h.ml (by omega) (by omega)]; exact (vp_oN (by omega)).mpr hm, ?_⟩
    rw [h.lr.1]
    have bad : wrongF (gmt (gc W c) k) fl fs = true → (Q 0 (sI M 4 this 8 (Int32.ofNat 38))) := fun e => by
      have e2 : rightS (gmt (gc W c) k) (some (fl, fs)) = 38 := by show (if wrongF _ fl fs = true then 38 else 0) = 38; rw [if_pos e]
      rw [e2] at h1
      exact h1 (by decide)
    have good : ¬ wrongF (gmt (gc W c) k) fl fs = true → Q 1 M := fun e => h0 (by show (if wrongF _ fl fs = true then 38 else 0) = 0; rw [if_neg e])
    by_cases c1 : lr (gmt (gc W c) k) < fl.length
    · refine itp (lt_oN c1 (by omega)) ?_
      unfold w_Checker_isRight_j71
      exact k_breaks (r := 38) h8 ⟨Or.inl rfl, bad (wrongF_iff.mpr (Or.inl (Or.inl c1)))⟩
    refine itn (nlt_oN (by omega) (by omega)) ⟨w, h.r, by rw [hr.1 72 (by omega) (by omega)]; exact (vp_oN (by omega)).mpr hq, w, h.r, by rw [h.ml (by omega) (by omega)]; exact (vp_oN (by omega)).mpr hm, ?_⟩
    rw [f3, h.sr.1]
    by_cases c2 : fs.length ≤ sr (gmt (gc W c) k)
    · refine itp (le_oN c2 (by omega)) ⟨fl.length + fs.length + 1, ?_⟩
      have loop : ∀ n j, fl.length + fs.length - j < n → j ≤ fl.length + fs.length → (∀ i, i < j → ¬ badK (gmt (gc W c) k) fl.length i (gk (fl ++ fs) i)) → w_Checker_isRight_L81 this Q n (Int32.ofNat q) (Int32.ofNat kf) (Int32.ofNat fl.length) (Int32.ofNat j) M := by
        intro n
        induction n with
        | zero => intro j hn; exact absurd hn (by omega)
        | succ n ih =>
          intro j hn hj hb
          unfold w_Checker_isRight_L81
          refine ⟨w, h.r, by rw [hr.1 72 (by omega) (by omega)]; exact (vp_oN (by omega)).mpr hq, ?_⟩
          rw [oN_tnc (by omega), f3, oN_add, oN_add]
          by_cases cj : fl.length + fs.length ≤ j
          · refine itp (le_oN cj (by omega)) (good (fun e => ?_))
            rcases wrongF_iff.mp e with e | ⟨i, hi, e⟩
            · omega
            · exact hb i (by omega) e
          refine itn (nle_oN (by omega) (by omega)) ⟨w, h.r, ?_⟩
          obtain ⟨g1, g2⟩ := f5 j (by omega)
          rw [oN_tnc (by omega), g1, hr.2.1]
          refine ⟨(vp_oN (by omega)).mpr (by omega), ?_⟩
          have next : (¬ badK (gmt (gc W c) k) fl.length j (gk (fl ++ fs) j)) → w_Checker_isRight_L81 this Q n (Int32.ofNat q) (Int32.ofNat kf) (Int32.ofNat fl.length) (Int32.ofNat j + 1) M := fun hnb => by
            rw [show Int32.ofNat j + (1 : Int32) = Int32.ofNat (j + 1) from oN_add j 1]
            exact ih (j + 1) (by omega) (by omega) (fun i hi => by
              by_cases ei : i = j
              · rw [ei]; exact hnb
              · exact hb i (by omega))
          have bd : badK (gmt (gc W c) k) fl.length j (gk (fl ++ fs) j) → w_Checker_isRight_j138 this Q M := fun hb' => by
            unfold w_Checker_isRight_j138
            exact k_breaks (r := 38) h8 ⟨Or.inl rfl, bad (wrongF_iff.mpr (Or.inr ⟨j, by omega, hb'⟩))⟩
          have j124 : ¬ ((gk (fl ++ fs) j).1 = -2 ∧ fl.length ≤ j) → w_Checker_isRight_j124 this Q (w_Checker_isRight_L81 this Q n) (Int32.ofNat q) (Int32.ofNat kf) (Int32.ofNat fl.length) (Int32.ofNat j) (kC A (gk (fl ++ fs) j)) M := fun hn2 => by
            unfold w_Checker_isRight_j124 w_Checker_isRight_j145
            by_cases c3 : (gk (fl ++ fs) j).1 = -3
            · refine itp ((kC_eq (n := -3) g2 hla (by omega)).mpr c3) (c_isMaker h ?_)
              by_cases c4 : (gmt (gc W c) k).1 = nMake
              · rw [decide_eq_true c4]
                exact itn (by decide) (next (fun z => z.elim hn2 (fun y => y.2 c4)))
              · rw [decide_eq_false c4]
                exact itp (by decide) (bd (Or.inr ⟨c3, c4⟩))
            · exact itn (fun z => c3 ((kC_eq (n := -3) g2 hla (by omega)).mp z)) (next (fun z => z.elim hn2 (fun y => c3 y.1)))
          by_cases c5 : (gk (fl ++ fs) j).1 = -2
          · refine itp ((kC_eq (n := -2) g2 hla (by omega)).mpr c5) ?_
            by_cases c6 : fl.length ≤ j
            · exact itp (le_oN c6 (by omega)) (bd (Or.inl ⟨c5, c6⟩))
            · exact itn (nle_oN (by omega) (by omega)) (j124 (fun z => c6 z.2))
          · exact itn (fun z => c5 ((kC_eq (n := -2) g2 hla (by omega)).mp z)) (j124 (fun z => c5 z.1))
      exact loop _ 0 (by omega) (by omega) (fun i hi => absurd hi (by omega))
    · refine itn (nle_oN (by omega) (by omega)) ?_
      unfold w_Checker_isRight_j71
      exact k_breaks (r := 38) h8 ⟨Or.inl rfl, bad (wrongF_iff.mpr (Or.inl (Or.inr (by omega))))⟩
theorem headD_drop {l : List Kd} {i : Nat} : (l.drop i).headD uns = if i < l.length then gk l i else uns := by
  rw [List.headD_eq_head?_getD, List.head?_drop]
  by_cases c : i < l.length
  · rw [if_pos c, List.getElem?_eq_getElem c]
    show l[i] = l.getD i _
    rw [List.getD_eq_getElem?_getD, List.getElem?_eq_getElem c]; rfl
  · rw [if_neg c, List.getElem?_eq_none (by omega)]; rfl
theorem fitL_drop {W : List Cls} {lo fl : List Kd} {i : Nat} (h : i < lo.length) : fitL W (lo.drop i) (fl.drop i) = if fitK W (gk lo i) (if i < fl.length then gk fl i else uns) = 0 then fitL W (lo.drop (i + 1)) (fl.drop (i + 1)) else fitK W (gk lo i) (if i < fl.length then gk fl i else uns) := by
  have e : lo.drop i = gk lo i :: lo.drop (i + 1) := by
    rw [List.drop_eq_getElem_cons h]
    congr 1
    show lo[i] = lo.getD i _
    rw [List.getD_eq_getElem?_getD, List.getElem?_eq_getElem h]; rfl
  rw [e]
  show (if fitK W (gk lo i) ((fl.drop i).headD uns) = 0 then fitL W (lo.drop (i + 1)) (fl.drop i).tail else _) = _
  rw [headD_drop, List.tail_drop]
theorem fitL_end {W : List Cls} {lo fl : List Kd} {i : Nat} (h : lo.length ≤ i) : fitL W (lo.drop i) (fl.drop i) = 0 := by
  rw [List.drop_eq_nil_of_le h]; rfl
theorem kwf_uns {A : List Nm} {co : List Ins} : kwf A co uns := Or.inr ⟨rfl, Or.inl ⟨by decide, by decide⟩⟩
theorem c_localsFit {fl fs lo : List Kd} {q kf : Nat} (h : KE A W w c k br nq nk np nh nr this M) (hq : q < L6 w) (hF : FX A (co (gmt (gc W c) k)) w q kf fl fs M) (hl : KL A (co (gmt (gc W c) k)) 31 lo this M) (hll : lo.length = lr (gmt (gc W c) k)) (h31 : mL M 31 this = 20) (h8 : mI M 4 this 8 = 0) (h0 : fitL W lo fl = 0 → Q 1 M) (h1 : fitL W lo fl ≠ 0 → Q 0 (sI M 4 this 8 (Int32.ofNat (fitL W lo fl)))) : w_Checker_localsFit this (Int32.ofNat q) Q M := by
  obtain ⟨f1, f2, f3, f4, f5⟩ := hF
  have hL := L_le w
  have hr := h.rm
  have hm := h.mlt
  have hla := h.la
  have hlr := h.lr
  have loop : ∀ n j, lo.length - j < n → j ≤ lo.length → fitL W lo fl = fitL W (lo.drop j) (fl.drop j) → w_Checker_localsFit_L2 this Q n (Int32.ofNat q) (Int32.ofNat j) M := by
    intro n
    induction n with
    | zero => intro j hn; exact absurd hn (by omega)
    | succ n ih =>
      intro j hn hj he
      unfold w_Checker_localsFit_L2
      refine ⟨w, h.r, ?_⟩
      rw [h.m6, oN_tnc (by omega), hlr.1, h.ml (by omega) (by omega)]
      refine ⟨(vp_oN (by omega)).mpr hm, ?_⟩
      by_cases cj : lo.length ≤ j
      · exact itp (le_oN (by omega) (by omega)) (h0 (by rw [he]; exact fitL_end cj))
      refine itn (nle_oN (by omega) (by omega)) ?_
      rw [h31, oN_tnc (k := j) (by omega), (hl j (by omega)).1]
      refine ⟨(vp_oN (by omega)).mpr (by omega), w, h.r, ?_⟩
      rw [oN_tnc (k := q) (by omega), f2, hr.1 71 (by omega) (by omega)]
      refine ⟨(vp_oN (by omega)).mpr hq, ?_⟩
      rw [fitL_drop (by omega)] at he
      have step : ∀ κ, (if j < fl.length then gk fl j else uns) = κ → kwf A (co (gmt (gc W c) k)) κ → w_Checker_localsFit_j62 this Q (w_Checker_localsFit_L2 this Q n) (Int32.ofNat q) (Int32.ofNat j) (kC A κ) (kC A (gk lo j)) M := fun κ eκ hκ => by
        rw [eκ] at he
        unfold w_Checker_localsFit_j62
        refine c_fits h.r h.cl h.na h8 (hl j (by omega)).2 hκ (fun z => ?_) (fun z => ?_) (fun z => ?_)
        · rw [if_pos z] at he
          rw [show Int32.ofNat j + (1 : Int32) = Int32.ofNat (j + 1) from oN_add j 1]
          exact itn (by decide) (ih (j + 1) (by omega) (by omega) he)
        · rw [if_neg (by omega), z] at he
          rw [he] at h1
          exact itp rfl (k_breaks (r := 37) h8 ⟨Or.inl rfl, h1 (by decide)⟩)
        · rw [if_neg (by omega), z] at he
          rw [he] at h1
          exact itp rfl (k_broken (r := 37) (e := 43) (by simp only [mI_sI, mI_sR, mI_sJ, mR_sI, mL_sI, mL_sR, mR_sR, Nat.reduceEqDiff, and_false, false_and, if_false, and_self, true_and, and_true, if_true]; rfl) (by omega) ⟨Or.inl rfl, h1 (by decide)⟩)
      by_cases c1 : fl.length ≤ j
      · exact itp (le_oN c1 (by omega)) (step uns (by rw [if_neg (by omega)]) kwf_uns)
      · refine itn (nle_oN (by omega) (by omega)) ⟨w, h.r, w, h.r, (by rw [hr.1 70 (by omega) (by omega)]; exact (vp_oN (by omega)).mpr hq), ?_⟩
        obtain ⟨g1, g2⟩ := f5 j (by omega)
        rw [gk_ap, if_pos (by omega)] at g1 g2
        rw [f1, oN_add, oN_tnc (by omega), g1, hr.2.1]
        exact ⟨(vp_oN (by omega)).mpr (by omega), step (gk fl j) (by rw [if_pos (by omega)]) g2⟩
  unfold w_Checker_localsFit
  exact ⟨lo.length + 1, loop _ 0 (by omega) (by omega) rfl⟩
theorem c_stackFits {fl fs st : List Kd} {q kf : Nat} (h : KE A W w c k br nq nk np nh nr this M) (hF : FX A (co (gmt (gc W c) k)) w q kf fl fs M) (hs : KL A (co (gmt (gc W c) k)) 32 st this M) (hh : mI M 4 this 2 = Int32.ofNat st.length) (hs20 : st.length ≤ 20) (hsl : st.length = fs.length) (h32 : mL M 32 this = 24) (h8 : mI M 4 this 8 = 0) (h0 : fitL W st fs = 0 → Q 1 M) (h1 : fitL W st fs ≠ 0 → Q 0 (sI M 4 this 8 (Int32.ofNat (fitL W st fs)))) : w_Checker_stackFits this (Int32.ofNat (kf + fl.length)) Q M := by
  obtain ⟨f1, f2, f3, f4, f5⟩ := hF
  have hL := L_le w
  have hr := h.rm
  have loop : ∀ n j, st.length - j < n → j ≤ st.length → fitL W st fs = fitL W (st.drop j) (fs.drop j) → w_Checker_stackFits_L2 this Q n (Int32.ofNat (kf + fl.length)) (Int32.ofNat j) M := by
    intro n
    induction n with
    | zero => intro j hn; exact absurd hn (by omega)
    | succ n ih =>
      intro j hn hj he
      unfold w_Checker_stackFits_L2
      rw [hh]
      by_cases cj : st.length ≤ j
      · exact itp (le_oN cj (by omega)) (h0 (by rw [he]; exact fitL_end cj))
      refine itn (nle_oN (by omega) (by omega)) ?_
      obtain ⟨g1, g2⟩ := f5 (fl.length + j) (by omega)
      rw [gk_ap, if_neg (by omega), show fl.length + j - fl.length = j by omega] at g1 g2
      rw [show kf + (fl.length + j) = kf + fl.length + j by omega] at g1
      rw [oN_tnc (by omega), (hs j (by omega)).1, h32]
      refine ⟨(vp_oN (by omega)).mpr (by omega), w, h.r, ?_⟩
      rw [oN_add, oN_tnc (by omega), g1, hr.2.1]
      refine ⟨(vp_oN (by omega)).mpr (by omega), ?_⟩
      rw [fitL_drop (by omega), if_pos (show j < fs.length by omega)] at he
      refine c_fits h.r h.cl h.na h8 (hs j (by omega)).2 g2 (fun z => ?_) (fun z => ?_) (fun z => ?_)
      · rw [if_pos z] at he
        rw [show Int32.ofNat j + (1 : Int32) = Int32.ofNat (j + 1) from oN_add j 1]
        exact itn (by decide) (ih (j + 1) (by omega) (by omega) he)
      · rw [if_neg (by omega), z] at he
        rw [he] at h1
        exact itp rfl (k_breaks (r := 37) h8 ⟨Or.inl rfl, h1 (by decide)⟩)
      · rw [if_neg (by omega), z] at he
        rw [he] at h1
        exact itp rfl (k_broken (r := 37) (e := 43) (by simp only [mI_sI, mI_sR, mI_sJ, mR_sI, mL_sI, mL_sR, mR_sR, Nat.reduceEqDiff, and_false, false_and, if_false, and_self, true_and, and_true, if_true]; rfl) (by omega) ⟨Or.inl rfl, h1 (by decide)⟩)
  unfold w_Checker_stackFits
  exact ⟨st.length + 1, loop _ 0 (by omega) (by omega) rfl⟩
/-- the checker's rows at hand: locals, stack; whether anything is known; no rule is broken -/
def KS (A : List Nm) (x : Mth) (this : Nat) (lo st : List Kd) (kn : Bool) (M : Mem) : Prop := (mL M 31 this = 20 ∧ mL M 32 this = 24) ∧ (KL A (co x) 31 lo this M ∧ lo.length = lr x) ∧ (KL A (co x) 32 st this M ∧ mI M 4 this 2 = Int32.ofNat st.length ∧ st.length ≤ sr x) ∧ mI M 4 this 3 = b2 kn ∧ mI M 4 this 8 = 0
/-- between instructions: rows are at hand if anything is known -/
def KU (A : List Nm) (x : Mth) (this : Nat) (lo st : List Kd) (kn : Bool) (M : Mem) : Prop := (mL M 31 this = 20 ∧ mL M 32 this = 24) ∧ (kn = true → KS A x this lo st true M) ∧ mI M 4 this 3 = b2 kn ∧ mI M 4 this 8 = 0
theorem KS.u {A : List Nm} {x : Mth} {this : Nat} {lo st : List Kd} {M : Mem} (h : KS A x this lo st true M) : KU A x this lo st true M := ⟨h.1, fun _ => h, h.2.2.2.1, h.2.2.2.2⟩
/-- what is so goes to an instruction; if nothing is known, its frame is looked at alone -/
def goS (W : List Cls) (x : Mth) (lo st : List Kd) (kn : Bool) (t : Nat) : Nat := if rightS x (frOf x t) ≠ 0 then rightS x (frOf x t) else if kn then goesS W x lo st t else 0
theorem c_goes {lo st : List Kd} {kn : Bool} {t : Nat} (h : KE A W w c k br nq nk np nh nr this M) (hS : KU A (gmt (gc W c) k) this lo st kn M) (ht : t < (co (gmt (gc W c) k)).length) (h0 : goS W (gmt (gc W c) k) lo st kn t = 0 → Q 1 M) (h1 : goS W (gmt (gc W c) k) lo st kn t ≠ 0 → Q 0 (sI M 4 this 8 (Int32.ofNat (goS W (gmt (gc W c) k) lo st kn t)))) : w_Checker_goes this (Int32.ofNat t) Q M := by
  obtain ⟨⟨s1, s2⟩, hks, s8, s9⟩ := hS
  obtain ⟨q0, hh0, ⟨a1, a2, a3, a4, a5, a6, a7, a8⟩, hI, hH⟩ := h.mc
  have hL := L_le w
  have hb := h.kb
  unfold KB at hb
  have hr := h.rm
  have hm := h.mlt
  have hsr := h.sr.2
  obtain ⟨-, hq, hF⟩ := h.ins a1 (by omega) ht
  unfold w_Checker_goes
  refine ⟨w, h.r, ?_⟩
  rw [h.m6, oN_tnc (by omega), a1, oN_add]
  refine ⟨by rw [h.ml (by omega) (by omega)]; exact (vp_oN (by omega)).mpr hm, ?_⟩
  unfold goS at h0 h1
  refine c_isRight h hF s9 (fun z => ?_) (fun z => ?_)
  · rw [if_neg (by omega)] at h0 h1
    refine itn (by decide) ?_
    rw [s8]
    cases kn with
    | false => exact itp (by decide) (h0 rfl)
    | true =>
      rw [if_pos rfl] at h0 h1
      obtain ⟨-, ⟨s3, s4⟩, ⟨s5, s6, s7⟩, -, -⟩ := hks rfl
      refine itn (by decide) ⟨w, h.r, ?_⟩
      unfold goesS at h0 h1
      generalize hfr : frOf (gmt (gc W c) k) t = fr at z hF h0 h1
      cases fr with
      | none => exact absurd z (by show ¬ ((36 : Nat) = 0); decide)
      | some f =>
        obtain ⟨fl, fs⟩ := f
        obtain ⟨-, kf, hF⟩ := hF
        have hF2 := hF
        obtain ⟨f1, f2, f3, f4, f5⟩ := hF2
        have hw : ¬ wrongF (gmt (gc W c) k) fl fs = true := fun q => by
          have : (if wrongF (gmt (gc W c) k) fl fs = true then 38 else 0) = 0 := z
          rw [if_pos q] at this; exact absurd this (by decide)
        have hfS : goesS W (gmt (gc W c) k) lo st t = fitS W lo st fl fs := by
          unfold goesS
          rw [hfr]
          show (if wrongF (gmt (gc W c) k) fl fs = true then 38 else _) = _
          rw [if_neg hw]
        have h0 : fitS W lo st fl fs = 0 → Q 1 M := fun q => h0 (by show (if wrongF (gmt (gc W c) k) fl fs = true then 38 else _) = 0; rw [if_neg hw]; exact q)
        have h1 : fitS W lo st fl fs ≠ 0 → Q 0 (sI M 4 this 8 (Int32.ofNat (fitS W lo st fl fs))) := by
          have := h1
          simp only [if_neg hw] at this
          exact this
        unfold fitS at h0 h1
        rw [oN_tnc (by omega), f1, hr.1 70 (by omega) (by omega)]
        refine ⟨(vp_oN (by omega)).mpr hq, _, rfl, c_localsFit h hq hF s3 s4 s1 s9 (fun y => ?_) (fun y => ?_)⟩
        · rw [if_neg (by omega)] at h0 h1
          refine itn (by decide) ⟨w, h.r, by rw [hr.1 72 (by omega) (by omega)]; exact (vp_oN (by omega)).mpr hq, ?_⟩
          rw [s6, f3]
          by_cases c1 : st.length = fs.length
          · rw [if_neg (by omega)] at h0 h1
            refine itp (by rw [c1]) ?_
            unfold w_Checker_goes_j77
            refine ⟨w, h.r, ?_⟩
            rw [oN_tnc (by omega), f2, oN_add, hr.1 71 (by omega) (by omega)]
            refine ⟨(vp_oN (by omega)).mpr hq, c_stackFits h hF s5 s6 (by omega) c1 s2 s9 (fun x => itn (by decide) (h0 x)) (fun x => itp rfl (h1 x))⟩
          · rw [if_pos c1] at h1
            exact itn (ne_oN c1 (by omega) (by
              have := (not_congr (wrongF_iff (x := gmt (gc W c) k) (fl := fl) (fs := fs))).mp hw
              omega)) (k_breaks (r := 37) s9 (itp rfl (h1 (by decide))))
        · rw [if_pos y] at h1
          exact itp rfl (h1 y)
  · rw [if_pos z] at h1
    exact itp rfl (h1 z)
end
