/-! B: the works' checker: handlers -/
abbrev gh' (H : List Hnd) (i : Nat) : Hnd := ghn H i
theorem handS_drop {W : List Cls} {x : Mth} {lo : List Kd} {a : Nat} {H : List Hnd} {i : Nat} (h : i < H.length) : handS W x lo a (H.drop i) = if a < (ghn H i).1 ∨ (ghn H i).2.1 ≤ a then handS W x lo a (H.drop (i + 1)) else if handOne W x lo (ghn H i) = 0 then handS W x lo a (H.drop (i + 1)) else handOne W x lo (ghn H i) := by
  have e : H.drop i = ghn H i :: H.drop (i + 1) := by
    rw [List.drop_eq_getElem_cons h]
    congr 1
    show H[i] = H.getD i _
    rw [List.getD_eq_getElem?_getD, List.getElem?_eq_getElem h]; rfl
  rw [e]
  rfl
section
variable {A : List Nm} {W : List Cls} {w c k this : Nat} {br : Int32} {nq nk np nh nr : Nat} {M M' : Mem} {Q : Int32 → Mem → Prop}
theorem KE.hnd {h0 t : Nat} (h : KE A W w c k br nq nk np nh nr this M) (hq : mI M 64 w (moff W c + k) = Int32.ofNat h0) (hh0 : h0 ≤ 30000) (ht : t < (hs (gmt (gc W c) k)).length) : cFh A w (h0 + t) (ghn (hs (gmt (gc W c) k)) t) M ∧ 4 * (h0 + t) + 3 < L75 w ∧ wfH (co (gmt (gc W c) k)).length (ghn (hs (gmt (gc W c) k)) t) := by
  obtain ⟨q1, h1, ⟨a1, a2, a3, a4, a5, a6, a7, a8⟩, hI, hH⟩ := h.mc
  have hb := h.kb
  have hL := L_le w
  unfold KB at hb
  have e : h1 = h0 := (oN_inj (by omega) (by omega)).mp (a5.symm.trans hq)
  subst e
  have ht' : t < (gmt (gc W c) k).2.2.2.2.2.2.2.length := ht
  refine ⟨hH t ht, by omega, h.wf.2.2.2.1.2 _ ?_⟩
  show (hs (gmt (gc W c) k)).getD t _ ∈ _
  rw [List.getD_eq_getElem?_getD, List.getElem?_eq_getElem ht]; exact List.getElem_mem ht
theorem c_handlers {lo : List Kd} {a : Nat} (h : KE A W w c k br nq nk np nh nr this M) (h31 : mL M 31 this = 20) (hl : KL A (co (gmt (gc W c) k)) 31 lo this M) (hll : lo.length = lr (gmt (gc W c) k)) (h10 : mI M 4 this 10 = 0) (ha : mI M 4 this 7 = Int32.ofNat a) (ha80 : a ≤ 80) (h8 : mI M 4 this 8 = 0) (h0 : handS W (gmt (gc W c) k) lo a (hs (gmt (gc W c) k)) = 0 → Q 1 M) (h1 : handS W (gmt (gc W c) k) lo a (hs (gmt (gc W c) k)) ≠ 0 → Q 0 (sI M 4 this 8 (Int32.ofNat (handS W (gmt (gc W c) k) lo a (hs (gmt (gc W c) k)))))) : w_Checker_handlers this Q M := by
  obtain ⟨q0, hh0, ⟨a1, a2, a3, a4, a5, a6, a7, a8⟩, hI, hH⟩ := h.mc
  have hL := L_le w
  have hb := h.kb
  unfold KB at hb
  have hr := h.rm
  have hm := h.mlt
  have hA := h.na
  have a6' : mI M 65 w (moff W c + k) = Int32.ofNat (hs (gmt (gc W c) k)).length := a6
  have a8' : (hs (gmt (gc W c) k)).length ≤ 8 := a8
  have a7' : hh0 + (hs (gmt (gc W c) k)).length ≤ nh := a7
  have loop : ∀ n j, (hs (gmt (gc W c) k)).length - j < n → j ≤ (hs (gmt (gc W c) k)).length → handS W (gmt (gc W c) k) lo a (hs (gmt (gc W c) k)) = handS W (gmt (gc W c) k) lo a ((hs (gmt (gc W c) k)).drop j) → w_Checker_handlers_L2 this Q n (Int32.ofNat j) M := by
    intro n
    induction n with
    | zero => intro j hn; exact absurd hn (by omega)
    | succ n ih =>
      intro j hn hj he
      unfold w_Checker_handlers_L2
      refine ⟨w, h.r, ?_⟩
      rw [h.m6, oN_tnc (k := moff W c + k) (by omega), a6']
      refine ⟨by rw [h.ml (by omega) (by omega)]; exact (vp_oN (by omega)).mpr hm, ?_⟩
      by_cases cj : (hs (gmt (gc W c) k)).length ≤ j
      · refine itp (le_oN cj (by omega)) (h0 ?_)
        rw [he, List.drop_eq_nil_of_le cj]; rfl
      refine itn (nle_oN (by omega) (by omega)) ⟨w, h.r, by rw [h.ml (by omega) (by omega)]; exact (vp_oN (by omega)).mpr hm, ?_⟩
      obtain ⟨⟨g1, g2, g3, g4, g5⟩, hlt, hwf⟩ := h.hnd a5 (by omega) (show j < (hs (gmt (gc W c) k)).length by omega)
      rw [handS_drop (by omega)] at he
      generalize ghn (hs (gmt (gc W c) k)) j = H at g1 g2 g3 g4 g5 hwf he
      obtain ⟨w1, w2, w3, w4⟩ := hwf
      have hco := h.wf.2.2.1.1
      rw [a5, oN_add, show (4 : Int32) * Int32.ofNat (hh0 + j) = Int32.ofNat (4 * (hh0 + j)) from oN_mul 4 _]
      refine ⟨_, rfl, w, h.r, ?_⟩
      rw [oN_tnc (by omega), g1, ha, hr.2.2.2.1]
      refine ⟨(vp_oN (by omega)).mpr (by omega), ?_⟩
      have next : handS W (gmt (gc W c) k) lo a (hs (gmt (gc W c) k)) = handS W (gmt (gc W c) k) lo a ((hs (gmt (gc W c) k)).drop (j + 1)) → w_Checker_handlers_L2 this Q n (Int32.ofNat j + 1) M := fun e2 => by
        rw [show Int32.ofNat j + (1 : Int32) = Int32.ofNat (j + 1) from oN_add j 1]
        exact ih (j + 1) (by omega) (by omega) e2
      unfold w_Checker_handlers_j234
      by_cases c1 : a < H.1
      · rw [if_pos (Or.inl c1)] at he
        exact itp (lt_oN c1 (by omega)) (next he)
      refine itn (nlt_oN (by omega) (by omega)) ⟨w, h.r, ?_⟩
      rw [show Int32.ofNat (4 * (hh0 + j)) + (1 : Int32) = Int32.ofNat (4 * (hh0 + j) + 1) from oN_add _ 1, oN_tnc (by omega), g2, hr.2.2.2.1]
      refine ⟨(vp_oN (by omega)).mpr (by omega), ?_⟩
      by_cases c2 : a < H.2.1
      · rw [if_neg (by omega)] at he
        refine itp (lt_oN c2 (by omega)) ?_
        rw [h10]
        refine itp rfl ⟨w, h.r, by rw [h.ml (by omega) (by omega)]; exact (vp_oN (by omega)).mpr hm, w, h.r, ?_⟩
        rw [a1, show Int32.ofNat (4 * (hh0 + j)) + (2 : Int32) = Int32.ofNat (4 * (hh0 + j) + 2) from oN_add _ 2, oN_tnc (by omega), g3, oN_add, hr.2.2.2.1]
        refine ⟨(vp_oN (by omega)).mpr (by omega), _, rfl, ?_⟩
        obtain ⟨-, hq, hF⟩ := h.ins a1 (by omega) w3
        have bad : handOne W (gmt (gc W c) k) lo H ≠ 0 → Q 0 (sI M 4 this 8 (Int32.ofNat (handOne W (gmt (gc W c) k) lo H))) := fun z => by
          rw [if_neg z] at he
          rw [he] at h1
          exact h1 z
        have good : handOne W (gmt (gc W c) k) lo H = 0 → w_Checker_handlers_L2 this Q n (Int32.ofNat j + 1) M := fun z => by
          rw [if_pos z] at he
          exact next he
        clear he next ih
        unfold handOne at bad good
        generalize frOf (gmt (gc W c) k) H.2.2.1 = fr at hF bad good
        refine c_isRight h hF h8 (fun z => ?_) (fun z => ?_)
        · refine itn (by decide) ?_
          cases fr with
          | none => exact absurd z (by show ¬ ((36 : Nat) = 0); decide)
          | some f =>
            obtain ⟨fl, fs⟩ := f
            obtain ⟨-, kf, hF⟩ := hF
            have hF2 := hF
            obtain ⟨f1, f2, f3, f4, f5⟩ := hF2
            have hw : ¬ wrongF (gmt (gc W c) k) fl fs = true := fun q => by
              have : (if wrongF (gmt (gc W c) k) fl fs = true then 38 else 0) = 0 := z
              rw [if_pos q] at this; exact absurd this (by decide)
            have hwl := (not_congr (wrongF_iff (x := gmt (gc W c) k) (fl := fl) (fs := fs))).mp hw
            have hsr := h.sr.2
            simp only [if_neg hw] at bad good
            refine ⟨w, h.r, ?_⟩
            rw [oN_tnc (by omega), f3, hr.1 72 (by omega) (by omega)]
            refine ⟨(vp_oN (by omega)).mpr hq, ?_⟩
            by_cases c3 : fs.length = 1
            · simp only [c3, ne_eq, not_true_eq_false, if_false] at bad good
              refine itp (by rw [c3]; rfl) (c_localsFit h hq hF hl hll h31 h8 (fun y => ?_) (fun y => ?_))
              · simp only [y, not_true_eq_false, if_false] at bad good
                refine itn (by decide) ⟨w, h.r, ?_⟩
                rw [show Int32.ofNat (4 * (hh0 + j)) + (3 : Int32) = Int32.ofNat (4 * (hh0 + j) + 3) from oN_add _ 3, oN_tnc (by omega), g4, hr.2.2.2.1]
                refine ⟨(vp_oN (by omega)).mpr (by omega), ?_⟩
                obtain ⟨p1, p2⟩ := f5 (fl.length + 0) (by omega)
                rw [gk_ap, if_neg (by omega), show fl.length + 0 - fl.length = 0 by omega] at p1 p2
                rw [show kf + (fl.length + 0) = kf + fl.length by omega] at p1
                have step : ∀ nm, (if H.2.2.2 = nAny then nFault else H.2.2.2) = nm → nm ∈ A → w_Checker_handlers_j186 this Q (w_Checker_handlers_L2 this Q n) (Int32.ofNat j) (Int32.ofNat (q0 + H.2.2.1)) (nc A nm) M := fun nm en hn => by
                  rw [en] at bad good
                  unfold w_Checker_handlers_j186 w_Works_kindOf w_Checker_handlers_j234
                  have ek : nc A nm + 2 = kC A (2, nm) := oN_add _ 2
                  rw [ek]
                  refine ⟨w, h.r, w, h.r, by rw [hr.1 70 (by omega) (by omega)]; exact (vp_oN (by omega)).mpr hq, w, h.r, by rw [hr.1 71 (by omega) (by omega)]; exact (vp_oN (by omega)).mpr hq, ?_⟩
                  rw [oN_tnc (by omega), f1, f2, oN_add, oN_tnc (by omega), p1, hr.2.1]
                  refine ⟨(vp_oN (by omega)).mpr (by omega), c_fits h.r h.cl hA h8 (kwf_cls hn) p2 (fun x => ?_) (fun x => ?_) (fun x => ?_)⟩
                  · exact itn (by decide) (good x)
                  · rw [x] at bad
                    exact itp rfl (k_breaks (r := 37) h8 ⟨Or.inl rfl, bad (by decide)⟩)
                  · rw [x] at bad
                    exact itp rfl (k_broken (r := 37) (e := 43) (by simp only [mI_sI, mI_sR, mI_sJ, mR_sI, mL_sI, mL_sR, mR_sR, Nat.reduceEqDiff, and_false, false_and, if_false, and_self, true_and, and_true, if_true]; rfl) (by omega) ⟨Or.inl rfl, bad (by decide)⟩)
                by_cases c4 : H.2.2.2 = nAny
                · refine itp (by rw [c4]; exact hA.any.1) ?_
                  have := step nFault (by rw [if_pos c4]) hA.fault.2
                  rw [hA.fault.1] at this
                  exact this
                · refine itn (fun q => c4 ((nc_inj (by have := hA.1; omega) g5 hA.any.2).mp (q.trans hA.any.1.symm))) ⟨w, h.r, ?_⟩
                  rw [g4, hr.2.2.2.1]
                  exact ⟨(vp_oN (by omega)).mpr (by omega), step H.2.2.2 (by rw [if_neg c4]) g5⟩
              · simp only [y, not_false_eq_true, if_true] at bad
                exact itp rfl (bad trivial)
            · simp only [ne_eq, c3, not_false_eq_true, if_true] at bad
              exact itn (fun q => c3 ((oN_inj (b := 1) (by omega) (by omega)).mp q)) (k_breaks (r := 37) h8 ⟨Or.inl rfl, bad (by decide)⟩)
        · refine itp rfl ?_
          cases fr with
          | none => exact bad (by show (36 : Nat) ≠ 0; decide)
          | some f =>
            obtain ⟨fl, fs⟩ := f
            have hw : wrongF (gmt (gc W c) k) fl fs = true := Decidable.byContradiction (fun q => z (by show (if wrongF (gmt (gc W c) k) fl fs = true then 38 else 0) = 0; rw [if_neg q]))
            simp only [if_pos hw] at bad
            show Q 0 (sI M 4 this 8 (Int32.ofNat (if wrongF (gmt (gc W c) k) fl fs = true then 38 else 0)))
            rw [if_pos hw]
            exact bad (by decide)
      · rw [if_pos (by omega)] at he
        exact itn (nlt_oN (by omega) (by omega)) (next he)
  unfold w_Checker_handlers
  exact ⟨(hs (gmt (gc W c) k)).length + 1, loop _ 0 (by omega) (by omega) rfl⟩
end
