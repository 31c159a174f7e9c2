/-! B: finding in the works' machine: methods, and what an instruction finds -/
/-- what may be asked for by whom -/
def AcF (W : List Cls) (v3 : Int32) (acc : Nat → Bool) : Prop := (v3 = -3 ∧ ∀ d, acc d = true) ∨ (v3 = -2 ∧ ∀ d, acc d = false) ∨ ∃ mc mj, mc < W.length ∧ mj < (gc W mc).2.2.2.2.2.length ∧ v3 = Int32.ofNat (moff W mc + mj) ∧ ∀ d, acc d = decide (d = mc)
theorem ownQ_0 {x : Mth} {l : List Mth} : ownQ x 0 l = ownI x 0 l := by
  unfold ownQ
  split
  · rename_i e; rw [e]
  · rename_i j e
    rw [e, if_pos (by rw [Int32.and_zero])]
theorem fMth1_ok {W : List Cls} {x : Mth} {c : Nat} (hc : c < W.length) {q : Nat × Nat} (h : fMth1 W x c = some q) : okM W x 0 q := by
  unfold fMth1 at h
  split at h
  · rw [← ownQ_0] at h
    cases e : ownQ x 0 (gc W c).2.2.2.2.2 with
    | none => rw [e] at h; cases h
    | some j => rw [e] at h; cases h; exact ⟨hc, ownQ_lt e⟩
  · exact mthW_ok hc h
section
variable {A : List Nm} {W : List Cls} {w c p r : Nat} {br : Int32} {nq nk np nh nr : Nat} {M M' : Mem} {Q : Int32 → Mem → Prop} {k : Nm} {x : Mth} {s : LkS}
theorem c_findMethod {o : Nat} {v3 : Int32} {acc : Nat → Bool} (h : LKw A W w br nq nk np nh nr s M) (hS : cSt w M) (hA : nA A) (hK : KB w nq nk np nh nr) (hWF : WF W) (hC : WC W) (hI : LInv W s.1) (hB : LB s) (hR : RfX A w r k x M) (hr : r < nr + 4) (ho : o < 62) (hacc : AcF W v3 acc) (hQ : ∀ M', LKw A W w br nq nk np nh nr (fMth br W s k x o acc).2 M' → cSt w M' → LInv W (fMth br W s k x o acc).2.1 → Lo w bL M M' → Q (rcM W (fMth br W s k x o acc).1) M') : w_Machine_findMethod w (Int32.ofNat r) (Int32.ofNat o) v3 Q M := by
  have h51 : W.length ≤ 51 := h.1.1.1.1.1.2.2.1
  have hL := L_le w
  have hK' := hK
  unfold KB at hK'
  unfold w_Machine_findMethod
  refine k_refClass hR (c_linkedClass h hS hA hK hWF hI hB hR.1.1.2 (fun M1 a1 s1 i1 lo1 => ?_))
  unfold fMth at hQ
  have hok := lkd_ok (br := br) (k := k) hB h51
  cases el : lkd br W s k with
  | mk y s' =>
    rw [el] at a1 i1 hQ hok
    cases y with
    | inl e =>
      exact itn (hok.1.1.neg hok.1.2.1).2 (hQ M1 a1 s1 i1 lo1)
    | inr c =>
      dsimp only at hQ
      obtain ⟨hf, -, hl⟩ := lkd_in el
      have hc := fnd_lt hf
      have hR1 := hR.lw lo1 (by rw [bL_big (by omega)]; omega) (by rw [bL_big (by omega)]; omega)
      have j58 : ((o = 50 ∧ isFc W c = true) ∨ (o = 53 ∧ isFc W c = false)) → w_Machine_findMethod_j58 w Q M1 := fun z => by
        unfold w_Machine_findMethod_j58
        rw [if_pos z] at hQ
        exact c_thrown (f := 15) (ru := 56) (hQ M1 a1 s1 i1 lo1)
      have f381 : ∀ {M2 : Mem}, LKw A W w br nq nk np nh nr s' M2 → ∀ f, 55 ≤ f → f ≤ 65 → mL M2 f w = 381 := fun a => a.1.2.1.1.2.1
      have j105 : ¬ ((o = 50 ∧ isFc W c = true) ∨ (o = 53 ∧ isFc W c = false)) → ∀ M2, LKw A W w br nq nk np nh nr s' M2 → cSt w M2 → Lo w bL M M2 → w_Machine_findMethod_j105 w Q (Int32.ofNat o) v3 (oM W (fMth1 W x c)) M2 := fun n0 M2 a2 s2 lo2 => by
        rw [if_neg n0] at hQ
        unfold w_Machine_findMethod_j105
        cases ef : fMth1 W x c with
        | none =>
          rw [ef] at hQ
          exact itn (show ¬ (0 : Int32) ≤ -2 by decide) (c_thrown (f := 13) (ru := 52) (hQ M2 a2 s2 i1 lo2))
        | some q =>
          rw [ef] at hQ
          dsimp only at hQ
          obtain ⟨eq1, hq1, hH⟩ := oM_lt a2.1 (fMth1_ok hc ef)
          rw [eq1, oN_tnc (by omega), hH.2.2.1, f381 a2 57 (by omega) (by omega), f381 a2 55 (by omega) (by omega), hH.1]
          refine itp (oN_zero_le (by omega)) ⟨(vp_oN (by omega)).mpr hq1, ?_⟩
          generalize hg : gmt (gc W q.1) q.2 = m at *
          have fin : ∀ y, fMth2 br W o acc q = y → Q (rcM W y) M2 := fun y hy => by
            have := hQ M2 a2 s2 i1 lo2
            rw [hy] at this; exact this
          unfold fMth2 at fin
          rw [hg] at fin
          have j193 : ¬ (¬ m.2.2.2.1 &&& 4 = 0 ∧ acc q.1 = false ∧ brk br 5 = true) → w_Machine_findMethod_j193 w Q (Int32.ofNat o) (Int32.ofNat (moff W q.1 + q.2)) m.2.2.2.1 M2 := fun n1 => by
            have j252 : ∀ b : Bool, (b = true ↔ (o = 52 ∨ o = 51 ∨ ¬ m.2.2.2.1 &&& 4 = 0)) → decide (¬ m.2.2.2.1 &&& 1 = 0) = decide (o = 52) → w_Machine_findMethod_j252 w Q (Int32.ofNat (moff W q.1 + q.2)) m.2.2.2.1 (b2 b) M2 := fun b hb e1 => by
              unfold w_Machine_findMethod_j252
              have stop : ¬ ((o = 52 ∨ o = 51 ∨ ¬ m.2.2.2.1 &&& 4 = 0) ∧ ¬ m.2.2.2.1 &&& 8 = 0) → Q (Int32.ofNat (moff W q.1 + q.2)) M2 := fun z => fin (.inr q) (by rw [if_neg n1, if_neg (fun y => y e1), if_neg z])
              cases b with
              | false => exact itp rfl (stop (fun z => by have := hb.mpr z.1; cases this))
              | true =>
                refine itn (by decide) ?_
                by_cases c8 : m.2.2.2.1 &&& 8 = 0
                · exact itp c8 (stop (fun z => z.2 c8))
                · exact itn c8 (c_thrown (f := 18) (ru := 58) (fin (.inl 5818) (by rw [if_neg n1, if_neg (fun y => y e1), if_pos ⟨hb.mp rfl, c8⟩])))
            have j216 : ∀ b c : Bool, b = decide (¬ m.2.2.2.1 &&& 1 = 0) → c = decide (o = 52) → w_Machine_findMethod_j216 w Q (Int32.ofNat o) (Int32.ofNat (moff W q.1 + q.2)) m.2.2.2.1 (b2 c) (b2 b) M2 := fun b c hb hc => by
              unfold w_Machine_findMethod_j216 w_Machine_findMethod_j247
              by_cases e : b = c
              · have e1 := hb.symm.trans (e.trans hc)
                refine itp (by rw [e]) ?_
                by_cases o52 : o = 52
                · exact itp (by rw [o52]; rfl) (j252 true ⟨fun _ => Or.inl o52, fun _ => rfl⟩ e1)
                refine itn (ne_oN (b := 52) o52 (by omega) (by omega)) ?_
                by_cases o51 : o = 51
                · exact itp (by rw [o51]; rfl) (j252 true ⟨fun _ => Or.inr (Or.inl o51), fun _ => rfl⟩ e1)
                refine itn (ne_oN (b := 51) o51 (by omega) (by omega)) ?_
                by_cases c4 : m.2.2.2.1 &&& 4 = 0
                · exact itp c4 (j252 false ⟨fun z => (by cases z), fun z => z.elim (fun y => absurd y o52) (fun y => y.elim (fun y => absurd y o51) (fun y => absurd c4 y))⟩ e1)
                · exact itn c4 (j252 true ⟨fun _ => Or.inr (Or.inr c4), fun _ => rfl⟩ e1)
              · refine itn (fun z => e ?_) (c_thrown (f := 15) (ru := 55) (fin (.inl 5515) (by rw [if_neg n1, if_pos (fun z => e (hb.trans (z.trans hc.symm)))])))
                cases b <;> cases c <;> first | rfl | exact absurd z (by decide)
            have j205 : ∀ b : Bool, b = decide (¬ m.2.2.2.1 &&& 1 = 0) → w_Machine_findMethod_j205 w Q (Int32.ofNat o) (Int32.ofNat (moff W q.1 + q.2)) m.2.2.2.1 (b2 b) M2 := fun b hb => by
              unfold w_Machine_findMethod_j205
              by_cases o52 : o = 52
              · exact itp (by rw [o52]; rfl) (j216 b true hb (decide_eq_true o52).symm)
              · exact itn (ne_oN (b := 52) o52 (by omega) (by omega)) (j216 b false hb (decide_eq_false o52).symm)
            unfold w_Machine_findMethod_j193
            by_cases c1 : m.2.2.2.1 &&& 1 = 0
            · exact itp c1 (j205 false (decide_eq_false (fun z => z c1)).symm)
            · exact itn c1 (j205 true (decide_eq_true c1).symm)
          have j172 : ¬ m.2.2.2.1 &&& 4 = 0 → acc q.1 = false → w_Machine_findMethod_j172 w Q (Int32.ofNat o) (Int32.ofNat (moff W q.1 + q.2)) m.2.2.2.1 M2 := fun c4 ha => by
            unfold w_Machine_findMethod_j172
            refine c_asks (rule := 53) (bit := 5) (by decide) ?_
            rw [a2.1.1.2.2]
            cases eb : brk br 5 with
            | false => exact itp rfl (j193 (fun z => by rw [eb] at z; cases z.2.2))
            | true => exact itn (by decide) (c_thrown (f := 14) (ru := 53) (fin (.inl 5314) (by rw [if_pos ⟨c4, ha, eb⟩])))
          by_cases c4 : m.2.2.2.1 &&& 4 = 0
          · exact itp c4 (j193 (fun z => z.1 c4))
          refine itn c4 ?_
          rcases hacc with ⟨e3, ha⟩ | ⟨e3, ha⟩ | ⟨mc, mj, hmc, hmj, e3, ha⟩
          · exact itp e3 (j193 (fun z => by rw [ha] at z; cases z.2.1))
          · rw [e3]
            exact itn (by decide) (itp (by decide) (j172 c4 (ha _)))
          · obtain ⟨m1, m2, m3, m4, -⟩ := a2.1.mo (e := 0) hmc
            have hH2 := (a2.1.2.1.2.2 mc hmc mj hmj).1
            rw [e3]
            refine itn (fun z => ?_) (itn (oN_nonneg (by omega)) ⟨(vp_oN (by omega)).mpr hq1, (vp_oN (by omega)).mpr (by omega), ?_⟩)
            · have : ¬ (-3 : Int32) < 0 := by rw [← z]; exact oN_nonneg (by omega)
              exact this (by decide)
            · rw [oN_tnc (by omega), hH2.1]
              by_cases c1 : q.1 = mc
              · exact itp (by rw [c1]) (j193 (fun z => by rw [ha, decide_eq_true c1] at z; cases z.2.1))
              · exact itn (ne_oN c1 (by have := (fMth1_ok hc ef).1; omega) (by omega)) (j172 c4 (by rw [ha, decide_eq_false c1]))
      have j67 : ¬ ((o = 50 ∧ isFc W c = true) ∨ (o = 53 ∧ isFc W c = false)) → w_Machine_findMethod_j67 w Q (Int32.ofNat r) (Int32.ofNat o) v3 (Int32.ofNat c) M1 := fun n0 => by
        unfold w_Machine_findMethod_j67
        refine k_refName hR1 ?_
        have nm := nc_inj (A := A) (by have := hA.1; omega) hR1.1.2.1.2 (hA.2 79 nMake rfl).2
        rw [(hA.2 79 nMake rfl).1] at nm
        by_cases cm : x.1 = nMake
        · refine itp (nm.mpr cm) (c_ownLike a1.1 hR1 hA.1 hC hc ?_)
          have := j105 n0 M1 a1 s1 lo1
          rw [show fMth1 W x c = (ownQ x 0 (gc W c).2.2.2.2.2).map (fun j => (c, j)) by unfold fMth1; rw [if_pos cm, ownQ_0]] at this
          exact this
        · refine itn (fun z => cm (nm.mp z)) (c_methodW a1.1 s1 hR1 hK hA.1 i1 hC hc hl (fun M2 s2 sp2 => ?_))
          have := j105 n0 M2 (a1.sp sp2 hK) s2 (lo1.trans (sp2.lo bL))
          rw [show fMth1 W x c = mthW W x 0 c by unfold fMth1; rw [if_neg cm]] at this
          exact this
      have j40 : ¬ (o = 50 ∧ isFc W c = true) → w_Machine_findMethod_j40 w Q (Int32.ofNat r) (Int32.ofNat o) v3 (Int32.ofNat c) M1 := fun n0 => by
        unfold w_Machine_findMethod_j40
        by_cases o53 : o = 53
        · refine itp (by rw [o53]; rfl) (c_isFace a1.1.1.1 hc ?_)
          cases ei : isFc W c with
          | false => exact itp rfl (j58 (Or.inr ⟨o53, ei⟩))
          | true => exact itn (by decide) (j67 (fun z => z.elim n0 (fun z => by rw [ei] at z; cases z.2)))
        · exact itn (ne_oN (b := 53) o53 (by omega) (by omega)) (j67 (fun z => z.elim n0 (fun z => o53 z.1)))
      refine itp (oN_zero_le (by omega)) ?_
      by_cases o50 : o = 50
      · refine itp (by rw [o50]; rfl) (c_isFace a1.1.1.1 hc ?_)
        cases ei : isFc W c with
        | false => exact itp rfl (j40 (fun z => by rw [ei] at z; cases z.2))
        | true => exact itn (by decide) (j58 (Or.inl ⟨o50, ei⟩))
      · exact itn (ne_oN (b := 50) o50 (by omega) (by omega)) (j40 (fun z => o50 z.1))
end
