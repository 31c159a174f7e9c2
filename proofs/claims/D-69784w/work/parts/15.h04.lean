/-! B: finding in the twin: methods, whole -/
def AcT (W : List Cls) (v5 : Int32) (acc : Nat → Bool) : Prop := (v5 = -3 ∧ ∀ d, acc d = true) ∨ (v5 = -2 ∧ ∀ d, acc d = false) ∨ ∃ mc, mc < W.length ∧ v5 = Int32.ofNat mc ∧ ∀ d, acc d = decide (d = mc)
section
variable {G : List Sl} {US : UST} {A : List Nm} {S : List Sg} {W : List Cls} {w c k u p q n : Nat} {br : Int32} {nq nl nf nk : Nat} {M M' : Mem} {s : LkS} {Q : Int32 → Mem → Prop} {x : Mth} {v : List Nat} {msk : Int32} {kn : Nm}
theorem rcT_o {o : Option (Nat × Nat)} {j : Nat} : oMt ((some j).map (fun j => (c, j))) = Int32.ofNat (12 * c + j) := rfl
theorem ct_findMethod {o : Nat} {v5 : Int32} {acc : Nat → Bool} (hWF : WF W) (h : LKt G US A S W w br nq nl nf nk s M) (hI : LInv W s.1) (hB : LB s) (hx : xOk A S x) (hk : kn ∈ A) (hns : x.1 ≠ nStart) (ho : o < 62) (hacc : AcT W v5 acc) (hL : 51 ≤ mL M 110 0 ∧ mL M 110 0 < 1000000)
    (hQ : ∀ M', LKt G US A S W w br nq nl nf nk (fMth br W s kn x o acc).2 M' → (∀ e, (fMth br W s kn x o acc).1 = .inl e → tThr e M') → Q (rcT mT (fMth br W s kn x o acc).1) M') : w_Model_findMethod 0 (Int32.ofNat o) (nc A kn) (nc A x.1) (Int32.ofNat (S.idxOf (sg A x.2.1 x.2.2.1))) v5 Q M := by
  have h51 := h.1.l51
  unfold w_Model_findMethod
  refine mf_w_Model_findLinked (Q := fun v M' => v = (match (lkd br W s kn).1 with | .inl _ => -1 | .inr d => Int32.ofNat d) ∧ LKt G US A S W w br nq nl nf nk (lkd br W s kn).2 M' ∧ LInv W (lkd br W s kn).2.1 ∧ ∀ e, (lkd br W s kn).1 = .inl e → tThr e M') (fun v M1 hf ⟨ev, k1, i1, t1⟩ => ?_) (ct_findLinked hWF h hI hB hk (fun M' a b c => ⟨rfl, a, b, c⟩))
  have hL1 : 51 ≤ mL M1 110 0 ∧ mL M1 110 0 < 1000000 := by rw [hf.L (f := 110) rfl]; exact hL
  rw [ev]
  unfold fMth at hQ
  cases el : lkd br W s kn with
  | mk y s' =>
    rw [el] at k1 i1 t1 hQ
    cases y with
    | inl e =>
      exact itn (show ¬ (0 : Int32) ≤ -1 by decide) (hQ M1 k1 (fun e he => t1 e (by cases he; rfl)))
    | inr d =>
      dsimp only at hQ k1 i1
      obtain ⟨hf1, -, hl⟩ := lkd_in el
      have hd := fnd_lt hf1
      have n6 := k1.1.1.2.2.1 (6, nMake) (by decide)
      have n7 := k1.1.1.2.2.1 (7, nStart) (by decide)
      have hLA := k1.1.2.2.1
      have r132 := (k1.1.cl.2.2 d hd).2.2
      have hm6 : nc A x.1 = mI M1 11 0 6 ↔ x.1 = nMake := by rw [n6.1]; exact nc_inj (by omega) hx.1 n6.2
      have hm7 : ¬ nc A x.1 = mI M1 11 0 7 := by rw [n7.1]; exact fun z => hns ((nc_inj (by omega) hx.1 n7.2).mp z)
      refine itp (oN_zero_le (show d < 2147483648 by omega)) ⟨w, k1.1.r45, by rw [k1.1.cl.2.1.2.2.2]; exact (vp_oN (by omega)).mpr (by omega), ?_⟩
      show (if ((mI M1 132 w (Int32.ofNat d).toNatClampNeg) &&& (4 : Int32)) = 0 then (w_Model_findMethod_j34 0 Q (Int32.ofNat o) (nc A x.1) (Int32.ofNat (S.idxOf (sg A x.2.1 x.2.2.1))) v5 (Int32.ofNat d) (0 : Int32) M1) else _)
      rw [oN_tnc (k := d) (by omega), r132]
      have o50 : Int32.ofNat o = (50 : Int32) ↔ o = 50 := oN_inj (b := 50) (by omega) (by omega)
      have o51 : Int32.ofNat o = (51 : Int32) ↔ o = 51 := oN_inj (b := 51) (by omega) (by omega)
      have o52 : Int32.ofNat o = (52 : Int32) ↔ o = 52 := oN_inj (b := 52) (by omega) (by omega)
      have o53 : Int32.ofNat o = (53 : Int32) ↔ o = 53 := oN_inj (b := 53) (by omega) (by omega)
      -- of a method that was found, or was not
      have j161 : ¬ ((o = 50 ∧ isFc W d = true) ∨ (o = 53 ∧ isFc W d = false)) → ∀ M2, LKt G US A S W w br nq nl nf nk s' M2 → w_Model_findMethod_j161 0 Q (Int32.ofNat o) v5 (oMt (fMth1 W x d)) M2 := fun nf' M2 k2 => by
        rw [if_neg nf'] at hQ
        unfold w_Model_findMethod_j161
        cases ef : fMth1 W x d with
        | none =>
          rw [ef] at hQ
          refine itn (show ¬ (0 : Int32) ≤ -2 by decide) (ct_fails (ru := 52) (f := 13) (by omega) (by omega) (fun M3 f3 th => ?_))
          exact hQ M3 (k2.fr f3).1 (fun e he => by cases he; exact th)
        | some r =>
          rw [ef] at hQ
          dsimp only at hQ
          have hr := fMth1_ok hd ef
          obtain ⟨hlt, e146⟩ := oMt_lt k2.1 hr
          have l146 := k2.1.ml (f := 146) (by omega) (by omega)
          have h12 := (k2.1.mcn hr.1).2
          have hr2 := hr.2.1
          refine itp (oN_zero_le (show 12 * r.1 + r.2 < 2147483648 by omega)) ⟨w, k2.1.r45, by rw [l146]; exact (vp_oN (show 12 * r.1 + r.2 < 2147483648 by omega)).mpr hlt, ?_⟩
          rw [show oMt (some r) = Int32.ofNat (12 * r.1 + r.2) from rfl]
          rw [oN_tnc (k := 12 * r.1 + r.2) (by omega), e146]
          generalize hfg : (gmt (gc W r.1) r.2).2.2.2.1 = fl
          unfold fMth2 at hQ
          rw [hfg] at hQ
          have fin : ∀ (M3 : Mem) (y : Int32 ⊕ (Nat × Nat)), Fr SFl2 M2 M3 → (∀ e, y = .inl e → tThr e M3) → y = (if ¬ fl &&& 4 = 0 ∧ acc r.1 = false ∧ brk br 5 = true then .inl 5314
              else if decide (¬ fl &&& 1 = 0) ≠ decide (o = 52) then .inl 5515
              else if (o = 52 ∨ o = 51 ∨ ¬ fl &&& 4 = 0) ∧ ¬ fl &&& 8 = 0 then .inl 5818
              else .inr r) → Q (rcT mT y) M3 := fun M3 y f3 th ey => by
            have := hQ M3 (k2.fr f3).1
            rw [← ey] at this
            exact this th
          have fails : ∀ (ru f : Nat), ru < 100 → f < 100 → (.inl (Int32.ofNat (100 * ru + f)) : Int32 ⊕ (Nat × Nat)) = (if ¬ fl &&& 4 = 0 ∧ acc r.1 = false ∧ brk br 5 = true then .inl 5314
              else if decide (¬ fl &&& 1 = 0) ≠ decide (o = 52) then .inl 5515
              else if (o = 52 ∨ o = 51 ∨ ¬ fl &&& 4 = 0) ∧ ¬ fl &&& 8 = 0 then .inl 5818
              else .inr r) → w_Model_fails 0 (Int32.ofNat ru) (Int32.ofNat f) (fun r14 M13 => Q r14 M13) M2 := fun ru f h1 h2 ey =>
            ct_fails h2 h1 (fun M3 f3 th => fin M3 (.inl (Int32.ofNat (100 * ru + f))) f3 (fun e he => by cases he; exact th) ey)
          have done : (.inr r : Int32 ⊕ (Nat × Nat)) = (if ¬ fl &&& 4 = 0 ∧ acc r.1 = false ∧ brk br 5 = true then .inl 5314
              else if decide (¬ fl &&& 1 = 0) ≠ decide (o = 52) then .inl 5515
              else if (o = 52 ∨ o = 51 ∨ ¬ fl &&& 4 = 0) ∧ ¬ fl &&& 8 = 0 then .inl 5818
              else .inr r) → Q (Int32.ofNat (12 * r.1 + r.2)) M2 := fun ey => fin M2 (.inr r) (Fr.rf _ _) (fun e he => by cases he) ey
          have j228 : ¬ (¬ fl &&& 4 = 0 ∧ acc r.1 = false ∧ brk br 5 = true) → w_Model_findMethod_j228 0 Q (Int32.ofNat o) (Int32.ofNat (12 * r.1 + r.2)) fl M2 := fun n1 => by
            rw [if_neg n1] at done fails
            have j282 : ¬ decide (¬ fl &&& 1 = 0) ≠ decide (o = 52) → (o = 52 ∨ o = 51 ∨ ¬ fl &&& 4 = 0) → w_Model_findMethod_j282 0 Q (Int32.ofNat (12 * r.1 + r.2)) fl M2 := fun n2 z => by
              unfold w_Model_findMethod_j282
              by_cases c8 : fl &&& 8 = 0
              · exact itp c8 (done (by rw [if_neg n2, if_neg (fun y => y.2 c8)]))
              · exact itn c8 (fails 58 18 (by omega) (by omega) (by rw [if_neg n2, if_pos ⟨z, c8⟩]; rfl))
            have j251 : ∀ a b : Bool, a = decide (o = 52) → b = decide (¬ fl &&& 1 = 0) → w_Model_findMethod_j251 0 Q (Int32.ofNat o) (Int32.ofNat (12 * r.1 + r.2)) fl (b2 a) (b2 b) M2 := fun a b ha hb => by
              unfold w_Model_findMethod_j251
              by_cases cab : b = a
              · have n2 : ¬ decide (¬ fl &&& 1 = 0) ≠ decide (o = 52) := fun z => z (hb.symm.trans (cab.trans ha))
                refine itp (by rw [cab]) ?_
                by_cases c2 : o = 52
                · exact itp (o52.mpr c2) (j282 n2 (Or.inl c2))
                refine itn (fun z => c2 (o52.mp z)) ?_
                by_cases c1 : o = 51
                · exact itp (o51.mpr c1) (j282 n2 (Or.inr (Or.inl c1)))
                refine itn (fun z => c1 (o51.mp z)) ?_
                by_cases c4 : fl &&& 4 = 0
                · exact itp c4 (done (by rw [if_neg n2, if_neg (fun y => y.1.elim c2 (fun y => y.elim c1 (fun y => y c4)))]))
                · exact itn c4 (j282 n2 (Or.inr (Or.inr c4)))
              · refine itn (fun z => cab ?_) (fails 55 15 (by omega) (by omega) (by rw [if_pos (fun z => cab (hb.trans (z.trans ha.symm)))]; rfl))
                cases a <;> cases b <;> first | rfl | exact absurd z (by decide)
            have j240 : ∀ b : Bool, b = decide (¬ fl &&& 1 = 0) → w_Model_findMethod_j240 0 Q (Int32.ofNat o) (Int32.ofNat (12 * r.1 + r.2)) fl (b2 b) M2 := fun b hb => by
              unfold w_Model_findMethod_j240
              by_cases c2 : o = 52
              · exact itp (o52.mpr c2) (j251 true b (decide_eq_true c2).symm hb)
              · exact itn (fun z => c2 (o52.mp z)) (j251 false b (decide_eq_false c2).symm hb)
            unfold w_Model_findMethod_j228
            by_cases c1 : fl &&& 1 = 0
            · exact itp c1 (j240 false (decide_eq_false (fun z => z c1)).symm)
            · exact itn c1 (j240 true (decide_eq_true c1).symm)
          refine ct_isOff (bit := 5) k2.1.1.1.1.1 ?_
          cases e5 : brk br 5 with
          | false => exact itn (by decide) (j228 (fun z => by rw [e5] at z; cases z.2.2))
          | true =>
            refine itp rfl ?_
            by_cases c4 : fl &&& 4 = 0
            · exact itp c4 (j228 (fun z => z.1 c4))
            refine itn c4 ?_
            have hdv : Int32.ofNat (12 * r.1 + r.2) / (12 : Int32) = Int32.ofNat r.1 := by
              rw [show (12 : Int32) = Int32.ofNat 12 from rfl, oN_div (by omega) (by omega)]; congr 1; omega
            show (if v5 = (-3 : Int32) then _ else (¬ (12 : Int32) = 0 ∧ if (Int32.ofNat (12 * r.1 + r.2) / (12 : Int32)) = v5 then _ else _))
            rw [hdv]
            rcases hacc with ⟨z1, z2⟩ | ⟨z1, z2⟩ | ⟨mc, z0, z1, z2⟩
            · exact itp z1 (j228 (fun z => by rw [z2] at z; cases z.2.1))
            · refine itn (by rw [z1]; decide) ⟨by decide, itn (fun z => ?_) (fails 53 14 (by omega) (by omega) (by rw [if_pos ⟨c4, z2 _, e5⟩]; rfl))⟩
              have h1 := oN_zero_le (a := r.1) (by have := hr.1; omega)
              rw [z, z1] at h1; exact absurd h1 (by decide)
            · have hmc0 : ¬ v5 = (-3 : Int32) := fun z => by
                have h1 := oN_zero_le (a := mc) (by omega)
                rw [← z1, z] at h1; exact absurd h1 (by decide)
              refine itn hmc0 ⟨by decide, ?_⟩
              by_cases cm : r.1 = mc
              · exact itp (by rw [z1, cm]) (j228 (fun z => by rw [z2, decide_eq_true cm] at z; cases z.2.1))
              · refine itn (by rw [z1]; exact ne_oN cm (by have := hr.1; omega) (by omega)) (fails 53 14 (by omega) (by omega) (by rw [if_pos ⟨c4, by rw [z2]; exact decide_eq_false cm, e5⟩]; rfl))
      -- from the class upwards
      have j67 : ¬ ((o = 50 ∧ isFc W d = true) ∨ (o = 53 ∧ isFc W d = false)) → w_Model_findMethod_j67 0 Q (Int32.ofNat o) (nc A x.1) (Int32.ofNat (S.idxOf (sg A x.2.1 x.2.2.1))) v5 (Int32.ofNat d) M1 := fun nf' => by
        have fnd8 : ∀ r : Nat × Nat, okM W x 0 r → fMth1 W x d = some r → w_Model_findMethod_j128 0 Q (Int32.ofNat o) (nc A x.1) (Int32.ofNat (S.idxOf (sg A x.2.1 x.2.2.1))) v5 (Int32.ofNat d) (oMt (some r)) M1 := fun r hr e => by
          have := j161 nf' M1 k1
          rw [e] at this
          have hlt := (oMt_lt k1.1 hr).1
          unfold w_Model_findMethod_j128
          exact itp (oN_zero_le (show 12 * r.1 + r.2 < 2147483648 by omega)) this
        unfold w_Model_findMethod_j67
        by_cases cm : x.1 = nMake
        · refine ⟨2, ?_⟩
          unfold w_Model_findMethod_L75
          refine itn (oN_nonneg (show d < 2147483648 by omega)) (itn (by decide) (itn hm7 (ct_methodIn k1.1 hd hx.1 hx.2.1 hx.2.2 (itp (hm6.mpr cm) ?_))))
          unfold w_Model_findMethod_j123 w_Model_findMethod_L75
          refine itp (by decide) ?_
          have e1 : fMth1 W x d = (ownI x 0 (gc W d).2.2.2.2.2).map (fun j => (d, j)) := by unfold fMth1; rw [if_pos cm]
          cases eI : ownI x 0 (gc W d).2.2.2.2.2 with
          | none =>
            rw [eI] at e1
            have := j161 nf' M1 k1
            rw [e1] at this
            unfold w_Model_findMethod_j128
            exact itn (show ¬ (0 : Int32) ≤ -2 by decide) (itp (hm6.mpr cm) this)
          | some j =>
            rw [eI] at e1
            exact fnd8 (d, j) (fMth1_ok hd e1) e1
        · have e1 : fMth1 W x d = mthW W x 0 d := by unfold fMth1; rw [if_neg cm]
          have faces : mthUp W x 0 52 (some d) = none → w_Model_findMethod_j128 0 Q (Int32.ofNat o) (nc A x.1) (Int32.ofNat (S.idxOf (sg A x.2.1 x.2.2.1))) v5 (Int32.ofNat d) (-2) M1 := fun e => by
            unfold w_Model_findMethod_j128
            refine itn (by decide) (itn (fun z => cm (hm6.mp z)) (itn hm7 ?_))
            refine ct_inFaces (fl := false) i1 k1 hx hL1 hd hl (msk := 0) rfl (fun M2 f2 => ?_)
            have := j161 nf' M2 (k1.fr f2).1
            rw [e1] at this
            unfold mthW at this
            rw [e] at this
            exact this
          have loop : ∀ m r (u : Option Nat), (∀ d, u = some d → d < W.length ∧ s'.1 d = 1 ∧ mu W d < r) → ((u = none ∨ r < m) ∧ 0 < m) → mthUp W x 0 52 (some d) = mthUp W x 0 r u → w_Model_findMethod_L75 0 Q m (Int32.ofNat o) (nc A x.1) (Int32.ofNat (S.idxOf (sg A x.2.1 x.2.2.1))) v5 (Int32.ofNat d) (-2) (oC u) M1 := by
            intro m
            induction m with
            | zero => intro r u _ hm; exact absurd hm.2 (by omega)
            | succ m ihm =>
              intro r u hu hr he
              unfold w_Model_findMethod_L75
              cases u with
              | none => exact itp (by decide) (faces (he.trans (by cases r <;> rfl)))
              | some e =>
                obtain ⟨hel, le, me⟩ := hu e rfl
                obtain ⟨r', er⟩ : ∃ r', r = r' + 1 := ⟨r - 1, by omega⟩
                subst er
                have hrm := hr.1.resolve_left (fun z => by cases z)
                refine itn (oN_nonneg (show e < 2147483648 by omega)) (itn (by decide) (itn hm7 (ct_methodIn k1.1 hel hx.1 hx.2.1 hx.2.2 (itn (fun z => cm (hm6.mp z)) (ct_parentOf k1.1.r45 k1.1.cl hel ?_)))))
                unfold w_Model_findMethod_j123
                rw [show mthUp W x 0 (r' + 1) (some e) = (match ownQ x 0 (gc W e).2.2.2.2.2 with
                  | some j => some (e, j)
                  | none => mthUp W x 0 r' (upW W e)) from rfl, ownQ_0] at he
                cases eI : ownI x 0 (gc W e).2.2.2.2.2 with
                | none =>
                  rw [eI] at he
                  by_cases e0 : e = 0
                  · have eu : upW W e = none := by unfold upW; rw [if_pos e0]
                    rw [eu] at he ⊢
                    exact ihm r' none (fun _ z => by cases z) ⟨Or.inl rfl, by omega⟩ he
                  · obtain ⟨e', eu, hel', le', hmu⟩ := i1.nx hel le e0
                    rw [eu] at he ⊢
                    exact ihm r' (some e') (fun d' z => by cases z; exact ⟨hel', le', by omega⟩) ⟨Or.inr (by omega), by omega⟩ he
                | some j =>
                  rw [eI] at he
                  have e2 : fMth1 W x d = some (e, j) := by
                    rw [e1]; unfold mthW; rw [he]
                  have hr' := fMth1_ok hd e2
                  have hlt := (oMt_lt k1.1 hr').1
                  have f8 := fnd8 (e, j) hr' e2
                  obtain ⟨m', em⟩ : ∃ m', m = m' + 1 := ⟨m - 1, by omega⟩
                  subst em
                  show w_Model_findMethod_L75 0 Q (m' + 1) (Int32.ofNat o) (nc A x.1) (Int32.ofNat (S.idxOf (sg A x.2.1 x.2.2.1))) v5 (Int32.ofNat d) (Int32.ofNat (12 * e + j)) (oC (upW W e)) M1
                  unfold w_Model_findMethod_L75
                  by_cases cu : oC (upW W e) < 0
                  · exact itp cu f8
                  · exact itn cu (itp (oN_zero_le (show 12 * e + j < 2147483648 by have : 12 * e + j < 612 := hlt; omega)) f8)
          exact ⟨53, loop 53 52 (some d) (fun d' z => by cases z; exact ⟨hd, hl, by have := mu_le (W := W) (c := d); omega⟩) ⟨Or.inr (by omega), by omega⟩ rfl⟩
      have j58 : ((o = 50 ∧ isFc W d = true) ∨ (o = 53 ∧ isFc W d = false)) → w_Model_findMethod_j58 0 Q M1 := fun z => by
        rw [if_pos z] at hQ
        unfold w_Model_findMethod_j58
        refine ct_fails (ru := 56) (f := 15) (by omega) (by omega) (fun M3 f3 th => ?_)
        exact hQ M3 (k1.fr f3).1 (fun e he => by cases he; exact th)
      have j34 : ∀ b : Bool, b = isFc W d → w_Model_findMethod_j34 0 Q (Int32.ofNat o) (nc A x.1) (Int32.ofNat (S.idxOf (sg A x.2.1 x.2.2.1))) v5 (Int32.ofNat d) (b2 b) M1 := fun b hb => by
        unfold w_Model_findMethod_j34 w_Model_findMethod_j47
        have n53 : ¬ o = 53 → ¬ (o = 50 ∧ isFc W d = true) → ¬ ((o = 50 ∧ isFc W d = true) ∨ (o = 53 ∧ isFc W d = false)) := fun a c z => z.elim c (fun z => a z.1)
        by_cases c50 : o = 50
        · refine itp (o50.mpr c50) ?_
          cases b with
          | false => exact itp rfl (itn (fun z => by have := o53.mp z; omega) (j67 (n53 (by omega) (fun z => by rw [← hb] at z; cases z.2))))
          | true => exact itn (by decide) (j58 (Or.inl ⟨c50, hb.symm⟩))
        refine itn (fun z => c50 (o50.mp z)) ?_
        by_cases c53 : o = 53
        · refine itp (o53.mpr c53) ?_
          cases b with
          | false => exact itp rfl (j58 (Or.inr ⟨c53, hb.symm⟩))
          | true => exact itn (by decide) (j67 (fun z => z.elim (fun z => c50 z.1) (fun z => by rw [← hb] at z; cases z.2)))
        · exact itn (fun z => c53 (o53.mp z)) (j67 (n53 c53 (fun z => c50 z.1)))
      by_cases c4 : (gc W d).2.2.2.1 &&& 4 = 0
      · exact itp c4 (j34 false (by unfold isFc; rw [decide_eq_false (fun z => z c4)]))
      · exact itn c4 (j34 true (by unfold isFc; rw [decide_eq_true c4]))
/-- the method that is meant at a call -/
def dspW (W : List Cls) (x : Mth) (c : Nat) : Int32 ⊕ (Nat × Nat) := match mthW W x 5 c with
  | none => .inl 5818
  | some m => if ¬ (gmt (gc W m.1) m.2).2.2.2.1 &&& 8 = 0 then .inl 5818 else .inr m
theorem ct_dispatch (h : LKt G US A S W w br nq nl nf nk s M) (hI : LInv W s.1) (hx : xOk A S x) (hc : c < W.length) (hl : s.1 c = 1) (hL : 51 ≤ mL M 110 0 ∧ mL M 110 0 < 1000000)
    (hQ : ∀ M', Fr (SLs ||| SFl2) M M' → (∀ e, dspW W x c = .inl e → tThr e M') → Q (rcT mT (dspW W x c)) M') : w_Model_dispatch 0 (Int32.ofNat c) (nc A x.1) (Int32.ofNat (S.idxOf (sg A x.2.1 x.2.2.1))) Q M := by
  have h51 := h.1.l51
  have bad : ∀ M1, Fr SLs M M1 → dspW W x c = .inl 5818 → w_Model_dispatch_j103 0 Q M1 := fun M1 f1 e => by
    unfold w_Model_dispatch_j103
    refine ct_fails (ru := 58) (f := 18) (by omega) (by omega) (fun M3 f3 th => ?_)
    have := hQ M3 ((f1.sub rfl).trans (f3.sub rfl)) (fun e' he => by rw [e] at he; cases he; exact th)
    rw [e] at this; exact this
  have j82 : ∀ M1, Fr SLs M M1 → w_Model_dispatch_j82 0 Q (oMt (mthW W x 5 c)) M1 := fun M1 f1 => by
    have k1 := (h.fr f1).1
    unfold w_Model_dispatch_j82
    cases e : mthW W x 5 c with
    | none => exact itp (show (-2 : Int32) < 0 by decide) (bad M1 f1 (by unfold dspW; rw [e]))
    | some m =>
      have hm := mthW_ok hc e
      obtain ⟨hlt, e146⟩ := oMt_lt k1.1 hm
      refine itn (oN_nonneg (show 12 * m.1 + m.2 < 2147483648 by omega)) ⟨w, k1.1.r45, by rw [k1.1.ml (f := 146) (by omega) (by omega)]; exact (vp_oN (show 12 * m.1 + m.2 < 2147483648 by omega)).mpr hlt, ?_⟩
      show (if ((mI M1 146 w (Int32.ofNat (12 * m.1 + m.2)).toNatClampNeg) &&& (8 : Int32)) = 0 then (Q (Int32.ofNat (12 * m.1 + m.2)) M1) else _)
      rw [oN_tnc (k := 12 * m.1 + m.2) (by omega), e146]
      by_cases c8 : (gmt (gc W m.1) m.2).2.2.2.1 &&& 8 = 0
      · have ed : dspW W x c = .inr m := by unfold dspW; rw [e]; dsimp only; rw [if_neg (fun z => z c8)]
        have := hQ M1 (f1.sub rfl) (fun e' he => by rw [ed] at he; cases he)
        rw [ed] at this
        exact itp c8 this
      · exact itn c8 (bad M1 f1 (by unfold dspW; rw [e]; dsimp only; rw [if_pos c8]))
  have fnd8 : ∀ r : Nat × Nat, okM W x 5 r → mthW W x 5 c = some r → w_Model_dispatch_j67 0 Q (Int32.ofNat c) (nc A x.1) (Int32.ofNat (S.idxOf (sg A x.2.1 x.2.2.1))) (oMt (some r)) M := fun r hr e => by
    have := j82 M (Fr.rf _ _)
    rw [e] at this
    have hlt := (oMt_lt h.1 hr).1
    unfold w_Model_dispatch_j67
    exact itp (oN_zero_le (show 12 * r.1 + r.2 < 2147483648 by omega)) this
  have loop : ∀ m r (u : Option Nat), (∀ d, u = some d → d < W.length ∧ s.1 d = 1 ∧ mu W d < r) → ((u = none ∨ r < m) ∧ 0 < m) → mthUp W x 5 52 (some c) = mthUp W x 5 r u → w_Model_dispatch_L7 0 Q m (Int32.ofNat c) (nc A x.1) (Int32.ofNat (S.idxOf (sg A x.2.1 x.2.2.1))) (-2) (oC u) M := by
    intro m
    induction m with
    | zero => intro r u _ hm; exact absurd hm.2 (by omega)
    | succ m ihm =>
      intro r u hu hr he
      unfold w_Model_dispatch_L7
      cases u with
      | none =>
        refine itp (by decide) ?_
        unfold w_Model_dispatch_j67
        refine itn (by decide) (ct_inFaces (fl := true) hI h hx hL hc hl (msk := 5) rfl (fun M2 f2 => ?_))
        have := j82 M2 f2
        unfold mthW at this
        rw [he, show mthUp W x 5 r none = none from by cases r <;> rfl] at this
        exact this
      | some e =>
        obtain ⟨hel, le, me⟩ := hu e rfl
        obtain ⟨r', er⟩ : ∃ r', r = r' + 1 := ⟨r - 1, by omega⟩
        subst er
        have hrm := hr.1.resolve_left (fun z => by cases z)
        refine itn (oN_nonneg (show e < 2147483648 by omega)) (itn (by decide) (ct_methodIn h.1 hel hx.1 hx.2.1 hx.2.2 ?_))
        rw [show mthUp W x 5 (r' + 1) (some e) = (match ownQ x 5 (gc W e).2.2.2.2.2 with
          | some j => some (e, j)
          | none => mthUp W x 5 r' (upW W e)) from rfl] at he
        have up : ownQ x 5 (gc W e).2.2.2.2.2 = none → w_Model_dispatch_j52 0 Q (w_Model_dispatch_L7 0 Q m) (Int32.ofNat c) (nc A x.1) (Int32.ofNat (S.idxOf (sg A x.2.1 x.2.2.1))) (Int32.ofNat e) M := fun eq => by
          rw [eq] at he
          unfold w_Model_dispatch_j52 w_Model_dispatch_j54
          refine ct_parentOf h.1.r45 h.1.cl hel ?_
          by_cases e0 : e = 0
          · have eu : upW W e = none := by unfold upW; rw [if_pos e0]
            rw [eu] at he ⊢
            exact ihm r' none (fun _ z => by cases z) ⟨Or.inl rfl, by omega⟩ he
          · obtain ⟨e', eu, hel', le', hmu⟩ := hI.nx hel le e0
            rw [eu] at he ⊢
            exact ihm r' (some e') (fun d' z => by cases z; exact ⟨hel', le', by omega⟩) ⟨Or.inr (by omega), by omega⟩ he
        cases eI : ownI x 0 (gc W e).2.2.2.2.2 with
        | none => exact itp (show (-2 : Int32) < 0 by decide) (up (by unfold ownQ; rw [eI]))
        | some j =>
          have hj := ownI_lt eI
          have hj3 : j < (gc W e).2.2.2.2.2.length := by omega
          have h12 := (h.1.mcn hel).2
          have e146 : mI M 146 w (12 * e + j) = (gmt (gc W e) j).2.2.2.1 := (h.1.hd hel hj3).2.2.2.1
          refine itn (oN_nonneg (show 12 * e + j < 2147483648 by omega)) ⟨w, h.1.r45, by rw [h.1.ml (f := 146) (by omega) (by omega)]; exact (vp_oN (show 12 * e + j < 2147483648 by omega)).mpr (by omega), ?_⟩
          show (if ((mI M 146 w (Int32.ofNat (12 * e + j)).toNatClampNeg) &&& (5 : Int32)) = 0 then (w_Model_dispatch_j54 0 Q (w_Model_dispatch_L7 0 Q m) (Int32.ofNat c) (nc A x.1) (Int32.ofNat (S.idxOf (sg A x.2.1 x.2.2.1))) (Int32.ofNat e) (Int32.ofNat (12 * e + j)) M) else _)
          rw [oN_tnc (k := 12 * e + j) (by omega), e146]
          by_cases c5 : (gmt (gc W e) j).2.2.2.1 &&& 5 = 0
          · have eq : ownQ x 5 (gc W e).2.2.2.2.2 = some j := by
              unfold ownQ; rw [eI]; dsimp only
              rw [if_pos (show (gmt (gc W e) j).2.2.2.1 &&& 5 = 0 from c5)]
            rw [eq] at he
            have e2 : mthW W x 5 c = some (e, j) := by unfold mthW; rw [he]
            have f8 := fnd8 (e, j) ⟨hel, ownQ_lt eq⟩ e2
            refine itp c5 ?_
            unfold w_Model_dispatch_j54
            refine ct_parentOf h.1.r45 h.1.cl hel ?_
            obtain ⟨m', em⟩ : ∃ m', m = m' + 1 := ⟨m - 1, by omega⟩
            subst em
            unfold w_Model_dispatch_L7
            by_cases cu : oC (upW W e) < 0
            · exact itp cu f8
            · exact itn cu (itp (oN_zero_le (show 12 * e + j < 2147483648 by omega)) f8)
          · refine itn c5 (up ?_)
            unfold ownQ; rw [eI]; dsimp only
            rw [if_neg (show ¬ (gmt (gc W e) j).2.2.2.1 &&& 5 = 0 from c5)]
  unfold w_Model_dispatch
  exact ⟨53, loop 53 52 (some c) (fun d' z => by cases z; exact ⟨hc, hl, by have := mu_le (W := W) (c := c); omega⟩) ⟨Or.inr (by omega), by omega⟩ rfl⟩
end
