/-! THE OPERATION call: its line, in the works -/
def Ci0 (w : Nat) (M0 : Mem) (M : Mem) : Prop := ((∀ i j, mI M 76 i j = mI M0 76 i j) ∧ (∀ i j, i ≠ 0 → mI M 211 i j = mI M0 211 i j) ∧ ∀ i, mI M 5 i 53 = mI M0 5 i 53) ∧ ((∀ i, mL M 211 i = mL M0 211 i) ∧ ∀ i, mL M 76 i = mL M0 76 i) ∧ mL M 30 0 = 6 ∧ mR M 3 0 1 = some (5, w)
def Ci (w j : Nat) (vs : List Int32) (M0 : Mem) (A : List Nm) (M : Mem) : Prop := Ci0 w M0 M ∧ LT A (kNs j) M ∧ ∀ i, i < vs.length → mI M 30 0 i = vs.getD i 0
theorem Ci0.fr {w : Nat} {M0 M M' : Mem} (h : Ci0 w M0 M) (hf : Fr FWd M M') : Ci0 w M0 M' :=
  ⟨⟨fun i j => (hf.Ia (f := 76) rfl rfl i j).trans (h.1.1 i j), fun i j q => (hf.Ia (f := 211) rfl rfl i j).trans (h.1.2.1 i j q), fun i => (hf.I (f := 5) (k := 53) rfl i).trans (h.1.2.2 i)⟩, ⟨fun i => (hf.L (f := 211) rfl i).trans (h.2.1.1 i), fun i => (hf.L (f := 76) rfl i).trans (h.2.1.2 i)⟩, (hf.L (f := 30) rfl 0).trans h.2.2.1, (hf.R (f := 3) (k := 1) rfl 0).trans h.2.2.2⟩
theorem Ci0.pv {w : Nat} {M0 : Mem} : PV (fun _ M => Ci0 w M0 M) := fun _ _ _ _ h _ _ hf => h.fr hf
theorem Ci.pv {w j : Nat} {vs : List Int32} {M0 : Mem} : PV (fun A M => Ci w j vs M0 A M) := fun _ _ _ _ h hp _ hf => ⟨h.1.fr hf, (h.2.1.fr hf).pre hp, fun i hi => (hf.Ia (f := 30) rfl rfl 0 i).trans (h.2.2 i hi)⟩
theorem Ci0.tk {w t : Nat} {M0 M : Mem} (h : Ci0 w M0 M) : Tk w t M0 M := ⟨fun i j _ => h.1.1 i j, fun i j a _ => h.1.2.1 i j a, h.1.2.2⟩
section
variable {B : List Nm} {r n : Nat} {p : Nat → Int32} {to : Nat} {w t : Nat} {k m : Nm} {κ : Kd} {Q X : Mem → Prop} {M0 : Mem}
/-- the numbers of a call -/
theorem c_vals {nn : Nat} (hn6 : nn ≤ 6) (ht : t < 4) (h76 : 4 * t + 4 ≤ mL M0 76 w) (h76' : mL M0 76 w < 1000000) (h212 : 6 * t + 6 ≤ mL M0 211 (2 * w + 2)) (h212' : mL M0 211 (2 * w + 2) < 1000000) : ∀ d vs ts A M v4 v5 v6, nn - vs.length < d → vs.length ≤ nn → RS B r n p to A ts M → Ci w nn vs M0 A M → (v4 = nc A k ∧ k ∈ A) → (v5 = nc A m ∧ m ∈ A) → (v6 = kC A κ ∧ kok A κ) →
    (∀ A' ws t2 M', pValsF (nn - vs.length) vs ts = .inr (ws, t2) → pEnd t2 = none → A <+: A' → RS B r n p to A' t2 M' → Tk w t M0 M' → cRf A' w t k m (kNs nn) κ M' → (∀ i, i < ws.length → mI M' 30 0 i = ws.getD i 0) → Q M') →
    (∀ A' e M', (pValsF (nn - vs.length) vs ts = .inl e ∨ ∃ ws t2, pValsF (nn - vs.length) vs ts = .inr (ws, t2) ∧ pEnd t2 = some e) → A <+: A' → Thr B A' e M' → Tk w t M0 M' → X M') → w_Reader_call_L138 0 Q X d (Int32.ofNat t) (mI M0 5 w 53) v4 v5 v6 (Int32.ofNat vs.length) M := by
  intro d
  induction d with
  | zero => intro vs ts A M v4 v5 v6 h; omega
  | succ d ih =>
    intro vs ts A M v4 v5 v6 hd hv hR hC h4 h5 h6 hQ hX
    have e18 : mI M 3 0 18 = Int32.ofNat nn := by have := hC.2.1.1; rw [List.length_replicate] at this; exact this
    unfold w_Reader_call_L138
    rw [e18]
    by_cases c1 : nn ≤ vs.length
    · refine itp (le_oN c1 (by omega)) ?_
      rw [show nn - vs.length = 0 by omega] at hQ hX
      refine o_end Ci.pv hR hC (fun q => ?_) (fun M' q th iv => hX A (er ts) M' (Or.inr ⟨vs, ts, rfl, if_neg q⟩) (List.prefix_refl _) th iv.1.tk)
      have hw1 : mR M 3 0 1 = some (5, w) := hC.1.2.2.2
      refine ⟨w, hw1, ?_⟩
      rw [h4.1, h5.1, h6.1]
      have hl : (kNs nn).length ≤ 6 := by rw [List.length_replicate]; exact hn6
      refine c_addRefT (w := w) (t := t) (ks := kNs nn) ht hw1 (by rw [mI_sI, if_pos ⟨rfl, rfl, rfl⟩]) ⟨hC.2.1.1, hC.2.1.2.1, hC.2.1.2.2.1, hC.2.1.2.2.2⟩ hl ?_ ?_ ?_ ?_ h4.2 h5.2 h6.2 (fun M' x c => ?_)
      · show 4 * t + 4 ≤ mL M 76 w; rw [hC.1.2.1.2]; exact h76
      · show mL M 76 w < 1000000; rw [hC.1.2.1.2]; exact h76'
      · show 6 * t + 6 ≤ mL M 211 (2 * w + 2); rw [hC.1.2.1.1]; exact h212
      · show mL M 211 (2 * w + 2) < 1000000; rw [hC.1.2.1.1]; exact h212'
      refine ⟨w, (x.2.2.2.2.2.1 3 0 1).trans hw1, ?_⟩
      refine hQ A vs ts _ rfl (if_pos q) (List.prefix_refl _) (RS.w (x.rs (RS.w hR))) ⟨fun i j a => ?_, fun i j a b => ?_, fun i => ?_⟩ c (fun i hi => ?_)
      · exact (x.1 i j a).trans (hC.1.1.1 i j)
      · exact (x.2.1 i j b).trans (hC.1.1.2.1 i j a)
      · by_cases ei : i = w
        · rw [ei, mI_sI, if_pos ⟨rfl, rfl, rfl⟩]
        · rw [mI_sI, if_neg (fun z => ei z.2.1), x.2.2.1 i 53 (Or.inl ei), mI_sI, if_neg (fun z => ei z.2.1)]; exact hC.1.1.2.2 i
      · exact (x.2.2.2.1 30 0 i (by omega) (by omega) (by omega)).trans (hC.2.2 i hi)
    · refine itn (nle_oN (by omega) (by omega)) ?_
      rw [show nn - vs.length = (nn - (vs.length + 1)) + 1 by omega] at hQ hX
      have j160 : ∀ b : Nat, b = (if vs.length = 0 then 58 else 44) → w_Reader_call_j160 0 Q X (w_Reader_call_L138 0 Q X d) (Int32.ofNat t) (mI M0 5 w 53) v4 v5 v6 (Int32.ofNat vs.length) (Int32.ofNat b) M := fun b hb => by
        have hb58 : 5 ≤ b ∧ b < 100 := by rw [hb]; split <;> omega
        unfold w_Reader_call_j160
        refine o_sign Ci.pv hR hC hb58.1 hb58.2 (fun A1 M1 q p1 R1 i1 => ?_) (fun A1 M1 q p1 th iv => hX A1 (er ts) M1 (Or.inl ?_) p1 th iv.1.tk)
        · have es : pSign (if vs.length = 0 then 58 else 44) ts = .inr ((), ts.tail) := by rw [← hb]; exact if_pos q
          refine o_number Ci.pv R1 i1 (fun A2 v t2 M2 a2 p2 R2 i2 => ?_) (fun A2 e M2 a2 p2 th iv => hX A2 e M2 (Or.inl ?_) (p1.trans p2) th iv.1.tk)
          · have ea : pValsF (nn - (vs.length + 1) + 1) vs ts = pValsF (nn - (vs.length + 1)) (vs ++ [v]) t2 := by
              conv => lhs; unfold pValsF
              rw [es]
              dsimp only
              rw [show pNum i32min i32max ts.tail = .inr (v, t2) from a2]
            rw [ea] at hQ hX
            refine ⟨by rw [i2.1.2.2.1]; exact (vp_oN (by omega)).mpr (by omega), ?_⟩
            rw [oN_tnc (by omega), lit32 1, oN_add]
            have el : (vs ++ [v]).length = vs.length + 1 := by rw [List.length_append, List.length_singleton]
            rw [← el]
            have p12 := p1.trans p2
            refine ih (vs ++ [v]) t2 A2 _ v4 v5 v6 (by rw [el]; omega) (by rw [el]; omega) (RS.w R2) ⟨⟨⟨i2.1.1.1, i2.1.1.2.1, i2.1.1.2.2⟩, i2.1.2.1, i2.1.2.2.1, i2.1.2.2.2⟩, ⟨i2.2.1.1, i2.2.1.2.1, i2.2.1.2.2.1, i2.2.1.2.2.2⟩, fun i hi => ?_⟩ ⟨h4.1.trans (nc_pre p12 h4.2).symm, p12.subset h4.2⟩ ⟨h5.1.trans (nc_pre p12 h5.2).symm, p12.subset h5.2⟩ ⟨h6.1.trans (kC_pre p12 h6.2).symm, kok_pre p12 h6.2⟩ (fun A' ws t3 M' z1 z2 z3 => hQ A' ws t3 M' (by rw [el] at z1; exact z1) z2 (p12.trans z3)) (fun A' e M' z1 z2 => hX A' e M' (by rw [el] at z1; exact z1) (p12.trans z2))
            rw [mI_sI]
            rw [el] at hi
            by_cases ei : i = vs.length
            · rw [if_pos ⟨rfl, rfl, ei⟩, ei, List.getD_eq_getElem?_getD, List.getElem?_append_right (Nat.le_refl _), Nat.sub_self]; rfl
            · rw [if_neg (fun z => ei z.2.2), i2.2.2 i (by omega)]
              rw [List.getD_eq_getElem?_getD, List.getD_eq_getElem?_getD, List.getElem?_append_left (by omega)]
          · unfold pValsF
            rw [es]
            dsimp only
            rw [show pNum i32min i32max ts.tail = .inl e from a2]
        · unfold pValsF
          rw [show pSign (if vs.length = 0 then 58 else 44) ts = .inl (er ts) by rw [← hb]; exact if_neg q]
      by_cases c0 : vs.length = 0
      · exact itp (by rw [c0]; rfl) (j160 58 (by rw [if_pos c0]))
      · exact itn (ne_oN (b := 0) c0 (by omega) (by omega)) (j160 44 (by rw [if_neg c0]))
/-- the arguments of a call -/
theorem c_nums {v2 v3 v4 v5 : Int32} : ∀ d j ts A M, ts.length < d → j ≤ 6 → RS B r n p to A ts M → Ci w j [] M0 A M →
    (∀ A' nn t2 M', pNumsF d j ts = .inr (nn, t2) → A <+: A' → RS B r n p to A' t2 M' → Ci w nn [] M0 A' M' → w_Reader_result 0 (fun r24 M23 => ∃ n36 : Nat, w_Reader_call_L138 0 Q X n36 v2 v3 v4 v5 r24 (0 : Int32) M23) X M') →
    (∀ A' e M', pNumsF d j ts = .inl e → A <+: A' → Thr B A' e M' → Tk w t M0 M' → X M') → w_Reader_call_L42 0 Q X d v2 v3 v4 v5 M := by
  intro d
  induction d with
  | zero => intro j ts A M h; omega
  | succ d ih =>
    intro j ts A M hd' hj hR hC hQ hX
    have e18 : mI M 3 0 18 = Int32.ofNat j := by have := hC.2.1.1; rw [List.length_replicate] at this; exact this
    unfold w_Reader_call_L42
    have ht := hR.hd.2.1.2.1
    rw [lit32 41]
    refine c_isSign hR.hd.1 (by omega) (by omega) (by omega) ?_
    by_cases c41 : (hd ts).1 = 41
    · rw [decide_eq_true c41]
      refine itn (by decide) (o_next Ci.pv hR hC (by omega) (fun A1 M1 p1 R1 i1 => hQ A1 j ts.tail M1 ?_ p1 R1 i1))
      unfold pNumsF; rw [if_pos c41]
    rw [decide_eq_false c41]
    refine itp (by decide) ?_
    rw [e18]
    have j67 : ∀ A1 t1 M1, A <+: A1 → RS B r n p to A1 t1 M1 → t1.length ≤ ts.length → Ci w j [] M0 A1 M1 → (if j = 0 then (.inr ((), ts) : Rz Unit) else pSign 44 ts) = .inr ((), t1) → w_Reader_call_j67 0 Q X (w_Reader_call_L42 0 Q X d) v2 v3 v4 v5 M1 := fun A1 t1 M1 p1 R1 hle i1 es => by
      have hp : pNumsF (d + 1) j ts = if isWd nNum t1 = true ∧ j ≠ 6 then pNumsF d (j + 1) t1.tail else .inl (er t1) := by
        conv => lhs; unfold pNumsF
        rw [if_neg c41, es]
      have e18' : mI M1 3 0 18 = Int32.ofNat j := by have := i1.2.1.1; rw [List.length_replicate] at this; exact this
      have bad : ¬ (isWd nNum t1 = true ∧ j ≠ 6) → w_Reader_call_j87 0 Q X M1 := fun q => by
        unfold w_Reader_call_j87
        exact o_wrong Ci.pv R1 i1 (fun M' th iv => hX A1 (er t1) M' (hp.trans (if_neg q)) p1 th iv.1.tk)
      unfold w_Reader_call_j67
      rw [lit32 1]
      refine c_isWd (nm := nNum) R1 (by decide) (by decide) ?_
      by_cases cw : isWd nNum t1 = true
      · rw [cw]
        refine itn (by decide) ?_
        rw [e18']
        by_cases c6 : j = 6
        · exact itp (by rw [c6]; rfl) (bad (fun q => q.2 c6))
        · refine itn (ne_oN (b := 6) c6 (by omega) (by omega)) ⟨by rw [i1.2.1.2.1]; exact (vp_oN (by omega)).mpr (by omega), _, rfl, ?_⟩
          rw [if_pos ⟨cw, c6⟩] at hp
          rw [hp] at hQ hX
          rw [oN_tnc (by omega), show mI (sI M1 211 0 j 0) 3 0 18 = mI M1 3 0 18 from rfl, e18', oN_add]
          have hk1 : 1 < (hd t1).1 := by have := of_decide_eq_true cw; omega
          have hne := R1.hd.2.2
          refine o_next (Inv := fun A M => Ci w (j + 1) [] M0 A M) Ci.pv (R1.s211.s3) ⟨⟨⟨i1.1.1.1, fun i k q => ?_, i1.1.1.2.2⟩, i1.1.2.1, i1.1.2.2.1, i1.1.2.2.2⟩, ⟨?_, i1.2.1.2.1, fun κ hκ => ?_, fun i hi => ?_⟩, fun i hi => absurd hi (Nat.not_lt_zero i)⟩ hk1 (fun A2 M2 p2 R2 i2 => ?_)
          · show mI (sI M1 211 0 j 0) 211 i k = _
            rw [mI_sI, if_neg (fun z => q z.2.1)]; exact i1.1.1.2.1 i k q
          · rw [mI_sI, if_pos ⟨rfl, rfl, rfl⟩, List.length_replicate]
          · rw [List.eq_of_mem_replicate hκ]; exact fun z => absurd z (by decide)
          · rw [List.length_replicate] at hi
            rw [gk_kNs]
            show mI (sI M1 211 0 j 0) 211 0 i = _
            rw [mI_sI]
            by_cases ci : i = j
            · rw [if_pos ⟨rfl, rfl, ci⟩]; rfl
            · rw [if_neg (fun z => ci z.2.2), i1.2.1.2.2.2 i (by rw [List.length_replicate]; omega), gk_kNs]
          · refine ih (j + 1) t1.tail A2 M2 ?_ (by omega) R2 i2 (fun A' nn t2 M' z1 z2 => hQ A' nn t2 M' z1 ((p1.trans p2).trans z2)) (fun A' e M' z1 z2 => hX A' e M' z1 ((p1.trans p2).trans z2))
            have := tail_lt hne
            omega
      · rw [Bool.not_eq_true] at cw
        rw [cw]
        exact itp (by decide) (bad (fun q => by rw [cw] at q; exact absurd q.1 (by decide)))
    by_cases c0 : j = 0
    · exact itp (by rw [c0]; decide) (j67 A ts M (List.prefix_refl _) hR (Nat.le_refl _) hC (if_pos c0))
    · refine itn (nle_oN (a := j) (b := 0) (by omega) (by omega)) ?_
      rw [lit32 44]
      refine o_sign Ci.pv hR hC (by omega) (by omega) (fun A1 M1 q p1 R1 i1 => j67 A1 ts.tail M1 p1 R1 (by rw [List.length_tail]; omega) i1 (by rw [if_neg c0]; exact if_pos q)) (fun A1 M1 q p1 th iv => hX A1 (er ts) M1 ?_ p1 th iv.1.tk)
      unfold pNumsF
      rw [if_neg c41, if_neg c0, show pSign 44 ts = .inl (er ts) from if_neg q]
/-- a call's line -/
theorem c_rcall {A : List Nm} {ts : List Tok} {M : Mem} (hR : RS B r n p to A ts M) (ht : t < 4) (hl0 : mL M 211 0 = 3100) (hl30 : mL M 30 0 = 6) (h76 : 4 * t + 4 ≤ mL M 76 w) (h76' : mL M 76 w < 1000000) (h212 : 6 * t + 6 ≤ mL M 211 (2 * w + 2)) (h212' : mL M 211 (2 * w + 2) < 1000000)
    (hQ : ∀ A' k m κ vs t2 M', pCall ts = .inr (k, m, κ, vs) → A <+: A' → RS B r n p to A' t2 M' → Tk w t M M' → cRf A' w t k m (kNs vs.length) κ M' → (∀ i, i < vs.length → mI M' 30 0 i = vs.getD i 0) → vs.length ≤ 6 → Q M')
    (hX : ∀ A' e M', pCall ts = .inl e → A <+: A' → Thr B A' e M' → Tk w t M M' → X M') : w_Reader_call 0 w (Int32.ofNat t) Q X M := by
  unfold w_Reader_call
  refine ⟨w, by rw [mR_sR, if_pos ⟨rfl, rfl, rfl⟩], ?_⟩
  have R1 : RS B r n p to A ts (sR M 3 0 1 (some (5, w))) := hR.of rfl (fun _ => rfl) (fun _ => rfl) (fun _ => rfl) (fun _ => rfl) rfl rfl rfl rfl (by rw [mR_sR, if_neg (fun z => absurd z.1 (by decide))]) rfl rfl (by rw [mR_sR, if_neg (fun z => absurd z.1 (by decide))]) rfl rfl (fun _ => rfl) rfl
  have i1 : Ci0 w M (sR M 3 0 1 (some (5, w))) := ⟨⟨fun _ _ => rfl, fun _ _ _ => rfl, fun _ => rfl⟩, ⟨fun _ => rfl, fun _ => rfl⟩, hl30, by rw [mR_sR, if_pos ⟨rfl, rfl, rfl⟩]⟩
  have e53 : mI (sR M 3 0 1 (some (5, w))) 5 w 53 = mI M 5 w 53 := rfl
  rw [e53]
  generalize sR M 3 0 1 (some (5, w)) = M1 at R1 i1
  refine o_className Ci0.pv R1 i1 (fun A2 k t2 M2 a2 p2 hk R2 i2 => ?_) (fun A' e M' a p th iv => hX A' e M' (by unfold pCall; rw [a]) p th iv.tk)
  have hp1 : pCall ts = pC1 k t2 := by unfold pCall; rw [a2]
  rw [hp1] at hQ hX
  rw [lit32 46]
  refine o_sign Ci0.pv R2 i2 (by omega) (by omega) (fun A3 M3 a3 p3 R3 i3 => ?_) (fun A' M' a p th iv => hX A' (er t2) M' (by unfold pC1; rw [show pSign 46 t2 = .inl (er t2) from if_neg a]) (p2.trans p) th iv.tk)
  have hp2 : pC1 k t2 = pC2 k t2.tail := by unfold pC1; rw [show pSign 46 t2 = .inr ((), t2.tail) from if_pos a3]
  rw [hp2] at hQ hX
  refine o_anyName Ci0.pv R3 i3 (fun A4 m t4 M4 a4 p4 hm R4 i4 => ?_) (fun A' e M' a p th iv => hX A' e M' (by unfold pC2; rw [a]) ((p2.trans p3).trans p) th iv.tk)
  have hp3 : pC2 k t2.tail = pC3 k m t4 := by unfold pC2; rw [a4]
  rw [hp3] at hQ hX
  rw [lit32 40]
  have p24 := (p2.trans p3).trans p4
  refine o_sign Ci0.pv R4 i4 (by omega) (by omega) (fun A5 M5 a5 p5 R5 i5 => ?_) (fun A' M' a p th iv => hX A' (er t4) M' (by unfold pC3; rw [show pSign 40 t4 = .inl (er t4) from if_neg a]) (p24.trans p) th iv.tk)
  have es5 : pSign 40 t4 = .inr ((), t4.tail) := if_pos a5
  have p25 := p24.trans p5
  have h4 : nc A k = nc A5 k ∧ k ∈ A5 := ⟨(nc_pre p25 hk).symm, p25.subset hk⟩
  have h5 : nc A3 m = nc A5 m ∧ m ∈ A5 := ⟨(nc_pre (p4.trans p5) hm).symm, (p4.trans p5).subset hm⟩
  rw [h4.1, h5.1]
  refine ⟨t4.tail.length + 1, c_nums (t := t) (M0 := M) (w := w) _ 0 t4.tail A5 _ (Nat.lt_succ_self _) (by omega) R5.s3 ⟨⟨i5.1, i5.2.1, i5.2.2.1, i5.2.2.2⟩, ⟨by rw [mI_sI, if_pos ⟨rfl, rfl, rfl⟩]; rfl, (i5.2.1.1 0).trans hl0, fun κ hκ => (by cases hκ), fun i hi => absurd hi (Nat.not_lt_zero i)⟩, fun i hi => absurd hi (Nat.not_lt_zero i)⟩ (fun A6 nn t6 M6 z1 z2 z3 z4 => ?_) (fun A' e M' z1 z2 => hX A' e M' (by unfold pC3; rw [es5]; dsimp only; rw [z1]) (p25.trans z2))⟩
  have hn6 := (pNumsF_le _ _ _ _ _ (by omega) z1).2
  have hp4 : pC3 k m t4 = pCall2 k m nn t6 := by unfold pC3; rw [es5]; dsimp only; rw [z1]
  rw [hp4] at hQ hX
  refine o_result Ci.pv z3 z4 (fun A7 κ t7 M7 a7 p7 hκ R7 i7 => ?_) (fun A' e M' a p th iv => hX A' e M' (by unfold pCall2; rw [a]) ((p25.trans z2).trans p) th iv.1.tk)
  have p67 := z2.trans p7
  refine ⟨nn + 1, c_vals (k := k) (m := m) (κ := κ) hn6 ht h76 h76' h212 h212' (nn + 1) [] t7 A7 M7 _ _ _ (by show nn - 0 < nn + 1; omega) (Nat.zero_le _) R7 i7 ⟨(nc_pre p67 h4.2).symm, p67.subset h4.2⟩ ⟨(nc_pre p67 h5.2).symm, p67.subset h5.2⟩ ⟨(kC_pre p7 hκ).symm, kok_pre p7 hκ⟩ (fun A' ws t2 M' y1 y2 y3 y4 y5 y6 y7 => ?_) (fun A' e M' y1 y2 y3 y4 => ?_)⟩
  · have hlen := pValsF_len _ _ _ _ _ y1
    have hlen : ws.length = nn := by rw [hlen]; show 0 + (nn - 0) = nn; omega
    refine hQ A' k m κ ws t2 M' ?_ ((p25.trans p67).trans y3) y4 y5 (by rw [hlen]; exact y6) y7 (by omega)
    unfold pCall2
    rw [a7]
    dsimp only
    rw [show pValsF nn [] t7 = .inr (ws, t2) from y1]
    dsimp only
    rw [y2]
  · refine hX A' e M' ?_ ((p25.trans p67).trans y2) y3 y4
    unfold pCall2
    rw [a7]
    dsimp only
    rcases y1 with q | ⟨ws, t2, q1, q2⟩
    · rw [show pValsF nn [] t7 = .inl e from q]
    · rw [show pValsF nn [] t7 = .inr (ws, t2) from q1]
      dsimp only
      rw [q2]
end
