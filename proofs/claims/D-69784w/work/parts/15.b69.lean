theorem c_endMethod {B A : List Nm} {w m q0 np0 nh0 nq nk np nh nr nu line : Nat} {P : PM} {Q X : Mem → Prop} {M : Mem} (hN : NC B A M) (hP : cPM A w m q0 np0 nh0 nq nk np nh nr nu P M) (hw : mR M 3 0 1 = some (5, w)) (hm : mI M 3 0 4 = Int32.ofNat m) (hm4 : m < 1000) (lm : m < mL M 63 w) (hline : mI M 3 0 2 = Int32.ofNat line) (hl : ∀ f, 23 ≤ f → f ≤ 29 → mL M f 0 = 3100) (hnu : nu ≤ 3100) (r7 : nq ≤ mL M 67 w) (r7' : mL M 67 w < 1000000) (r4 : np ≤ mL M 74 w) (r4' : mL M 74 w < 1000000) (r5 : 4 * nh ≤ mL M 75 w) (r5' : mL M 75 w < 1000000)
    (hQ : ∀ M', endM line P = .inr (mthOf P) → Wr w q0 np0 nh0 M M' → cMc A w nq nk np nh nr m (mthOf P) M' → Q M')
    (hX : ∀ e M', endM line P = .inl e → Thr B A e M' → (∀ b : Nat → Nat, b 67 ≤ q0 → b 74 ≤ np0 → b 75 ≤ 4 * nh0 → Ex w b M M') → X M') : w_Reader_endMethod 0 Q X M := by
  obtain ⟨⟨⟨a1, a2, a3, a4, a5⟩, ⟨b1, b2', b3⟩⟩, ⟨c1, c2', c3, c4, c5, c6⟩, ⟨d1, d2⟩, ⟨e1, e2⟩, ⟨E, f1, f2, f3⟩, g1, g2⟩ := hP
  have hA := hN.len
  have hlb : ∀ i ∈ P.2.1, lbOk i.1 i.2.1.2.2.1 ∧ i.2.2.2 ≤ 100000 := fun i hi => by
    obtain ⟨k, k1, k2⟩ := mem_gpi hi
    have := (d1 k k1).2.2.2
    rw [k2] at this; exact this.2
  have hln : ∀ x ∈ P.2.2.1, x.2.2.2.2 ≤ 100000 := fun x hx => by
    obtain ⟨k, k1, k2⟩ := mem_gh hx
    have := (d2 k k1).2
    rw [k2] at this; exact this
  have thr : ∀ (rule pl : Nat) M1 (v : Int32), endM line P = .inl (rule, pl) → v = Int32.ofNat pl → Wr w q0 np0 nh0 M M1 → w_Works_refuse 0 (Int32.ofNat rule) v (fun i M' => i = 0 ∧ X M') M1 := fun rule pl M1 v he hv hW => by
    unfold w_Works_refuse
    refine ⟨rfl, hX _ _ he ⟨?_, rfl, hv⟩ (fun b x y z => (hW.ex x y z).wo.wo)⟩
    have : NC B A M1 := ⟨hN.1.of (hW.o (by decide) 0 4) (fun k => hW.o (by decide) 0 k) (fun k => hW.o (by decide) 0 k) (fun k => hW.o (by decide) 0 k) ?_ (hW.2.2 _ _) (hW.2.2 _ _) (hW.2.2 _ _) (hW.2.2 _ _), hN.2⟩
    · exact this.r9
    · exact fun k => (hW.2.1 _ _ _).2
  unfold w_Reader_endMethod
  refine ⟨w, hw, by rw [hm]; exact (vp_oN (by omega)).mpr lm, ?_⟩
  rw [hm, oN_tnc (by omega), c2']
  refine c_end18 e1 (by omega) (by omega) hl (c_end59 (U := usE q0 np0 nh0 E) (pd := P.2.2.2.2.map (fun f => f.2.2)) e1 f2 (by omega) (by omega) (by omega) hl (usE_ok E q0 np0 nh0 (by rw [f1.1]; exact fun i hi => (hlb i hi).2) (by rw [f1.2]; exact hln)) c3 (fun x hx => ?_) ?_ ?_)
  · obtain ⟨y, y1, y2⟩ := dupLb_mem _ _ _ hx
    obtain ⟨i, i1, i2⟩ := mem_glb y1
    have := (e1.2 i i1).2.2.2
    rw [i2, y2] at this; exact this
  · revert g1 g2
    cases P.2.2.2.2 with
    | none => intro g1 g2; exact Or.inl ⟨rfl, g1⟩
    | some f => intro g1 g2; exact Or.inr ⟨f.2.2, rfl, g1.1, g1.2.1, g2 f rfl⟩
  rw [lines9_eq f1 (fun i hi => (hlb i hi).1)]
  unfold w_Reader_endMethod_j138
  cases h9 : minL (lines9 P) with
  | some l =>
    have hl9 : l ≤ 100000 := by
      have := minL_spec (dupLb [] P.2.2.2.1 ++ badL P.2.2.2.1 P.2.1.length (usE q0 np0 nh0 E) ++ (P.2.2.2.2.map (fun f => f.2.2)).toList)
      rw [lines9_eq f1 (fun i hi => (hlb i hi).1), h9] at this
      rcases List.mem_append.mp this.1 with q | q
      · rcases List.mem_append.mp q with q | q
        · obtain ⟨y, y1, y2⟩ := dupLb_mem _ _ _ q
          obtain ⟨i, i1, i2⟩ := mem_glb y1
          have := (e1.2 i i1).2.2.2
          rw [i2, y2] at this; exact this
        · obtain ⟨u, u1, u2⟩ := List.mem_flatMap.mp q
          split at u2
          · simp at u2; rw [u2]
            exact (usE_ok E q0 np0 nh0 (by rw [f1.1]; exact fun i hi => (hlb i hi).2) (by rw [f1.2]; exact hln) u u1).2
          · cases u2
      · revert q g2
        cases P.2.2.2.2 with
        | none => intro g2 q; cases q
        | some f => intro g2 q; simp at q; rw [q]; exact g2 f rfl
    exact itn (nle_oN (a := 2147483647) (by omega) (by omega)) (thr 9 l M _ (by unfold endM; rw [h9]) rfl (Wr.rf _ _ _ _ _))
  | none =>
    refine itp (Int32.le_refl _) ?_
    have hnil : dupLb [] P.2.2.2.1 ++ badL P.2.2.2.1 P.2.1.length (usE q0 np0 nh0 E) ++ (P.2.2.2.2.map (fun f => f.2.2)).toList = [] := by
      have := minL_spec (dupLb [] P.2.2.2.1 ++ badL P.2.2.2.1 P.2.1.length (usE q0 np0 nh0 E) ++ (P.2.2.2.2.map (fun f => f.2.2)).toList)
      rw [lines9_eq f1 (fun i hi => (hlb i hi).1), h9] at this
      exact this
    have hbad : badL P.2.2.2.1 P.2.1.length (usE q0 np0 nh0 E) = [] := (List.append_eq_nil_iff.mp (List.append_eq_nil_iff.mp hnil).1).2
    have hfd : ∀ u ∈ usE q0 np0 nh0 E, ∃ j, lbI P.2.2.2.1 u.1 = some j := fun u hu => by
      have hb : ¬ bad9 P.2.2.2.1 P.2.1.length u.1 (decide (u.2.1 = 3)) = true := fun q => by
        have : u.2.2.2 ∈ badL P.2.2.2.1 P.2.1.length (usE q0 np0 nh0 E) := List.mem_flatMap.mpr ⟨u, hu, by rw [if_pos q]; simp⟩
        rw [hbad] at this; cases this
      unfold bad9 at hb
      rw [lbl_lbI] at hb
      cases hi : lbI P.2.2.2.1 u.1 with
      | none => rw [hi] at hb; exact absurd rfl hb
      | some j => exact ⟨j, rfl⟩
    refine c_end157 (E0 := E) e1 f2 rfl (by omega) (by omega) (by omega) hl hw hfd (fun j hj => ?_) (by rw [f1.1]; exact fun i hi => (hlb i hi).1) (by rw [f1.2]; exact hln) (by rw [f1.1]; omega) r7' (by rw [f1.1]; omega) r4' (by rw [f1.2]; omega) r5' (fun d M2 hW ht => ?_)
    · rw [f1.1] at hj ⊢; exact (d1 j hj).1.1
    · have h9' : (mI M2 3 0 9) = Int32.ofNat (usE q0 np0 nh0 E).length := (hW.o (by decide) 0 9).trans f2.1
      have h10 : l10 P.2.2.2.1 (rgE E) = lines10 P := by rw [f1.2]; rfl
      rw [h10]
      unfold w_Reader_endMethod_L157
      rw [h9']
      refine itp (le_oN (Nat.le_refl _) (by omega)) ?_
      cases h10' : minL (lines10 P) with
      | some l =>
        have hl10 : l ≤ 100000 := by
          have := minL_spec (lines10 P)
          rw [h10'] at this
          obtain ⟨x, x1, x2⟩ := List.mem_flatMap.mp this.1
          split at x2
          · simp at x2; rw [x2]; exact hln x x1
          · cases x2
        exact itn (nle_oN (a := 2147483647) (by omega) (by omega)) (thr 10 l M2 _ (by unfold endM; rw [h9, h10']) rfl hW)
      | none =>
        refine itp (Int32.le_refl _) ?_
        by_cases c0 : P.2.1.length = 0
        · refine itp (by rw [c0]; rfl) ?_
          exact thr 8 line M2 _ (by unfold endM; rw [h9, h10']; dsimp only; rw [if_pos c0]) ((hW.o (by decide) 0 2).trans hline) hW
        · refine itn (ne_oN (b := 0) c0 (by omega) (by omega)) (hQ M2 (by unfold endM; rw [h9, h10']; dsimp only; rw [if_neg c0]) hW ?_)
          obtain ⟨t1, t2⟩ := tgE_at E q0 np0 nh0 ht
          rw [f1.1] at t1
          rw [f1.2] at t2
          have lc : (mthOf P).2.2.2.2.2.2.1.length = P.2.1.length := by show (P.2.1.map _).length = _; simp
          have lh : (mthOf P).2.2.2.2.2.2.2.length = P.2.2.1.length := by show (P.2.2.1.map _).length = _; simp
          refine ⟨q0, nh0, ⟨(hW.o (by decide) w m).trans c1, ?_, by rw [lc]; omega, by rw [lc]; exact c3, (hW.o (by decide) w m).trans c4, ?_, by rw [lh]; omega, by rw [lh]; exact c6⟩, fun i hi => ?_, fun i hi => ?_⟩
          · rw [lc]; exact (hW.o (by decide) w m).trans c2'
          · rw [lh]; exact (hW.o (by decide) w m).trans c5
          · rw [lc] at hi
            have e : gin (mthOf P).2.2.2.2.2.2.1 i = insOf P.2.2.2.1 (gpi P.2.1 i) := gin_map hi
            rw [e]
            exact cIn.fin (d1 i hi) hW (t1 i hi) (by have := pkS_take hi; omega)
          · rw [lh] at hi
            have e : ghn (mthOf P).2.2.2.2.2.2.2 i = hndOf P.2.2.2.1 (gh P.2.2.1 i) := ghn_map hi
            rw [e]
            obtain ⟨u1, u2, u3⟩ := t2 i hi
            obtain ⟨⟨v1, v2⟩, -⟩ := d2 i hi
            refine ⟨u1, u2, u3, ?_, v2⟩
            rw [hW.1 75 w _ (fun z => absurd z.1 (by decide)) (fun z => absurd z.1 (by decide)) (fun z => by omega)]
            exact v1
