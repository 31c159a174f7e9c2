/-- labels of a pick become numbers -/
def PQl (G : List Sl) (w zc lf t : Nat) (LS : List Lb) (ls : List Nm) (M M' : Mem) : Prop := Fr (2037035976334486086268445688409378161051468393665936250636140449354381299763336706183397376) M M' ∧ GF G [sLi w] M M' ∧ (∀ s, rl M' s = rl M s) ∧ (∀ s, rdI M' s = rdI M s) ∧ LoT w zc M M' ∧ ∀ k, rd M' (sLi w) k = if lf ≤ k ∧ k < lf + t then Int32.ofNat (lbN LS (ls.getD (k - lf) [])) else rd M (sLi w) k
theorem ct_cloop {G : List Sl} {US : UST} {A : List Nm} {S : List Sg} {W : List Cls} {w c : Nat} {br : Int32} {q0 nl0 nq nl nf nk : Nat} {p : PM} {z : Nat × Nat × Nat × Nat × Nat × Nat} {L ts : List Tok} {M0 : Mem} {Q X : Mem → Prop} (hx : Gx G w) (hal : allL p) (hz0 : z.2.1 ≤ q0) (hz1 : z.2.2.1 ≤ nl0) (hqq : nq = q0 + p.2.1.length) (hpk : nl0 + pkS p.2.1 ≤ 3900) (hpn : nl0 + pkS p.2.1 ≤ nl)
    (hQ : ∀ M', JH G US A S W w c br q0 nl0 nq nl nf nk p z L ts M0 p.2.2.1.length p.2.1.length M' → Q M') :
    ∀ d ii M1, p.2.1.length - ii < d → ii ≤ p.2.1.length → JH G US A S W w c br q0 nl0 nq nl nf nk p z L ts M0 p.2.2.1.length ii M1 → w_Model_endMethod_L278 0 Q X d (Int32.ofNat (q0 + ii)) M1 := by
  intro d
  induction d with
  | zero => intro ii M1 h; omega
  | succ d ih =>
    intro ii M1 hd' hi h
    have hw := hx.2.2.2.1
    obtain ⟨⟨m1, m2, m3, m4, m5⟩, m6, -⟩ := XW_in hw
    have ew : mR M1 11 0 45 = some (12, w) := h.2.1.1.1.2.1
    have hTG := h.2.2.2.2.1.1.1
    have c35 : mI M1 12 w 35 = Int32.ofNat nq := h.2.1.2.1.1
    have hRL := h.2.1.2.2.1
    have hbn := h.2.1.2.2.2
    have hAl := h.1.1.2.2.1
    unfold w_Model_endMethod_L278
    refine ⟨w, ew, ?_⟩
    rw [c35]
    by_cases ei : ii = p.2.1.length
    · refine itp (le_oN (by omega) (by omega)) (hQ M1 ?_)
      rw [← ei]; exact h
    refine itn (nle_oN (by omega) (by omega)) ⟨w, ew, rdI M1 (sOp w), (hTG _ m1).1.1, ?_⟩
    have hil : ii < p.2.1.length := by omega
    obtain ⟨x1, x2, x3, x4, x5, x6⟩ := h.2.2.1.2.1.2 ii (Nat.le_refl _) hil
    have hlb := h.2.2.1.2.2.2.2
    have tq : (Int32.ofNat (q0 + ii)).toNatClampNeg = q0 + ii := oN_tnc (by omega)
    have vq : ∀ s ∈ XC w, vp_in (Int32.ofNat (q0 + ii)) (rl M1 s) := fun s hs => (vp_oN (by omega)).mpr (by have := hRL.1 s hs; omega)
    have eo : mI M1 401 (rdI M1 (sOp w)) (q0 + ii) = Int32.ofNat (gpi p.2.1 ii).1 := x1.1
    rw [tq, eo]
    refine ⟨vq (sOp w) (by simp), ?_⟩
    -- goes on
    have j411 : ∀ M2, JH G US A S W w c br q0 nl0 nq nl nf nk p z L ts M0 p.2.2.1.length (ii + 1) M2 → w_Model_endMethod_j411 0 Q X (w_Model_endMethod_L278 0 Q X d) (Int32.ofNat (q0 + ii)) M2 := fun M2 h2 => by
      unfold w_Model_endMethod_j411
      rw [lit32 1, oN_add, Nat.add_assoc]
      exact ih (ii + 1) M2 (by omega) (by omega) h2
    have plain : ¬ isJ (gpi p.2.1 ii).1 → (gpi p.2.1 ii).1 ≠ 40 → w_Model_endMethod_j411 0 Q X (w_Model_endMethod_L278 0 Q X d) (Int32.ofNat (q0 + ii)) M1 := fun n1 n2 => by
      refine j411 M1 (h.iStep hx hil hz0 hz1 hpk (Fr.rf _ _) (GF.rf hTG) (fun _ => rfl) (LoT.rf _ _ _) (fun _ _ => rfl) (fun _ _ => rfl) ?_)
      have el : (gpi p.2.1 ii).2.1.2.2.1 = [] := x5.2 n1 n2
      have el2 : (insOf p.2.2.2.1 (gpi p.2.1 ii)).2.2.2.1 = [] := by show (gpi p.2.1 ii).2.1.2.2.1.map _ = []; rw [el]; rfl
      refine ⟨x1, ?_, x3, fun q => absurd q n1, fun _ _ => el2⟩
      rw [el2]; rw [el] at x2; exact x2
    have j339 : ¬ isJ (gpi p.2.1 ii).1 → w_Model_endMethod_j339 0 Q X (w_Model_endMethod_L278 0 Q X d) (Int32.ofNat (q0 + ii)) (Int32.ofNat (gpi p.2.1 ii).1) M1 := by
      intro n1
      unfold w_Model_endMethod_j339
      by_cases c40 : (gpi p.2.1 ii).1 = 40
      · refine itp (by rw [c40]; rfl) ⟨w, ew, rdI M1 (sBs w), (hTG _ m3).1.1, vq (sBs w) (by simp), ?_⟩
        obtain ⟨y1, y2, y3, y4⟩ := x2
        obtain ⟨lf', b1, b2', b3, b4⟩ := y3 c40
        rw [List.length_map] at b2' b3
        have ebs := x6 c40
        have hps := pkS_mono (L := p.2.1) (show ii + 1 ≤ p.2.1.length by omega)
        rw [List.take_length, pkS_tk1 hil] at hps
        have hpn' : pkN (gpi p.2.1 ii) = (gpi p.2.1 ii).2.1.2.2.1.length := by unfold pkN; rw [if_pos c40]
        have elf : lf' = nl0 + pkS (p.2.1.take ii) := (oN_inj (by omega) (by omega)).mp (b1.symm.trans ebs)
        subst elf
        generalize hlf : nl0 + pkS (p.2.1.take ii) = lf at b1 b3 b4 ebs
        generalize hls : (gpi p.2.1 ii).2.1.2.2.1 = ls at b2' b3 b4 x4 hpn'
        have er : mI M1 300 (rdI M1 (sBs w)) (q0 + ii) = Int32.ofNat lf := ebs
        rw [tq, er]
        refine ⟨ls.length + 1, ?_⟩
        have lss : ∀ nm ∈ ls, (lbl p.2.2.2.1 nm).isSome = true := fun nm hn => hal.1 _ (gpi_mem hil) nm (by rw [hls]; exact hn)
        have loop : ∀ e t M2, ls.length - t < e → t ≤ ls.length → PQl G w z.1 lf t p.2.2.2.1 ls M1 M2 → w_Model_endMethod_L357 0 Q X (w_Model_endMethod_L278 0 Q X d) e (Int32.ofNat (q0 + ii)) (Int32.ofNat (lf + t)) M2 := by
          intro e
          induction e with
          | zero => intro t M2 h; omega
          | succ e ihe =>
            intro t M2 he ht hP
            obtain ⟨p1, p2, p3, p4, p5, p6⟩ := id hP
            have ew2 : mR M2 11 0 45 = some (12, w) := (p1.R (f := 11) (k := 45) rfl 0).trans ew
            have T2 := p2.1
            have rX : ∀ s ∈ XW w, s ≠ sLi w → ∀ k, rd M2 s k = rd M1 s k := fun s hs n => (p2.2.1 s (hw s hs) (by simpa using n)).1
            have eb : mI M2 300 (rdI M2 (sBs w)) (q0 + ii) = Int32.ofNat lf := (rX (sBs w) (by simp) (sl_ne (by simp)) _).trans ebs
            have ec : mI M2 300 (rdI M2 (sCs w)) (q0 + ii) = Int32.ofNat ls.length := (rX (sCs w) (by simp) (sl_ne (by simp)) _).trans b2'
            have vq2 : ∀ s ∈ XC w, vp_in (Int32.ofNat (q0 + ii)) (rl M2 s) := fun s hs => by rw [p3]; exact vq s hs
            unfold w_Model_endMethod_L357
            refine ⟨w, ew2, rdI M2 (sBs w), (T2 _ m3).1.1, vq2 (sBs w) (by simp), w, ew2, rdI M2 (sCs w), (T2 _ m4).1.1, vq2 (sCs w) (by simp), ?_⟩
            rw [tq, eb, ec, oN_add]
            by_cases et : t = ls.length
            · refine itp (le_oN (by omega) (by omega)) (j411 M2 ?_)
              refine h.iStep hx hil hz0 hz1 hpk p1 (p2.sub (by simp)) p3 p5 (fun k _ => rX (sAs w) (by simp) (sl_ne (by simp)) k) (fun k hk => ?_) ?_
              · rw [hlf, hpn'] at hk
                rw [p6, if_neg (by omega)]
              · have il : (insOf p.2.2.2.1 (gpi p.2.1 ii)).2.2.2.1 = ls.map (lbN p.2.2.2.1) := by show (gpi p.2.1 ii).2.1.2.2.1.map _ = _; rw [hls]
                refine ⟨⟨(rX (sOp w) (by simp) (sl_ne (by simp)) _).trans x1.1, x1.2⟩, ⟨?_, fun q => absurd c40 q, fun _ => ⟨lf, eb, ?_, ?_, fun j hj => ?_⟩, y4⟩, x3.at (rX (sCf w) (by simp) (sl_ne (by simp)) _) ⟨fun s hs k hk => absurd hk (Nat.not_lt_zero k), fun k hk => absurd hk (Nat.not_lt_zero k), fun s hs k _ => ?_, fun k _ => rX _ (by simp) (sl_ne (by simp)) k, fun s _ => by rw [p3]; exact ⟨Nat.le_refl _, id⟩⟩, fun q => absurd q n1, fun _ q => absurd c40 q⟩
                · rw [rX (sAs w) (by simp) (sl_ne (by simp)) _, y1]
                  have n2 : ¬ isJ (insOf p.2.2.2.1 (gpi p.2.1 ii)).1 := n1
                  rw [if_neg n1, if_neg n2]; rfl
                · rw [il, List.length_map, List.length_map]; exact ec
                · rw [il, List.length_map, List.length_map]; exact b3
                · rw [il, List.length_map, List.length_map] at hj
                  rw [p6, if_pos (by omega), il]
                  have : lf + j - lf = j := by omega
                  rw [this]
                  show _ = ((ls.map (lbN p.2.2.2.1)).map Int32.ofNat).getD j 0
                  rw [List.getD_eq_getElem?_getD, List.getD_eq_getElem?_getD, List.getElem?_map, List.getElem?_map, List.getElem?_eq_getElem hj]; rfl
                · simp only [List.mem_cons, List.not_mem_nil, or_false] at hs
                  rcases hs with q | q | q <;> subst q <;> exact rX _ (by simp) (sl_ne (by simp)) k
            · refine itn (nle_oN (by omega) (by omega)) ⟨w, ew2, rdI M2 (sLi w), (T2 _ m6).1.1, w, ew2, rdI M2 (sLi w), (T2 _ m6).1.1, ?_⟩
              have tl : (Int32.ofNat (lf + t)).toNatClampNeg = lf + t := oN_tnc (by omega)
              have vl : vp_in (Int32.ofNat (lf + t)) (rl M2 (sLi w)) := (vp_oN (by omega)).mpr (by rw [p3]; have := hRL.2.1; omega)
              have htl : t < ls.length := by omega
              have hmt : ls.getD t [] ∈ ls := by rw [List.getD_eq_getElem?_getD, List.getElem?_eq_getElem htl]; exact List.getElem_mem htl
              have ev : mI M2 300 (rdI M2 (sLi w)) (lf + t) = nc A (ls.getD t []) := by
                have e1 : rd M2 (sLi w) (lf + t) = rd M1 (sLi w) (lf + t) := by rw [p6, if_neg (by omega)]
                refine e1.trans ((b4 t (by rw [List.length_map]; exact htl)).trans ?_)
                show (ls.map (nc A)).getD t 0 = _
                rw [List.getD_eq_getElem?_getD, List.getElem?_map, List.getElem?_eq_getElem htl, List.getD_eq_getElem?_getD, List.getElem?_eq_getElem htl]; rfl
              rw [tl, ev]
              refine ⟨vl, ct_labelN hx.2.2.2.2.1 T2 (hlb.of (p1.I (f := 11) (k := 60) rfl 0) (fun s hs => ?_)) hAl (x4 _ hmt) (lss _ hmt) ⟨vl, ?_⟩⟩
              · have hn : s ∉ [sLi w] := fun q => by
                  simp only [List.mem_cons, List.not_mem_nil, or_false] at hs q
                  rcases hs with e | e | e | e | e <;> (rw [e] at q; cases q)
                exact ⟨(p2.2.1 s (hx.2.2.2.2.1 s hs) hn).1, p3 s⟩
              rw [lit32 1, oN_add, Nat.add_assoc]
              refine ihe (t + 1) _ (by omega) (by omega) ?_
              have gw := p2.wr (s := sLi w) (k := lf + t) (v := Int32.ofNat (lbN p.2.2.2.1 (ls.getD t []))) m6 (by simp) rfl
              refine ⟨Fr.wIa rfl rfl p1, gw, p3, p4, p5.wo, fun k => ?_⟩
              have : rd (sI M2 300 (rdI M2 (sLi w)) (lf + t) (Int32.ofNat (lbN p.2.2.2.1 (ls.getD t [])))) (sLi w) k = if k = lf + t then Int32.ofNat (lbN p.2.2.2.1 (ls.getD t [])) else rd M2 (sLi w) k := rd_wr (s := sLi w)
              rw [this]
              by_cases ek : k = lf + t
              · rw [if_pos ek, if_pos (by omega), show k - lf = t by omega]
              · rw [if_neg ek, p6]
                by_cases ck : lf ≤ k ∧ k < lf + t
                · rw [if_pos ck, if_pos (by omega)]
                · rw [if_neg ck, if_neg (by omega)]
        exact loop _ 0 M1 (by omega) (by omega) ⟨Fr.rf _ _, GF.rf hTG, fun _ => rfl, fun _ => rfl, LoT.rf _ _ _, fun k => by rw [if_neg (by omega)]⟩
      · exact itn (ne_oN (b := 40) c40 (by omega) (by omega)) (plain n1 c40)
    by_cases c23 : (gpi p.2.1 ii).1 < 23
    · exact itp (lt_oN (b := 23) c23 (by omega)) (j339 (fun q => by omega))
    refine itn (nlt_oN (b := 23) (by omega) (by omega)) ?_
    by_cases c39 : 39 < (gpi p.2.1 ii).1
    · exact itp (lt_oN (a := 39) c39 (by omega)) (j339 (fun q => by omega))
    refine itn (nlt_oN (a := 39) (by omega) (by omega)) ⟨w, ew, rdI M1 (sAs w), (hTG _ m2).1.1, w, ew, rdI M1 (sAs w), (hTG _ m2).1.1, vq (sAs w) (by simp), ?_⟩
    have hJ : isJ (gpi p.2.1 ii).1 := ⟨by omega, by omega⟩
    obtain ⟨nm, hnm⟩ : ∃ nm, (gpi p.2.1 ii).2.1.2.2.1 = [nm] := List.length_eq_one_iff.mp (x5.1 hJ)
    obtain ⟨y1, y2, y3, y4⟩ := x2
    rw [if_pos hJ, hnm] at y1
    have ev : mI M1 300 (rdI M1 (sAs w)) (q0 + ii) = nc A nm := y1
    have hmA : nm ∈ A := x4 nm (by rw [hnm]; simp)
    have hso : (lbl p.2.2.2.1 nm).isSome = true := hal.1 _ (gpi_mem hil) nm (by rw [hnm]; simp)
    rw [ev]
    refine ct_labelN hx.2.2.2.2.1 hTG hlb hAl hmA hso ⟨vq (sAs w) (by simp), j411 _ ?_⟩
    have gw := (GF.rf (X := [sAs w, sLi w]) hTG).wr (s := sAs w) (k := q0 + ii) (v := Int32.ofNat (lbN p.2.2.2.1 nm)) m2 (by simp) rfl
    have rw' : ∀ k, rd (sI M1 300 (rdI M1 (sAs w)) (q0 + ii) (Int32.ofNat (lbN p.2.2.2.1 nm))) (sAs w) k = if k = q0 + ii then Int32.ofNat (lbN p.2.2.2.1 nm) else rd M1 (sAs w) k := fun k => rd_wr (s := sAs w)
    have g1 := (GF.rf (X := [sAs w]) hTG).wr (s := sAs w) (k := q0 + ii) (v := Int32.ofNat (lbN p.2.2.2.1 nm)) m2 (by simp) rfl
    have rX : ∀ s ∈ XW w, s ≠ sAs w → ∀ k, rd (sI M1 300 (rdI M1 (sAs w)) (q0 + ii) (Int32.ofNat (lbN p.2.2.2.1 nm))) s k = rd M1 s k := fun s hs n => (g1.2.1 s (hw s hs) (by simpa using n)).1
    have il : (insOf p.2.2.2.1 (gpi p.2.1 ii)).2.2.2.1 = [lbN p.2.2.2.1 nm] := by show (gpi p.2.1 ii).2.1.2.2.1.map _ = _; rw [hnm]; rfl
    have n40 : (gpi p.2.1 ii).1 ≠ 40 := by omega
    refine h.iStep hx hil hz0 hz1 hpk (Fr.wIa rfl rfl (Fr.rf _ _)) gw (fun _ => rfl) (LoT.rf _ _ _).wo (fun k hk => by rw [rw', if_neg hk]) (fun k _ => rX _ (by simp) (sl_ne (by simp)) k) ⟨⟨(rX (sOp w) (by simp) (sl_ne (by simp)) _).trans x1.1, x1.2⟩, ⟨?_, fun _ => ⟨?_, ?_⟩, fun q => absurd q n40, y4⟩, x3.at (rX (sCf w) (by simp) (sl_ne (by simp)) _) ⟨fun s hs k hk => absurd hk (Nat.not_lt_zero k), fun k hk => absurd hk (Nat.not_lt_zero k), fun s hs k _ => ?_, fun k _ => rX _ (by simp) (sl_ne (by simp)) k, fun s _ => ⟨Nat.le_refl _, id⟩⟩, fun _ => by rw [il]; rfl, fun q => absurd hJ q⟩
    · rw [rw', if_pos rfl, il]
      have n2 : isJ (insOf p.2.2.2.1 (gpi p.2.1 ii)).1 := hJ
      rw [if_pos n2]; rfl
    · rw [rX (sBs w) (by simp) (sl_ne (by simp))]; exact (y2 n40).1
    · rw [rX (sCs w) (by simp) (sl_ne (by simp))]; exact (y2 n40).2
    · simp only [List.mem_cons, List.not_mem_nil, or_false] at hs
      rcases hs with q | q | q <;> subst q <;> exact rX _ (by simp) (sl_ne (by simp)) k
