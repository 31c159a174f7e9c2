/-! B: a line of code in the twin -/
/-- the twin's first names -/
def AT0 : List Nm := [nMake, nStart] ++ ((A0.drop 81).take 21 ++ ([nClass, nFinal, nAbstract, nFace, nField, nMethod, nPrivate, nRoom, nFrame, nHandler, nEnd, nRow, nNone, nUnset, nUnmade, nAny, nRun] ++ A0.take 62))
theorem AT0_op {A : List Nm} (h : AT0 <+: A) {nm : Nm} (hm : nm ∈ A) : A.idxOf nNop = 40 ∧ ((40 ≤ A.idxOf nm ∧ A.idxOf nm < 102) ↔ (A0.take 62).idxOf nm < 62) ∧ ((A0.take 62).idxOf nm < 62 → A.idxOf nm = 40 + (A0.take 62).idxOf nm) := by
  obtain ⟨B, rfl⟩ := h
  have hl : (A0.take 62).length = 62 := by decide
  have e0 : AT0 = ([nMake, nStart] ++ ((A0.drop 81).take 21 ++ [nClass, nFinal, nAbstract, nFace, nField, nMethod, nPrivate, nRoom, nFrame, nHandler, nEnd, nRow, nNone, nUnset, nUnmade, nAny, nRun])) ++ A0.take 62 := by
    unfold AT0; simp only [List.append_assoc]
  have hn : nNop ∈ AT0 := by decide
  have i0 : AT0.idxOf nNop = 40 := by decide
  have dj : ∀ x ∈ ([nMake, nStart] ++ ((A0.drop 81).take 21 ++ [nClass, nFinal, nAbstract, nFace, nField, nMethod, nPrivate, nRoom, nFrame, nHandler, nEnd, nRow, nNone, nUnset, nUnmade, nAny, nRun])), x ∉ A0.take 62 := by decide
  have hl2 : ([nMake, nStart] ++ ((A0.drop 81).take 21 ++ [nClass, nFinal, nAbstract, nFace, nField, nMethod, nPrivate, nRoom, nFrame, nHandler, nEnd, nRow, nNone, nUnset, nUnmade, nAny, nRun])).length = 40 := by decide
  refine ⟨by rw [List.idxOf_append, if_pos hn, i0], ?_⟩
  have hl3 : AT0.length = 102 := by decide
  generalize [nMake, nStart] ++ ((A0.drop 81).take 21 ++ [nClass, nFinal, nAbstract, nFace, nField, nMethod, nPrivate, nRoom, nFrame, nHandler, nEnd, nRow, nNone, nUnset, nUnmade, nAny, nRun]) = P at e0 dj hl2
  generalize A0.take 62 = O at e0 dj hl
  rw [List.idxOf_append]
  by_cases ho : nm ∈ O
  · have hp : nm ∉ P := fun q => dj nm q ho
    have ha : nm ∈ AT0 := by rw [e0]; exact List.mem_append_right _ ho
    have hi := List.idxOf_lt_length_iff.mpr ho
    rw [if_pos ha, e0, List.idxOf_append, if_neg hp, hl2]
    exact ⟨⟨fun _ => by omega, fun _ => by omega⟩, fun _ => by omega⟩
  · have hi : ¬ O.idxOf nm < 62 := by
      rw [← hl]; exact fun q => ho (List.idxOf_lt_length_iff.mp q)
    refine ⟨⟨fun q => ?_, fun q => absurd q hi⟩, fun q => absurd q hi⟩
    exfalso
    by_cases ha : nm ∈ AT0
    · rw [if_pos ha, e0, List.idxOf_append] at q
      have hp : nm ∈ P := by
        rw [e0] at ha
        rcases List.mem_append.mp ha with x | x
        · exact x
        · exact absurd x ho
      rw [if_pos hp] at q
      have := List.idxOf_lt_length_iff.mpr hp
      omega
    · rw [if_neg ha, hl3] at q; omega
theorem JM.need2 {G : List Sl} {US : UST} {A : List Nm} {S : List Sg} {W : List Cls} {w c : Nat} {br : Int32} {q0 nl0 nq nl nf nk : Nat} {p : PM} {NL : List Nine} {z : Nat × Nat × Nat × Nat × Nat × Nat} {L ts : List Tok} {M0 M : Mem} {b : Nat} {Q X : Mem → Prop} (h : JM G US A S W w c br q0 nl0 nq nl nf nk p NL z L ts M0 M) (hx : Gx G w) (hz : lz L) (hne : ts ≠ []) (hb : b < 100)
    (hQ : ∀ M', (hd ts).1 = b → (b ≠ 0 → ts.tail ≠ []) → JM G US A S W w c br q0 nl0 nq nl nf nk p NL z L ts.tail M0 M' → (∀ k, rd M' (sLi w) k = rd M (sLi w) k) → Q M') (hX : ∀ M', (hd ts).1 ≠ b → ThT (er ts) M' → JE G US A w z M0 M' → X M') : w_Model_need 0 (Int32.ofNat b) Q X M := by
  refine mf_w_Model_need (Q := fun M' => (hd ts).1 = b ∧ TQ A L ts.tail M') (X := fun M' => (hd ts).1 ≠ b ∧ ThT (er ts) M') (fun M2 hf2 hp2 => ?_) (fun M2 hf2 hp2 => ?_) (ct_need h.1 hne hb (fun M' a b => ⟨a, b⟩) (fun M' a b => ⟨a, b⟩))
  · exact hQ M2 hp2.1 (fun q => tl_ne h.1 hz hne (by rw [hp2.1]; exact q)) (h.fr hx hf2 hp2.2) (rd_fr hf2 hx.1 rfl (hx.2.2.2.1 (sLi w) (by simp))).1
  · exact hX M2 hp2.1 hp2.2 (h.je.fr hx hf2)
theorem pOpr_n {o : Nat} {ts t' : List Tok} {x : Opr} (h : pOpr o ts = .inr (x, t')) : x.2.2.1.length ≤ ts.length + 1 := by
  have hb := pOpr_lb h
  by_cases cj : isJ o
  · rw [hb.1 cj]; omega
  by_cases c40 : o = 40
  · subst c40
    have h : (match pNum i32min i32max ts with
      | .inl e => .inl e
      | .inr (v, t1) => match pPicks (t1.length + 1) [] t1 with
        | .inl e => .inl e
        | .inr (ls, t2) => .inr ((v, 0, ls, [], [], [], (0, [])), t2) : Rz Opr) = .inr (x, t') := h
    cases e : pNum i32min i32max ts with
    | inl _ => rw [e] at h; cases h
    | inr q =>
      obtain ⟨v, t1⟩ := q
      simp only [e] at h
      have ht := (pNum_tail e).1
      cases e2 : pPicks (t1.length + 1) [] t1 with
      | inl _ => rw [e2] at h; cases h
      | inr q =>
        obtain ⟨ls, t2⟩ := q
        simp only [e2] at h
        have hl := pPicks_len _ _ _ _ _ e2
        have h := (Prod.mk.inj (Sum.inr.inj h)).1
        rw [← h]
        show ls.length ≤ _
        rw [ht, List.length_tail] at hl
        simp at hl
        omega
  · rw [hb.2 cj c40]; simp
theorem ct_iLine {G : List Sl} {US : UST} {A : List Nm} {S : List Sg} {W : List Cls} {w c : Nat} {br : Int32} {q0 nl0 nq nl nf nk : Nat} {p : PM} {NL : List Nine} {z : Nat × Nat × Nat × Nat × Nat × Nat} {L : List Tok} {M0 M : Mem} {Q X : Mem → Prop} (h : JM G US A S W w c br q0 nl0 nq nl nf nk p NL z L L M0 M) (hx : Gx G w) (hB : AT0 <+: A) (hc : c < W.length) (hz : lz L) (hUL : UL US L) (hLl : L.length ≤ 1500) (h99 : z.2.2.2.2.2 = 99) (hq : nq = q0 + p.2.1.length) (hnq : nq < 3900) (hNL : NL.length + 2 * L.length ≤ 3900) (hLb : p.2.2.2.1.length + L.length ≤ 3900) (hnl0 : nl = nl0 + pkS p.2.1) (hnl : nl + L.length ≤ 3900) (hzb : z.2.1 ≤ nq ∧ z.2.2.1 ≤ nl ∧ z.2.2.2.1 ≤ nf ∧ z.2.2.2.2.1 ≤ nk) (hzc : z.1 ≤ c) (hm12 : (gc W c).2.2.2.2.2.length < 12)
    (hX : ∀ e M', iLine W p L = .inl e → ThT e M' → JE G US A w z M0 M' → X M')
    (hQ0 : ∀ t M', iLine W p L = .inl (12, (hd L).2.2.2) → JE G US A w z M0 M' → TQ A L t M' → mI M' 11 0 51 = Int32.ofNat 12 → Q M')
    (hQ1 : ∀ ls t1 t M', pLabels (L.length + 1) [] L = (ls, t1) → ls ≠ [] → iLine W p L = .inr (3, W, pL p (ls.map (fun nm => (nm, p.2.1.length, (hd L).2.2.2)))) → JM G US A S W w c br q0 nl0 nq nl nf nk (pL p (ls.map (fun nm => (nm, p.2.1.length, (hd L).2.2.2)))) (NL ++ dnL p.2.2.2.1 p.2.1.length (hd L).2.2.2 ls) z L t M0 M' → Q M')
    (hQ2 : ∀ ls t1 o x S' nl' t M', pLabels (L.length + 1) [] L = (ls, t1) → S <+: S' → nl' = nl + (if o = 40 then x.2.2.1.length else 0) → x.2.2.1.length ≤ L.length → p.2.1.length < 80 → iLine W p L = .inr (3, W, pI (pL p (ls.map (fun nm => (nm, p.2.1.length, (hd L).2.2.2)))) (o, x, p.2.2.2.2.map (fun f => (f.1, f.2.1)), (hd L).2.2.2)) → JM G US A S' W w c br q0 nl0 (nq + 1) nl' nf nk (pI (pL p (ls.map (fun nm => (nm, p.2.1.length, (hd L).2.2.2)))) (o, x, p.2.2.2.2.map (fun f => (f.1, f.2.1)), (hd L).2.2.2)) ((NL ++ dnL p.2.2.2.1 p.2.1.length (hd L).2.2.2 ls) ++ x.2.2.1.map (niU L)) z L t M0 M' → Q M') : w_Model_codeLine_j54 0 Q X M := by
  have hL : L ≠ [] := by obtain ⟨i, z, e, -⟩ := hz; rw [e]; simp
  have ew : mR M 11 0 45 = some (12, w) := h.2.1.1.1.2.1
  have hm := h.2.2.1.1.1
  have hWl := h.2.1.1.1.1.1.1.2.2.1
  have l150 : mL M 150 w = 612 := h.2.1.1.2.2.1.1 150 (by omega) (by omega)
  have h80 := hm.2.2.2.1
  unfold w_Model_codeLine_j54
  refine ⟨w, ew, ?_⟩
  rw [hm.2.2.1.2, oN_tnc (by omega), l150, hm.2.1.2.1]
  refine ⟨(vp_oN (by omega)).mpr (by omega), ?_⟩
  refine h.labels hx hz h80 ⟨hLb, by omega⟩ (fun ls t1 M1 hp hn1 hlen hl1 hl2 hj => ?_)
  have hi : iLine W p L = if ls ≠ [] ∧ (hd t1).1 = 0 then .inr (3, W, p.1, p.2.1, p.2.2.1, p.2.2.2.1 ++ ls.map (fun nm => (nm, p.2.1.length, (hd L).2.2.2)), p.2.2.2.2)
    else match pInstr t1 with
      | .inl e => .inl e
      | .inr ((o, x), _) => if p.2.1.length = 80 ∨ 6 < x.2.2.2.2.2.1.length then .inl (12, (hd L).2.2.2) else .inr (3, W, p.1, p.2.1 ++ [(o, x, p.2.2.2.2.map (fun f => (f.1, f.2.1)), (hd L).2.2.2)], p.2.2.1, p.2.2.2.1 ++ ls.map (fun nm => (nm, p.2.1.length, (hd L).2.2.2)), none) := by
    unfold iLine; rw [hp]
    all_goals (try dsimp only)
    all_goals (by_cases q : ls ≠ [] ∧ (hd t1).1 = 0)
    all_goals (first | rw [if_pos q, if_pos q] | rw [if_neg q, if_neg q])
    all_goals (cases pInstr t1 <;> rfl)
  have hl0 : 0 < t1.length := List.length_pos_iff.mpr hn1
  obtain ⟨k, k1, k2, ⟨k3, k4, k5, k6⟩, k7, k8⟩ := hj.1.at hl0
  rw [gt0 hn1] at k7 k8
  rw [Nat.add_zero] at k7
  have tk : (Int32.ofNat k).toNatClampNeg = k := oN_tnc (by omega)
  have ek : mI M1 411 0 (mI M1 11 0 43).toNatClampNeg = Int32.ofNat (hd t1).1 := by rw [k1, tk]; exact k7.1
  have vk : vp_in (mI M1 11 0 43) (mL M1 411 0) := by rw [k1, k4]; exact (vp_oN (by omega)).mpr (by omega)
  have vk5 : vp_in (mI M1 11 0 43) (mL M1 107 0) := by rw [k1, k5]; exact (vp_oN (by omega)).mpr (by omega)
  have hdn := dnL_len ls p.2.2.2.1 p.2.1.length (hd L).2.2.2
  -- the instruction
  have j225 : ¬ (ls ≠ [] ∧ (hd t1).1 = 0) → w_Model_codeLine_j225 0 Q X (Int32.ofNat p.2.1.length) M1 := by
    intro hno
    rw [if_neg hno] at hi
    have bad : ¬ opOf t1 < 62 → ∀ v, w_Model_codeLine_j268 0 Q X (Int32.ofNat p.2.1.length) v M1 := by
      intro q v
      unfold pInstr at hi
      rw [if_neg q] at hi
      unfold w_Model_codeLine_j268
      exact mf_w_Model_wrong (Q := fun _ => False) (X := fun M' => ThT (er t1) M') (fun M5 hf5 hp5 => hp5.elim) (fun M5 hf5 hp5 => hX _ M5 hi hp5 (hj.je.fr hx hf5)) (ct_wrong hj.1 hn1 (fun M' a => a))
    unfold w_Model_codeLine_j225
    refine ⟨vk, ?_⟩
    rw [ek]
    by_cases c2 : (hd t1).1 = 2
    · refine itp (by rw [c2]; rfl) ⟨vk5, ?_⟩
      have hv := k7.2.2.1 (Or.inl c2)
      have hnp := hj.1.1.2.1 (26, nNop) (by simp [kF])
      have e107 : mI M1 107 0 (mI M1 11 0 43).toNatClampNeg = Int32.ofNat (A.idxOf (hd t1).2.1) := by rw [k1, tk]; exact hv.1
      obtain ⟨a1, a2, a3⟩ := AT0_op hB hv.2
      have e26 : mI M1 11 0 26 = Int32.ofNat 40 := by rw [← a1]; exact hnp.1
      have hAl := hj.1.1.2.2.1
      have hix := List.idxOf_lt_length_iff.mpr hv.2
      have hop : opOf t1 = (A0.take 62).idxOf (hd t1).2.1 := by unfold opOf; rw [if_pos c2]
      rw [e107, e26]
      unfold w_Model_codeLine_j257
      by_cases ci : 40 ≤ A.idxOf (hd t1).2.1
      · rw [oN_sub ci]
        refine itn (oN_nonneg (by omega)) ?_
        by_cases c62 : A.idxOf (hd t1).2.1 - 40 < 62
        · refine itp (lt_oN (b := 62) c62 (by omega)) ?_
          have ho : opOf t1 < 62 := by rw [hop]; exact a2.mp ⟨ci, by omega⟩
          have eo : A.idxOf (hd t1).2.1 - 40 = opOf t1 := by rw [hop, a3 (by rw [← hop]; exact ho)]; omega
          rw [eo]
          unfold pInstr at hi
          rw [if_pos ho] at hi
          generalize opOf t1 = o at ho hi
          refine hj.oprs hx hz hUL hLl hn1 c2 ho h99 (by rw [List.length_append]; omega) hnl hzb.2.1 (fun e M' a b hj' => hX e M' (by rw [hi, a]) b hj') (fun S' nl' x l v3 v4 v5 t2 M2 a hS enl hj2 el hov hlb hn2 hv4 => ?_)
          simp only [a] at hi
          unfold w_Model_codeLine_j789
          refine hj2.need2 (b := 0) hx hz hn2 (by omega) (fun M3 c0 _ hj3 hr3 => ?_) (fun M' c0 b hj' => hX _ M' (by rw [hi, if_neg c0]) b hj')
          rw [if_pos c0] at hi
          dsimp only at hi
          have hxl : x.2.2.1.length ≤ L.length := by
            have := pOpr_n a
            have := hj.1.suf.length_le
            rw [List.length_tail] at *
            omega
          have lay : ∀ s0 : Bool, s0 = decide (p.2.1.length = 80) → w_Model_codeLine_j808 0 Q X (Int32.ofNat o) v3 v4 v5 (b2 s0) 12 M3 := by
            intro s0 hs0
            refine ct_layIns (pl := (hd L).2.2.2) (x := x) hj3 hx hc ho hq hnq hzb.1 (by rw [enl]; show z.2.2.1 ≤ _; omega) hzb.2.2.1 hzb.2.2.2 hzc (by show l < 1000; rw [el]; split <;> omega) hm12 (fun h9 => ?_) hlb (fun e => by rw [hv4 e, hnl0]) (fun M' hJ hje htq h51 => ?_)
            · obtain ⟨b1, b2', b3, b4⟩ := hov h9
              refine ⟨b1, b2', fun e => ?_, b4⟩
              obtain ⟨lf, d1, d2, d3, d4⟩ := b3 e
              exact ⟨lf, d1, d2, d3, fun j hj' => (hr3 _).trans (d4 j hj')⟩
            · by_cases cr : p.2.1.length = 80 ∨ 6 < x.2.2.2.2.2.1.length
              · rw [if_pos cr] at hi
                refine hQ0 t2.tail M' hi hje htq ?_
                rw [h51]
                show Int32.ofNat (lst l 12 s0) = _
                have : lst l 12 s0 = 12 := by
                  rw [el, hs0]; unfold lst
                  rcases cr with q | q
                  · rw [decide_eq_true q]
                    by_cases q6 : 6 < x.2.2.2.2.2.1.length
                    · rw [if_pos q6]; simp
                    · rw [if_neg q6]; simp
                  · rw [if_pos q]; simp
                rw [this]
              · rw [if_neg cr] at hi
                have q1 : ¬ p.2.1.length = 80 := fun q => cr (Or.inl q)
                have q2 : ¬ 6 < x.2.2.2.2.2.1.length := fun q => cr (Or.inr q)
                rw [if_neg q2] at el
                have hJ := hJ (show p.2.1.length < 80 by omega) el
                have e99 : zl (zl z l) (lst (zl z l).2.2.2.2.2 12 s0) = z := by
                  show (z.1, z.2.1, z.2.2.1, z.2.2.2.1, z.2.2.2.2.1, lst l 12 s0) = z
                  have : lst l 12 s0 = 99 := by rw [el, hs0, decide_eq_false q1]; rfl
                  rw [this, ← h99]
                rw [e99] at hJ
                exact hQ2 ls t1 o x S' nl' t2.tail M' hp hS enl hxl (by omega) hi hJ
          by_cases c80 : p.2.1.length = 80
          · exact itp (by rw [c80]; rfl) (lay true (decide_eq_true c80).symm)
          · exact itn (ne_oN (b := 80) c80 (by omega) (by omega)) (lay false (decide_eq_false c80).symm)
        · refine itn (nlt_oN (b := 62) (by omega) (by omega)) (bad (fun q => ?_) _)
          rw [hop] at q
          have := (a2.mpr q).2
          omega
      · refine itp ?_ (bad (fun q => ?_) _)
        · have key : ∀ a : Fin 40, Int32.ofNat a.val - Int32.ofNat 40 < 0 := by decide
          exact key ⟨A.idxOf (hd t1).2.1, by omega⟩
        · rw [hop] at q
          exact ci (a2.mpr q).1
    · refine itn (ne_oN (b := 2) c2 (by omega) (by omega)) ?_
      unfold w_Model_codeLine_j257
      exact itn (by decide) (itn (by decide) (bad (by unfold opOf; rw [if_neg c2]; omega) _))
  unfold w_Model_codeLine_j205
  by_cases cl : ls = []
  · have : k = 0 := by rw [hl1 cl] at k2; omega
    refine itp (by rw [k1, this]; decide) (j225 (fun q => q.1 cl))
  · have : k ≠ 0 := by have := hl2 cl; omega
    refine itn (by rw [k1]; exact nle_oN (b := 0) (by omega) (by omega)) ⟨vk, ?_⟩
    rw [ek]
    by_cases c0 : (hd t1).1 = 0
    · refine itp (by rw [c0]; rfl) ?_
      rw [if_pos ⟨cl, c0⟩] at hi
      exact hQ1 ls t1 t1 M1 hp cl hi hj
    · exact itn (ne_oN (b := 0) c0 (by omega) (by omega)) (j225 (fun q => c0 q.2))
