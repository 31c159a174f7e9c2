/-! B: the end of a method in the twin -/
theorem gc_e {W : List Cls} {c : Nat} {m : Mth} (hc : c + 1 = W.length) (j : Nat) : (gc (addM W m) j).1 = (gc W j).1 ∧ (gc (addM W m) j).2.1 = (gc W j).2.1 ∧ (gc (addM W m) j).2.2.1 = (gc W j).2.2.1 ∧ (gc (addM W m) j).2.2.2.1 = (gc W j).2.2.2.1 ∧ (gc (addM W m) j).2.2.2.2.1 = (gc W j).2.2.2.2.1 ∧ (gc (addM W m) j).2.2.2.2.2 = if j = c then (gc W c).2.2.2.2.2 ++ [m] else (gc W j).2.2.2.2.2 := by
  rw [gc_addM hc]
  by_cases q : j = c
  · rw [if_pos q, if_pos q, q]; exact ⟨rfl, rfl, rfl, rfl, rfl, rfl⟩
  · rw [if_neg q, if_neg q]; exact ⟨rfl, rfl, rfl, rfl, rfl, rfl⟩
theorem Cx1.setM {A : List Nm} {W : List Cls} {w c : Nat} {br : Int32} {m : Mth} {M : Mem} (h : Cx1 A W w br M) (hc : c + 1 = W.length) : Cx1 A (addM W m) w br M := by
  obtain ⟨⟨⟨⟨a1, a2, a3, a4⟩, a5⟩, b1, b2'⟩, h2⟩ := h
  have hl := addM_len W m
  refine ⟨⟨⟨⟨by rw [hl]; exact a1, a2, by rw [hl]; exact a3, a4⟩, fun j hj => ?_⟩, b1, fun j hj => ?_⟩, h2⟩
  · rw [hl] at hj
    rw [(gc_e hc j).1]; exact a5 j hj
  · rw [hl] at hj
    obtain ⟨e1, e2, e3, e4, -, -⟩ := gc_e (m := m) hc j
    have := b2' j hj
    unfold gf at this ⊢
    rw [e1, e2, e3, e4]; exact this
theorem tFl.setM {A : List Nm} {W : List Cls} {w c : Nat} {m : Mth} {M : Mem} (h : tFl A W w M) (hc : c + 1 = W.length) : tFl A (addM W m) w M := by
  have hl := addM_len W m
  refine ⟨h.1, fun j hj => ?_⟩
  rw [hl] at hj
  obtain ⟨-, -, -, -, e5, -⟩ := gc_e (m := m) hc j
  have := h.2 j hj
  unfold gfl at this ⊢
  rw [e5]; exact this
theorem tMs.setM {A : List Nm} {S : List Sg} {W : List Cls} {w c nq nl nf nk : Nat} {x : Mth} {M : Mem} (h : tMs A S W w 1 nq nl nf nk M) (hc : c + 1 = W.length) (h12 : (gc W c).2.2.2.2.2.length < 12) (hH : tHd A S w (12 * c + (gc W c).2.2.2.2.2.length) x M) (hM : tMc A S w nq nl nf nk (12 * c + (gc W c).2.2.2.2.2.length) x M) : tMs A S (addM W x) w 0 nq nl nf nk M := by
  have hl := addM_len W x
  obtain ⟨⟨a1, a2⟩, b, d⟩ := h
  have eg : ∀ j k, gmt (gc (addM W x) j) k = if j = c then (if k = (gc W c).2.2.2.2.2.length then x else gmt (gc W c) k) else gmt (gc W j) k := fun j k => by
    show ((gc (addM W x) j).2.2.2.2.2).getD k _ = _
    rw [(gc_e hc j).2.2.2.2.2]
    by_cases q : j = c
    · rw [if_pos q, if_pos q]
      by_cases q2 : k = (gc W c).2.2.2.2.2.length
      · rw [if_pos q2, q2]; simp [List.getD_eq_getElem?_getD]
      · rw [if_neg q2, List.getD_eq_getElem?_getD]
        by_cases q3 : k < (gc W c).2.2.2.2.2.length
        · rw [List.getElem?_append_left q3, ← List.getD_eq_getElem?_getD]
        · rw [List.getElem?_eq_none (by rw [List.length_append, List.length_singleton]; omega)]
          show _ = ((gc W c).2.2.2.2.2).getD k _
          rw [List.getD_eq_getElem?_getD, List.getElem?_eq_none (by omega)]
    · rw [if_neg q, if_neg q]
  have len : ∀ j, (gc (addM W x) j).2.2.2.2.2.length = if j = c then (gc W c).2.2.2.2.2.length + 1 else (gc W j).2.2.2.2.2.length := fun j => by
    rw [(gc_e hc j).2.2.2.2.2]
    by_cases q : j = c
    · rw [if_pos q, if_pos q]; simp
    · rw [if_neg q, if_neg q]
  refine ⟨⟨a1, fun j hj => ?_⟩, b, fun j hj k hk => ?_⟩
  · rw [hl] at hj
    rw [hl, len]
    obtain ⟨⟨c1, c2⟩, c3⟩ := a2 j hj
    by_cases q : j = c
    · rw [if_pos q]
      subst q
      rw [if_pos hc] at c1
      refine ⟨⟨by rw [if_pos hc]; exact c1, by omega⟩, fun k hk => ?_⟩
      rw [eg, if_pos rfl]
      by_cases q2 : k = (gc W j).2.2.2.2.2.length
      · rw [if_pos q2, q2]; exact hH
      · rw [if_neg q2]; exact c3 k (by omega)
    · rw [if_neg q]
      rw [if_neg (by omega)] at c1 ⊢
      refine ⟨⟨c1, c2⟩, fun k hk => ?_⟩
      rw [eg, if_neg q]; exact c3 k hk
  · rw [hl] at hj
    rw [len] at hk
    rw [eg]
    by_cases q : j = c
    · rw [if_pos q] at hk ⊢
      subst q
      by_cases q2 : k = (gc W j).2.2.2.2.2.length
      · rw [if_pos q2, q2]; exact hM
      · rw [if_neg q2]; exact d j hj k (by omega)
    · rw [if_neg q] at hk ⊢; exact d j hj k hk
/-- between a class's members -/
def JC (G : List Sl) (US : UST) (A : List Nm) (S : List Sg) (W : List Cls) (w c : Nat) (br : Int32) (nq nl nf nk : Nat) (z : Nat × Nat × Nat × Nat × Nat × Nat) (L ts : List Tok) (M0 M : Mem) : Prop := TQ A L ts M ∧ TW A S W w br 0 nq nl nq nl nf nk M ∧ TV US A S M ∧ KR G w z.1 z.2.1 z.2.2.1 z.2.2.2.1 z.2.2.2.2.1 M0 M ∧ mI M 11 0 51 = Int32.ofNat z.2.2.2.2.2 ∧ mI M 11 0 53 = Int32.ofNat c ∧ XLb M
theorem JC.je {G : List Sl} {US : UST} {A : List Nm} {S : List Sg} {W : List Cls} {w c : Nat} {br : Int32} {nq nl nf nk : Nat} {z : Nat × Nat × Nat × Nat × Nat × Nat} {L ts : List Tok} {M0 M : Mem} (h : JC G US A S W w c br nq nl nf nk z L ts M0 M) : JE G US A w z M0 M := ⟨S, h.2.2.1, h.2.2.2.1, h.2.1.1.1.2.1, h.2.2.2.2.2.2⟩
theorem JH.fin {G : List Sl} {US : UST} {A : List Nm} {S : List Sg} {W : List Cls} {w c : Nat} {br : Int32} {q0 nl0 nq nl nf nk : Nat} {p : PM} {z : Nat × Nat × Nat × Nat × Nat × Nat} {L : List Tok} {M0 M : Mem} {ts : List Tok} (h : JH G US A S W w c br q0 nl0 nq nl nf nk p z L ts M0 p.2.2.1.length p.2.1.length M) (hc1 : c + 1 = W.length) (hm12 : (gc W c).2.2.2.2.2.length < 12) (hqq : nq = q0 + p.2.1.length) : JC G US A S (addM W (mthOf p)) w c br nq nl nf nk z L ts M0 M := by
  obtain ⟨g1, ⟨⟨hC, hFl, hMs⟩, cnt, hRL, hbn⟩, ⟨hHm, ⟨hI1, hI2⟩, hI3, ⟨h9, hH1, hH2⟩, hLb⟩, g4, g5, g6, g7⟩ := h
  obtain ⟨a, ⟨b1, b2', b3⟩, ⟨c1, c2⟩, d1, d2⟩ := hHm
  have hMs' := (hMs.pre (List.prefix_refl A) (List.prefix_refl S) hbn.1 hbn.2.1 (Nat.le_refl nf) (Nat.le_refl nk)).setM (x := mthOf p) hc1 hm12 ⟨a.1, a.2.1, a.2.2.1, a.2.2.2.1, a.2.2.2.2.1, a.2.2.2.2.2⟩ ?_
  · exact ⟨g1, ⟨⟨hC.setM hc1, hFl.setM hc1, hMs'⟩, cnt, hRL, ⟨Nat.le_refl _, Nat.le_refl _, hbn.2.2⟩⟩, g4, g5, g6, c1, g7⟩
  have el : (mthOf p).2.2.2.2.2.2.1 = p.2.1.map (insOf p.2.2.2.1) := rfl
  have eh : (mthOf p).2.2.2.2.2.2.2 = p.2.2.1.map (hndOf p.2.2.2.1) := rfl
  refine ⟨q0, b1, by rw [el, List.length_map]; exact b2', ⟨by rw [el, List.length_map]; omega, by rw [el, List.length_map]; exact d1⟩, fun i hi => ?_, ⟨by rw [eh, List.length_map]; exact b3, by rw [eh, List.length_map]; exact d2⟩, fun i hi => ?_⟩
  · rw [el, List.length_map] at hi
    have : gin (mthOf p).2.2.2.2.2.2.1 i = insOf p.2.2.2.1 (gpi p.2.1 i) := by
      show (p.2.1.map (insOf p.2.2.2.1)).getD i _ = insOf p.2.2.2.1 (p.2.1.getD i _)
      rw [List.getD_eq_getElem?_getD, List.getD_eq_getElem?_getD, List.getElem?_map, List.getElem?_eq_getElem hi]; rfl
    rw [this]; exact hI1 i hi
  · rw [eh, List.length_map] at hi
    have : ghn (mthOf p).2.2.2.2.2.2.2 i = hndOf p.2.2.2.1 (gh p.2.2.1 i) := by
      show (p.2.2.1.map (hndOf p.2.2.2.1)).getD i _ = hndOf p.2.2.2.1 (p.2.2.1.getD i _)
      rw [List.getD_eq_getElem?_getD, List.getD_eq_getElem?_getD, List.getElem?_map, List.getElem?_eq_getElem hi]; rfl
    rw [this]; exact hH1 i hi
theorem ct_endMethod {G : List Sl} {US : UST} {A : List Nm} {S : List Sg} {W : List Cls} {w c : Nat} {br : Int32} {q0 nl0 nq nl nf nk : Nat} {p : PM} {z : Nat × Nat × Nat × Nat × Nat × Nat} {L : List Tok} {M0 M : Mem} {NL : List Nine} {Q X : Mem → Prop} (h : JM G US A S W w c br q0 nl0 nq nl nf nk p NL z L L M0 M) (hx : Gx G w) (hc1 : c + 1 = W.length) (hm12 : (gc W c).2.2.2.2.2.length < 12) (hzc : z.1 ≤ c) (hL : L ≠ []) (hN : NLk p NL) (hz0 : z.2.1 ≤ q0) (hz1 : z.2.2.1 ≤ nl0) (hqq : nq = q0 + p.2.1.length) (hpn : nl = nl0 + pkS p.2.1)
    (hX : ∀ e M', endM (hd L).2.2.2 p = .inl e → ThT e M' → JE G US A w z M0 M' → X M')
    (hQ : ∀ M', endM (hd L).2.2.2 p = .inr (mthOf p) → JC G US A S (addM W (mthOf p)) w c br nq nl nf nk z L L M0 M' → Q M') : w_Model_endMethod 0 Q X M := by
  have hbn := h.2.1.2.2.2
  have hc : c < W.length := by omega
  refine ct_nines h hx hc hm12 hN (fun l M' a b d => hX _ M' (by unfold endM; rw [a]) b d) (fun h9 => ⟨p.2.2.1.length + 1, ?_⟩)
  have hal := allL_of h9
  refine ct_hloop hx hc hm12 hzc hL hal hN.2.2.2.2.2.2 (fun l M' a b d => hX _ M' (by unfold endM; rw [h9]; dsimp only; rw [a]) b d) (fun M' a b d e => hX _ M' (by unfold endM; rw [h9]; dsimp only; rw [a]; dsimp only; rw [if_pos b]) d e) (fun M1 h10 hne h1 => ?_) _ 0 M (by omega) (by omega) (fun j hj => by omega) h.jh
  have hWl := h1.2.1.1.1.1.1.1.2.2.1
  have ew : mR M1 11 0 45 = some (12, w) := h1.2.1.1.1.2.1
  have hm := h1.2.2.1.1
  have l149 : mL M1 149 w = 612 := h1.2.1.1.2.2.1.1 149 (by omega) (by omega)
  unfold w_Model_endMethod_j265
  refine ⟨w, ew, ?_⟩
  rw [hm.2.2.1.2, oN_tnc (k := 12 * c + (gc W c).2.2.2.2.2.length) (by omega), l149, hm.2.1.1]
  refine ⟨(vp_oN (by omega)).mpr (by omega), p.2.1.length + 1, ?_⟩
  refine ct_cloop hx hal hz0 hz1 hqq (by omega) (by omega) (fun M' h2 => hQ M' ?_ (h2.fin hc1 hm12 hqq)) _ 0 M1 (by omega) (by omega) h1
  unfold endM
  rw [h9]; dsimp only
  rw [h10]; dsimp only
  rw [if_neg hne]
