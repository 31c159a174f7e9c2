/-! B: the end of a method in the works: what is used -/
def badL (LS : List Lb) (n : Nat) (U : List Us) : List Nat := U.flatMap (fun u => if bad9 LS n u.1 (decide (u.2.1 = 3)) then [u.2.2.2] else [])
theorem badL_app (LS : List Lb) (n : Nat) (U V : List Us) : badL LS n (U ++ V) = badL LS n U ++ badL LS n V := by simp [badL]
theorem take_gu {U : List Us} {n : Nat} (h : n < U.length) : U.take (n + 1) = U.take n ++ [gu U n] := by
  rw [List.take_add_one, List.getElem?_eq_getElem h]
  show _ ++ [_] = _ ++ [U.getD n _]
  rw [List.getD_eq_getElem?_getD, List.getElem?_eq_getElem h]; rfl
theorem gu_mem {U : List Us} {i : Nat} (h : i < U.length) : gu U i ∈ U := by
  show U.getD i _ ∈ U
  rw [List.getD_eq_getElem?_getD, List.getElem?_eq_getElem h]; exact List.getElem_mem h
theorem c_end59 {A : List Nm} {LS : List Lb} {U : List Us} {n : Nat} {l0 : List Nat} {pd : Option Nat} {Q X : Mem → Prop} {M : Mem} (h : cLb A LS M) (hU : cUs A U M) (hA : A.length < 1000000) (hl : LS.length ≤ 3100) (hl2 : U.length ≤ 3100) (hL : ∀ f, 23 ≤ f → f ≤ 29 → mL M f 0 = 3100) (hb : ∀ u ∈ U, u.2.1 ≤ 4 ∧ u.2.2.2 ≤ 100000) (hn : n ≤ 80) (h0 : ∀ x ∈ l0, x ≤ 100000)
    (hpd : (pd = none ∧ mI M 3 0 14 = 0) ∨ ∃ ln, pd = some ln ∧ mI M 3 0 14 = 1 ∧ mI M 3 0 15 = Int32.ofNat ln ∧ ln ≤ 100000)
    (hQ : w_Reader_endMethod_j138 0 Q X (Int32.ofNat n) (wv (minL (l0 ++ badL LS n U ++ pd.toList))) M) : ∃ d, w_Reader_endMethod_L59 0 Q X d (Int32.ofNat n) (wv (minL l0)) 0 M := by
  have bnd' : ∀ k x, x ∈ l0 ++ badL LS n (U.take k) → x ≤ 100000 := fun k x hx => by
    rcases List.mem_append.mp hx with q | q
    · exact h0 x q
    · obtain ⟨u, u1, u2⟩ := List.mem_flatMap.mp q
      split at u2
      · simp at u2; rw [u2]; exact (hb u (List.mem_of_mem_take u1)).2
      · cases u2
  have main : ∀ d k, U.length - k < d → k ≤ U.length → w_Reader_endMethod_L59 0 Q X d (Int32.ofNat n) (wv (minL (l0 ++ badL LS n (U.take k)))) (Int32.ofNat k) M := by
    intro d
    induction d with
    | zero => intro k h; omega
    | succ d ih =>
      intro k hd hk
      unfold w_Reader_endMethod_L59
      rw [hU.1]
      by_cases e : k = U.length
      · refine itp (le_oN (by omega) (by omega)) ?_
        have bk := bnd' k
        rw [e, List.take_length] at bk ⊢
        rcases hpd with ⟨q1, q2⟩ | ⟨ln, q1, q2, q3, q4⟩
        · rw [q2]
          refine itp rfl ?_
          rw [q1, Option.toList_none, List.append_nil] at hQ; exact hQ
        · rw [q2, q3]
          refine itn (by decide) (c_min (minL_le bk) q4 ?_)
          rw [q1, Option.toList_some, minL_app] at hQ; exact hQ
      · obtain ⟨⟨e1, e2⟩, e3, e4, e5⟩ := hU.2 k (by omega)
        obtain ⟨hb1, hb2⟩ := hb _ (gu_mem (show k < U.length by omega))
        have vk : ∀ f, 23 ≤ f → f ≤ 29 → vp_in (Int32.ofNat k) (mL M f 0) := fun f a c => by rw [hL f a c]; exact (vp_oN (by omega)).mpr (by omega)
        refine itn (nle_oN (by omega) (by omega)) ⟨vk 26 (by omega) (by omega), ?_⟩
        rw [oN_tnc (by omega), e1]
        refine c_told h e2 hA hl (hL 23 (by omega) (by omega)) ?_
        have hs := lbI_spec (nm := (gu U k).1) (LS := LS)
        have htk : badL LS n (U.take (k + 1)) = badL LS n (U.take k) ++ (if bad9 LS n (gu U k).1 (decide ((gu U k).2.1 = 3)) then [(gu U k).2.2.2] else []) := by
          rw [take_gu (by omega), badL_app]
          show _ ++ ((if bad9 LS n (gu U k).1 (decide ((gu U k).2.1 = 3)) then [(gu U k).2.2.2] else []) ++ []) = _
          rw [List.append_nil]
        have next := ih (k + 1) (by omega) (by omega)
        rw [htk] at next
        have j105 : bad9 LS n (gu U k).1 (decide ((gu U k).2.1 = 3)) = true → w_Reader_endMethod_j105 0 Q X (w_Reader_endMethod_L59 0 Q X d) (Int32.ofNat n) (wv (minL (l0 ++ badL LS n (U.take k)))) (Int32.ofNat k) M := fun c => by
          unfold w_Reader_endMethod_j105
          refine ⟨vk 29 (by omega) (by omega), ?_⟩
          rw [oN_tnc (by omega), e5]
          refine c_min (minL_le (bnd' k)) hb2 ?_
          unfold w_Reader_endMethod_j116
          rw [lit32 1, oN_add]
          rw [if_pos c, ← List.append_assoc, minL_app] at next
          exact next
        have j116 : bad9 LS n (gu U k).1 (decide ((gu U k).2.1 = 3)) = false → w_Reader_endMethod_j116 0 Q X (w_Reader_endMethod_L59 0 Q X d) (Int32.ofNat n) (wv (minL (l0 ++ badL LS n (U.take k)))) (Int32.ofNat k) M := fun c => by
          unfold w_Reader_endMethod_j116
          rw [lit32 1, oN_add]
          rw [if_neg (by rw [c]; decide), List.append_nil] at next
          exact next
        have b9 : bad9 LS n (gu U k).1 (decide ((gu U k).2.1 = 3)) = match lbI LS (gu U k).1 with
            | none => true
            | some i => decide ((glb LS i).2.1 = n) && !decide ((gu U k).2.1 = 3) := by
          unfold bad9; rw [lbl_lbI]; cases lbI LS (gu U k).1 <;> rfl
        cases hi : lbI LS (gu U k).1 with
        | none =>
          rw [hi] at b9
          exact itp (by decide) (j105 b9)
        | some j =>
          rw [hi] at hs b9
          have b9 : bad9 LS n (gu U k).1 (decide ((gu U k).2.1 = 3)) = (decide ((glb LS j).2.1 = n) && !decide ((gu U k).2.1 = 3)) := b9
          obtain ⟨s1, s2, s3⟩ := hs
          obtain ⟨-, ⟨f1, f2⟩, -⟩ := h.2 j s1
          refine itn (oN_nonneg (by omega)) ⟨by show vp_in (Int32.ofNat j) _; rw [hL 24 (by omega) (by omega)]; exact (vp_oN (by omega)).mpr (by omega), ?_⟩
          rw [show oC (some j) = Int32.ofNat j from rfl, oN_tnc (by omega), f1]
          by_cases cn : (glb LS j).2.1 = n
          · refine itp (by rw [cn]) ⟨vk 27 (by omega) (by omega), ?_⟩
            rw [e3]
            rw [decide_eq_true cn] at b9
            by_cases c3 : (gu U k).2.1 = 3
            · refine itp (by rw [c3]; rfl) (j116 ?_)
              rw [b9, decide_eq_true c3]; rfl
            · refine itn (ne_oN (b := 3) c3 (by omega) (by omega)) (j105 ?_)
              rw [b9, decide_eq_false c3]; rfl
          · refine itn (ne_oN cn (by omega) (by omega)) (j116 ?_)
            rw [b9, decide_eq_false cn]; rfl
  have := main (U.length + 1) 0 (by omega) (by omega)
  rw [show l0 ++ badL LS n (U.take 0) = l0 by simp [badL]] at this
  exact ⟨_, this⟩
theorem mem_badP {LS : List Lb} {n x line : Nat} : ∀ (ls : List Nm) (pf : Nat), x ∈ badL LS n (usP line pf ls) ↔ (ls.any (fun nm => bad9 LS n nm false) = true ∧ x = line)
  | [], pf => by simp [badL, usP]
  | a :: l, pf => by
    have ih := mem_badP (LS := LS) (n := n) (x := x) (line := line) l (pf + 1)
    show x ∈ badL LS n ([(a, 1, pf, line)] ++ usP line (pf + 1) l) ↔ _
    rw [badL_app, List.mem_append, ih, List.any_cons, Bool.or_eq_true]
    show x ∈ (if bad9 LS n a (decide (1 = 3)) = true then [line] else []) ++ [] ∨ _ ↔ _
    rw [List.append_nil, show decide (1 = 3) = false from rfl]
    by_cases c : bad9 LS n a false = true
    · rw [if_pos c]; simp [c]
    · rw [if_neg c]; simp [c]
theorem mem_badJ {LS : List Lb} {n x line q : Nat} : ∀ (ls : List Nm), x ∈ badL LS n (ls.map (fun nm => (nm, 0, q, line))) ↔ (ls.any (fun nm => bad9 LS n nm false) = true ∧ x = line)
  | [] => by simp [badL]
  | a :: l => by
    have ih := mem_badJ (LS := LS) (n := n) (x := x) (line := line) (q := q) l
    show x ∈ badL LS n ([(a, 0, q, line)] ++ l.map (fun nm => (nm, 0, q, line))) ↔ _
    rw [badL_app, List.mem_append, ih, List.any_cons, Bool.or_eq_true]
    show x ∈ (if bad9 LS n a (decide (0 = 3)) = true then [line] else []) ++ [] ∨ _ ↔ _
    rw [List.append_nil, show decide (0 = 3) = false from rfl]
    by_cases c : bad9 LS n a false = true
    · rw [if_pos c]; simp [c]
    · rw [if_neg c]; simp [c]
theorem mem_newU {LS : List Lb} {n x line q pf o : Nat} {ls : List Nm} (hl : lbOk o ls) : x ∈ badL LS n (newU o q pf line ls) ↔ x ∈ (if ls.any (fun nm => bad9 LS n nm false) then [line] else []) := by
  have e : x ∈ (if ls.any (fun nm => bad9 LS n nm false) then [line] else []) ↔ (ls.any (fun nm => bad9 LS n nm false) = true ∧ x = line) := by
    by_cases c : ls.any (fun nm => bad9 LS n nm false) = true
    · rw [if_pos c]; simp [c]
    · rw [if_neg c]; simp [c]
  rw [e]
  unfold newU
  by_cases c1 : isJ o
  · rw [if_pos c1]; exact mem_badJ ls
  · rw [if_neg c1]
    by_cases c2 : o = 40
    · rw [if_pos c2]; exact mem_badP ls pf
    · rw [if_neg c2, hl.2 c1 c2]; simp [badL]
theorem mem_badE {LS : List Lb} {n x : Nat} : ∀ (E : List (PI ⊕ PH)) (q pf h : Nat), (∀ i ∈ lfE E, lbOk i.1 i.2.1.2.2.1) → (x ∈ badL LS n (usE q pf h E) ↔ x ∈ (lfE E).flatMap (fun i => if i.2.1.2.2.1.any (fun nm => bad9 LS n nm false) then [i.2.2.2] else []) ∨ x ∈ (rgE E).flatMap (fun h => if bad9 LS n h.1 false || (bad9 LS n h.2.1 true || bad9 LS n h.2.2.1 false) then [h.2.2.2.2] else []))
  | [], q, pf, h, _ => by simp [usE, lfE, rgE, badL]
  | .inl i :: E, q, pf, h, hl => by
    have ih := mem_badE (LS := LS) (n := n) (x := x) E (q + 1) (pf + pkN i) h (fun j hj => hl j (List.mem_cons_of_mem _ hj))
    show x ∈ badL LS n (newU i.1 q pf i.2.2.2 i.2.1.2.2.1 ++ usE (q + 1) (pf + pkN i) h E) ↔ x ∈ (i :: lfE E).flatMap _ ∨ x ∈ (rgE E).flatMap _
    rw [badL_app, List.mem_append, mem_newU (hl i List.mem_cons_self), ih, List.flatMap_cons, List.mem_append, or_assoc]
  | .inr y :: E, q, pf, h, hl => by
    have ih := mem_badE (LS := LS) (n := n) (x := x) E q pf (h + 1) hl
    show x ∈ badL LS n ([(y.1, 2, 4 * h, y.2.2.2.2), (y.2.1, 3, 4 * h + 1, y.2.2.2.2), (y.2.2.1, 4, 4 * h + 2, y.2.2.2.2)] ++ usE q pf (h + 1) E) ↔ x ∈ (lfE E).flatMap _ ∨ x ∈ (y :: rgE E).flatMap _
    rw [badL_app, List.mem_append, ih, List.flatMap_cons, List.mem_append]
    have e : x ∈ badL LS n [(y.1, 2, 4 * h, y.2.2.2.2), (y.2.1, 3, 4 * h + 1, y.2.2.2.2), (y.2.2.1, 4, 4 * h + 2, y.2.2.2.2)] ↔ x ∈ (if bad9 LS n y.1 false || (bad9 LS n y.2.1 true || bad9 LS n y.2.2.1 false) then [y.2.2.2.2] else []) := by
      show x ∈ (if bad9 LS n y.1 (decide (2 = 3)) = true then [y.2.2.2.2] else []) ++ ((if bad9 LS n y.2.1 (decide (3 = 3)) = true then [y.2.2.2.2] else []) ++ ((if bad9 LS n y.2.2.1 (decide (4 = 3)) = true then [y.2.2.2.2] else []) ++ [])) ↔ _
      rw [show decide (2 = 3) = false from rfl, show decide (3 = 3) = true from rfl, show decide (4 = 3) = false from rfl]
      cases bad9 LS n y.1 false <;> cases bad9 LS n y.2.1 true <;> cases bad9 LS n y.2.2.1 false <;> simp
    rw [e]
    constructor
    · rintro (a | a | a)
      · exact Or.inr (Or.inl a)
      · exact Or.inl a
      · exact Or.inr (Or.inr a)
    · rintro (a | a | a)
      · exact Or.inr (Or.inl a)
      · exact Or.inl a
      · exact Or.inr (Or.inr a)
theorem lines9_eq {P : PM} {E : List (PI ⊕ PH)} {q pf h : Nat} (hE : lfE E = P.2.1 ∧ rgE E = P.2.2.1) (hl : ∀ i ∈ P.2.1, lbOk i.1 i.2.1.2.2.1) : minL (dupLb [] P.2.2.2.1 ++ badL P.2.2.2.1 P.2.1.length (usE q pf h E) ++ (P.2.2.2.2.map (fun f => f.2.2)).toList) = minL (lines9 P) := by
  refine minL_congr (fun x => ?_)
  have hb := mem_badE (LS := P.2.2.2.1) (n := P.2.1.length) (x := x) E q pf h (by rw [hE.1]; exact hl)
  rw [hE.1, hE.2] at hb
  unfold lines9
  rw [List.mem_append, List.mem_append, hb, List.mem_append, List.mem_append, List.mem_append]
  have e : x ∈ (P.2.2.2.2.map (fun f => f.2.2)).toList ↔ x ∈ (match P.2.2.2.2 with | none => [] | some f => [f.2.2] : List Nat) := by
    cases P.2.2.2.2 <;> exact Iff.rfl
  rw [e]
  exact ⟨fun a => a.elim (fun a => a.elim Or.inl (fun a => Or.inr (a.elim Or.inl (fun a => Or.inr (Or.inl a))))) (fun a => Or.inr (Or.inr (Or.inr a))), fun a => a.elim (fun a => Or.inl (Or.inl a)) (fun a => a.elim (fun a => Or.inl (Or.inr (Or.inl a))) (fun a => a.elim (fun a => Or.inl (Or.inr (Or.inr a))) Or.inr))⟩
