/-! B: the end of a method in the works: labels -/
def lbI : List Lb → Nm → Option Nat
  | [], _ => none
  | l :: ls, nm => if l.1 = nm then some 0 else (lbI ls nm).map (· + 1)
theorem lbI_spec {nm : Nm} : ∀ {LS : List Lb}, match lbI LS nm with
    | some k => k < LS.length ∧ (glb LS k).1 = nm ∧ ∀ j, j < k → (glb LS j).1 ≠ nm
    | none => ∀ j, j < LS.length → (glb LS j).1 ≠ nm
  | [] => fun j h => absurd h (Nat.not_lt_zero j)
  | c :: W => by
    have ih := lbI_spec (nm := nm) (LS := W)
    unfold lbI
    by_cases e : c.1 = nm
    · rw [if_pos e]
      exact ⟨by simp, e, fun j h => absurd h (Nat.not_lt_zero j)⟩
    · rw [if_neg e]
      cases h : lbI W nm with
      | none =>
        rw [h] at ih
        intro j hj
        cases j with
        | zero => exact e
        | succ j => exact ih j (by simpa using hj)
      | some k =>
        rw [h] at ih
        refine ⟨by simpa using ih.1, ih.2.1, fun j hj => ?_⟩
        cases j with
        | zero => exact e
        | succ j => exact ih.2.2 j (Nat.lt_of_succ_lt_succ hj)
theorem lbl_lbI {nm : Nm} : ∀ {LS : List Lb}, lbl LS nm = (lbI LS nm).map (fun i => (glb LS i).2.1)
  | [] => rfl
  | c :: W => by
    have ih := lbl_lbI (nm := nm) (LS := W)
    unfold lbl lbI
    by_cases e : c.1 = nm
    · rw [if_pos e, if_pos e]; rfl
    · rw [if_neg e, if_neg e, ih]
      cases lbI W nm <;> rfl
theorem c_told {A : List Nm} {LS : List Lb} {nm : Nm} {Q : Int32 → Mem → Prop} {M : Mem} (h : cLb A LS M) (hm : nm ∈ A) (hA : A.length < 1000000) (hl : LS.length ≤ 3100) (hL : mL M 23 0 = 3100) (hQ : Q (oC (lbI LS nm)) M) : w_Reader_told 0 (nc A nm) Q M := by
  have hs := lbI_spec (nm := nm) (LS := LS)
  have main : ∀ d k, LS.length - k < d → k ≤ LS.length → (∀ j, j < k → (glb LS j).1 ≠ nm) → w_Reader_told_L2 0 Q d (nc A nm) (Int32.ofNat k) M := by
    intro d
    induction d with
    | zero => intro k h; omega
    | succ d ih =>
      intro k hd hk hno
      unfold w_Reader_told_L2
      rw [h.1]
      by_cases e : k = LS.length
      · refine itp (le_oN (by omega) (by omega)) ?_
        revert hQ hs
        cases lbI LS nm with
        | none => intro hQ hs; exact hQ
        | some j => intro hQ hs; exact absurd hs.2.1 (hno j (by omega))
      · obtain ⟨⟨e1, e2⟩, -⟩ := h.2 k (by omega)
        refine itn (nle_oN (by omega) (by omega)) ⟨by rw [hL]; exact (vp_oN (by omega)).mpr (by omega), ?_⟩
        rw [oN_tnc (by omega), e1]
        by_cases c : (glb LS k).1 = nm
        · refine itp (by rw [c]) ?_
          revert hQ hs
          cases lbI LS nm with
          | none => intro hQ hs; exact absurd c (hs k (by omega))
          | some j =>
            intro hQ hs
            have : j = k := by
              rcases Nat.lt_trichotomy j k with q | q | q
              · exact absurd hs.2.1 (hno j q)
              · exact q
              · exact absurd c (hs.2.2 k q)
            rw [← this]; exact hQ
        · refine itn (fun q => c ((nc_inj (by omega) e2 hm).mp q)) ?_
          rw [lit32 1, oN_add]
          exact ih (k + 1) (by omega) (by omega) (fun j hj => by
            by_cases ej : j = k
            · rw [ej]; exact c
            · exact hno j (by omega))
  unfold w_Reader_told
  exact ⟨_, main (LS.length + 1) 0 (by omega) (by omega) (fun j hj => absurd hj (Nat.not_lt_zero j))⟩
/-- the least so far, as the works hold it -/
def wv (o : Option Nat) : Int32 := match o with
  | none => 2147483647
  | some k => Int32.ofNat k
def omin (o : Option Nat) (a : Nat) : Option Nat := match o with
  | none => some a
  | some b => some (min b a)
theorem c_min {o : Option Nat} {a : Nat} {Q : Int32 → Mem → Prop} {M : Mem} (ho : ∀ k, o = some k → k ≤ 100000) (ha : a ≤ 100000) (hQ : Q (wv (omin o a)) M) : w_JMath_min (wv o) (Int32.ofNat a) Q M := by
  unfold w_JMath_min
  cases o with
  | none => exact itp (lt_oN (b := 2147483647) (by omega) (by omega)) hQ
  | some k =>
    have hk := ho k rfl
    by_cases c : a < k
    · refine itp (lt_oN c (by omega)) ?_
      have : wv (omin (some k) a) = Int32.ofNat a := by show Int32.ofNat (min k a) = _; rw [Nat.min_eq_right (by omega)]
      rw [this] at hQ; exact hQ
    · refine itn (nlt_oN (by omega) (by omega)) ?_
      have : wv (omin (some k) a) = Int32.ofNat k := by show Int32.ofNat (min k a) = _; rw [Nat.min_eq_left (by omega)]
      rw [this] at hQ; exact hQ
theorem minL_app (l : List Nat) (a : Nat) : minL (l ++ [a]) = omin (minL l) a := by
  induction l with
  | nil => rfl
  | cons b l ih =>
    show (match minL (l ++ [a]) with | none => some b | some c => some (min b c)) = _
    rw [ih]
    show _ = omin (match minL l with | none => some b | some c => some (min b c)) a
    cases minL l with
    | none => rfl
    | some c => show some (min b (min c a)) = some (min (min b c) a); rw [Nat.min_assoc]
theorem minL_spec : ∀ l : List Nat, match minL l with
    | none => l = []
    | some a => a ∈ l ∧ ∀ x ∈ l, a ≤ x
  | [] => rfl
  | b :: l => by
    have ih := minL_spec l
    unfold minL
    cases h : minL l with
    | none =>
      rw [h] at ih
      rw [ih]; exact ⟨by simp, fun x hx => by simp at hx; omega⟩
    | some c =>
      rw [h] at ih
      refine ⟨?_, fun x hx => ?_⟩
      · by_cases q : b ≤ c
        · rw [Nat.min_eq_left q]; simp
        · rw [Nat.min_eq_right (by omega)]; exact List.mem_cons_of_mem _ ih.1
      · rcases List.mem_cons.mp hx with q | q
        · rw [q]; exact Nat.min_le_left _ _
        · exact Nat.le_trans (Nat.min_le_right _ _) (ih.2 x q)
theorem minL_congr {l l' : List Nat} (h : ∀ x, x ∈ l ↔ x ∈ l') : minL l = minL l' := by
  have h1 := minL_spec l
  have h2 := minL_spec l'
  cases e1 : minL l with
  | none =>
    rw [e1] at h1
    cases e2 : minL l' with
    | none => rfl
    | some b =>
      rw [e2] at h2
      have := (h b).mpr h2.1
      rw [h1] at this; cases this
  | some a =>
    rw [e1] at h1
    cases e2 : minL l' with
    | none =>
      rw [e2] at h2
      have := (h a).mp h1.1
      rw [h2] at this; cases this
    | some b =>
      rw [e2] at h2
      have x1 := h1.2 b ((h b).mpr h2.1)
      have x2 := h2.2 a ((h a).mp h1.1)
      rw [show a = b by omega]
theorem minL_le {l : List Nat} {c : Nat} (h : ∀ x ∈ l, x ≤ c) : ∀ k, minL l = some k → k ≤ c := fun k e => by
  have := minL_spec l
  rw [e] at this; exact h k this.1
theorem dupLb_app (x : Lb) : ∀ (l : List Lb) (seen : List Nm), dupLb seen (l ++ [x]) = dupLb seen l ++ (if x.1 ∈ seen ++ l.map (·.1) then [x.2.2] else [])
  | [], seen => by show (if x.1 ∈ seen then [x.2.2] else []) ++ [] = [] ++ _; simp
  | a :: l, seen => by
    show (if a.1 ∈ seen then [a.2.2] else []) ++ dupLb (seen ++ [a.1]) (l ++ [x]) = ((if a.1 ∈ seen then [a.2.2] else []) ++ dupLb (seen ++ [a.1]) l) ++ _
    rw [dupLb_app x l, show seen ++ [a.1] ++ l.map (·.1) = seen ++ (a :: l).map (·.1) by simp]
    exact (List.append_assoc _ _ _).symm
theorem dupLb_mem : ∀ (l : List Lb) (seen : List Nm) (y : Nat), y ∈ dupLb seen l → ∃ x ∈ l, x.2.2 = y
  | [], _, _, h => by cases h
  | a :: l, seen, y, h => by
    rcases List.mem_append.mp h with q | q
    · split at q
      · simp at q; exact ⟨a, by simp, q.symm⟩
      · cases q
    · obtain ⟨x, a1, a2⟩ := dupLb_mem l _ y q
      exact ⟨x, List.mem_cons_of_mem _ a1, a2⟩
theorem glb_mem {LS : List Lb} {i : Nat} (h : i < LS.length) : glb LS i ∈ LS := by
  show LS.getD i _ ∈ LS
  rw [List.getD_eq_getElem?_getD, List.getElem?_eq_getElem h]; exact List.getElem_mem h
theorem mem_glb {LS : List Lb} {x : Lb} (h : x ∈ LS) : ∃ i, i < LS.length ∧ glb LS i = x := by
  obtain ⟨i, hi, e⟩ := List.mem_iff_getElem.mp h
  exact ⟨i, hi, by show LS.getD i _ = x; rw [List.getD_eq_getElem?_getD, List.getElem?_eq_getElem hi]; exact e⟩
theorem take_glb {LS : List Lb} {n : Nat} (h : n < LS.length) : LS.take (n + 1) = LS.take n ++ [glb LS n] := by
  rw [List.take_add_one, List.getElem?_eq_getElem h]
  show _ ++ [_] = _ ++ [LS.getD n _]
  rw [List.getD_eq_getElem?_getD, List.getElem?_eq_getElem h]; rfl
/-- labels that were told twice -/
theorem c_end18 {A : List Nm} {LS : List Lb} {v1 : Int32} {Q X : Mem → Prop} {M : Mem} (h : cLb A LS M) (hA : A.length < 1000000) (hl : LS.length ≤ 3100) (hL : ∀ f, 23 ≤ f → f ≤ 29 → mL M f 0 = 3100)
    (hQ : ∃ d, w_Reader_endMethod_L59 0 Q X d v1 (wv (minL (dupLb [] LS))) 0 M) : ∃ d, w_Reader_endMethod_L18 0 Q X d v1 2147483647 0 M := by
  have main : ∀ d k, LS.length - k < d → k ≤ LS.length → w_Reader_endMethod_L18 0 Q X d v1 (wv (minL (dupLb [] (LS.take k)))) (Int32.ofNat k) M := by
    intro d
    induction d with
    | zero => intro k h; omega
    | succ d ih =>
      intro k hd hk
      unfold w_Reader_endMethod_L18
      rw [h.1]
      by_cases e : k = LS.length
      · refine itp (le_oN (by omega) (by omega)) ?_
        rw [e, List.take_length]; exact hQ
      · obtain ⟨⟨e1, e2⟩, -, e3, e4⟩ := h.2 k (by omega)
        refine itn (nle_oN (by omega) (by omega)) ⟨by rw [hL 23 (by omega) (by omega)]; exact (vp_oN (by omega)).mpr (by omega), ?_⟩
        rw [oN_tnc (by omega), e1]
        refine c_told h e2 hA hl (hL 23 (by omega) (by omega)) ?_
        have hs := lbI_spec (nm := (glb LS k).1) (LS := LS)
        have htk : dupLb [] (LS.take (k + 1)) = dupLb [] (LS.take k) ++ (if (glb LS k).1 ∈ (LS.take k).map (·.1) then [(glb LS k).2.2] else []) := by
          rw [take_glb (by omega), dupLb_app]; rfl
        cases hi : lbI LS (glb LS k).1 with
        | none =>
          rw [hi] at hs
          exact absurd rfl (hs k (by omega))
        | some j =>
          rw [hi] at hs
          have hjk : j ≤ k := Nat.le_of_not_lt (fun q => absurd rfl (hs.2.2 k q))
          by_cases cj : j = k
          · refine itp (le_oN (show k ≤ j by omega) (by omega)) ?_
            unfold w_Reader_endMethod_j51
            rw [lit32 1, oN_add]
            have := ih (k + 1) (by omega) (by omega)
            rw [htk, if_neg, List.append_nil] at this
            · exact this
            · intro q
              obtain ⟨x, x1, x2⟩ := List.mem_map.mp q
              obtain ⟨i, i1, i2⟩ := mem_glb x1
              rw [List.length_take] at i1
              have : glb (LS.take k) i = glb LS i := by
                show (LS.take k).getD i _ = LS.getD i _
                rw [List.getD_eq_getElem?_getD, List.getD_eq_getElem?_getD, List.getElem?_take, if_pos (by omega)]
              rw [this] at i2
              exact hs.2.2 i (by omega) (by rw [i2]; exact x2)
          · refine itn (nle_oN (show j < k by omega) (by omega)) ⟨by rw [hL 25 (by omega) (by omega)]; exact (vp_oN (by omega)).mpr (by omega), ?_⟩
            rw [e3]
            have hin : (glb LS k).1 ∈ (LS.take k).map (·.1) := by
              refine List.mem_map.mpr ⟨glb LS j, ?_, hs.2.1⟩
              have : glb (LS.take k) j = glb LS j := by
                show (LS.take k).getD j _ = LS.getD j _
                rw [List.getD_eq_getElem?_getD, List.getD_eq_getElem?_getD, List.getElem?_take, if_pos (by omega)]
              rw [← this]; exact glb_mem (by rw [List.length_take]; omega)
            refine c_min (minL_le (fun y hy => ?_)) e4 ?_
            · obtain ⟨x, x1, x2⟩ := dupLb_mem _ _ _ hy
              obtain ⟨i, i1, i2⟩ := mem_glb (List.mem_of_mem_take x1)
              have := (h.2 i i1).2.2.2
              rw [i2, x2] at this; exact this
            · unfold w_Reader_endMethod_j51
              rw [lit32 1, oN_add]
              have := ih (k + 1) (by omega) (by omega)
              rw [htk, if_pos hin, minL_app] at this
              exact this
  exact ⟨_, main (LS.length + 1) 0 (by omega) (by omega)⟩
