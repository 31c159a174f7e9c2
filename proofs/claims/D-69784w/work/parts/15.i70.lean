/-! THE OPERATION differ, works, whole -/
section
variable {A : List Nm} {W V : List Cls} {w w' c d k k' : Nat} {br br' : Int32} {nq nk np nh nr nq' nk' np' nh' nr' C C' B B' F F' : Nat} {x y : Mth} {M : Mem} {Q : Int32 → Mem → Prop} {on : Nat → Bool} {s s' : Ms} {a ca da : Int32}
theorem c_df197 (hA : A.length ≤ 200000) (hW : CWx A W w br nq nk np nh nr M) (hV : CWx A V w' br' nq' nk' np' nh' nr' M) (h51 : W.length ≤ 51) (h51' : V.length ≤ 51) (hc : c < W.length) (hd : d < V.length) (hty : ∀ f, f < (gc W c).2.2.2.2.1.length → tyOk (gfl (gc W c) f).2.1) (hty' : ∀ g, g < (gc V d).2.2.2.2.1.length → tyOk (gfl (gc V d) g).2.1) (hQ : Q (difO (gc W c) (gc V d) 1) M) : ∀ n k, k ≤ (gc W c).2.2.2.2.1.length → (gc W c).2.2.2.2.1.length - k < n → w_Works_differ_L197 0 Q n (Int32.ofNat c) (Int32.ofNat d) w w' (Int32.ofNat (((gc W c).2.2.2.2.1.take k).countP (fun f => decide (f ∉ (gc V d).2.2.2.2.1)))) (Int32.ofNat k) M
  | 0, k, hk, hn => absurd hn (by omega)
  | n + 1, k, hk, hn => by
    obtain ⟨⟨-, ⟨l1, l2, l3, l4, l5, l6, l7⟩, l41, l42⟩, fl2, fl3⟩ := hW.1.2.1
    obtain ⟨⟨e41, e42⟩, h8, -⟩ := fl2 c hc
    have vc : ∀ {g : Nat}, g = 51 → vp_in (Int32.ofNat c) g := fun e => by rw [e]; exact (vp_oN (by omega)).mpr (by omega)
    unfold w_Works_differ_L197
    refine ⟨vc l42, ?_⟩
    rw [oN_tnc (k := c) (by omega), e42, e41]
    by_cases ek : k = (gc W c).2.2.2.2.1.length
    · refine itp (by rw [ek]; exact le_oN (Nat.le_refl _) (by omega)) ?_
      rw [ek, List.take_length]
      unfold difO at hQ
      rw [if_neg (by decide), if_pos rfl] at hQ
      exact hQ
    have hkl : k < (gc W c).2.2.2.2.1.length := by omega
    have hcl := cnt_leQ (p := fun f => decide (f ∉ (gc V d).2.2.2.2.1)) (l := (gc W c).2.2.2.2.1) (k := k)
    have hck := cnt_k (p := fun f => decide (f ∉ (gc V d).2.2.2.2.1)) (d := ([], (0, []), 0, 0, false)) hkl
    have hck : (((gc W c).2.2.2.2.1.take (k + 1)).countP (fun f => decide (f ∉ (gc V d).2.2.2.2.1))) = ((gc W c).2.2.2.2.1.take k).countP (fun f => decide (f ∉ (gc V d).2.2.2.2.1)) + (if decide (gfl (gc W c) k ∉ (gc V d).2.2.2.2.1) = true then 1 else 0) := hck
    have ih := c_df197 hA hW hV h51 h51' hc hd hty hty' hQ n (k + 1) (by omega) (by omega)
    rw [hck] at ih
    generalize ((gc W c).2.2.2.2.1.take k).countP (fun f => decide (f ∉ (gc V d).2.2.2.2.1)) = N at ih hcl ⊢
    refine itn (nle_oN (by omega) (by omega)) ⟨vc l41, ?_⟩
    rw [oN_add]
    refine c_hasField hA hW hV h51 h51' hc hkl hd (hty k hkl) hty' ?_
    unfold w_Works_differ_j239
    by_cases z : gfl (gc W c) k ∈ (gc V d).2.2.2.2.1
    · rw [decide_eq_true z]
      refine itn (by decide) ?_
      rw [decide_eq_false (fun y => y z), if_neg (by decide)] at ih
      rw [lit32 1, lit32 0, oN_add, oN_add]
      exact ih
    · rw [decide_eq_false z]
      refine itp rfl ?_
      rw [decide_eq_true z, if_pos rfl] at ih
      rw [lit32 1, oN_add, oN_add]
      exact ih
theorem gf_ext {a b : Cls} (hl : a.2.2.1.length = b.2.2.1.length) (h : ∀ i, i < a.2.2.1.length → gf a i = gf b i) : a.2.2.1 = b.2.2.1 := by
  apply List.ext_getElem hl
  intro i h1 h2
  have := h i h1
  rw [show gf a i = a.2.2.1[i] by show a.2.2.1.getD i _ = _; rw [List.getD_eq_getElem?_getD, List.getElem?_eq_getElem h1]; rfl, show gf b i = b.2.2.1[i] by show b.2.2.1.getD i _ = _; rw [List.getD_eq_getElem?_getD, List.getElem?_eq_getElem h2]; rfl] at this
  exact this
theorem c_df116 (hA : A.length ≤ 200000) (hW : CWx A W w br nq nk np nh nr M) (hV : CWx A V w' br' nq' nk' np' nh' nr' M) (h51 : W.length ≤ 51) (h51' : V.length ≤ 51) (hc : c < W.length) (hd : d < V.length) (e : (gc W c).2.2.2.1 = (gc V d).2.2.2.1 ∧ (gc W c).2.1 = (gc V d).2.1) (el : (gc W c).2.2.1.length = (gc V d).2.2.1.length) (hQ : Q (difO (gc W c) (gc V d) 0) M) : ∀ n k (b : Bool), k ≤ (gc W c).2.2.1.length → (gc W c).2.2.1.length - k < n → (b = true ↔ ∀ i, i < k → gf (gc W c) i = gf (gc V d) i) → w_Works_differ_L116 0 Q n (Int32.ofNat c) (Int32.ofNat d) w w' (b2 b) (Int32.ofNat k) M
  | 0, k, b, hk, hn, hb => absurd hn (by omega)
  | n + 1, k, b, hk, hn, hb => by
    obtain ⟨-, ⟨l37, l38, l39, l40⟩, hcl⟩ := hW.1.1
    obtain ⟨-, ⟨e39, h4, hfc⟩, -⟩ := hcl c hc
    obtain ⟨-, ⟨l37', l38', l39', l40'⟩, hcl'⟩ := hV.1.1
    obtain ⟨-, ⟨e39', h4', hfc'⟩, -⟩ := hcl' d hd
    have hQ' := hQ
    unfold difO at hQ
    rw [if_pos rfl] at hQ
    have fin : (b = true ↔ (gc W c).2.2.1 = (gc V d).2.2.1) → w_Works_differ_j174 0 Q (b2 b) M := fun hh => by
      unfold w_Works_differ_j174
      cases b with
      | false =>
        rw [if_neg (fun z => by have := hh.2 z.2.2; cases this)] at hQ
        exact itp rfl hQ
      | true =>
        rw [if_pos ⟨e.1, e.2, hh.1 rfl⟩] at hQ
        exact itn (by decide) hQ
    unfold w_Works_differ_L116
    refine ⟨by rw [l39]; exact (vp_oN (by omega)).mpr (by omega), ?_⟩
    rw [oN_tnc (k := c) (by omega), e39]
    by_cases ek : k = (gc W c).2.2.1.length
    · exact itp (by rw [ek]; exact le_oN (Nat.le_refl _) (by omega)) (fin ⟨fun z => gf_ext el (fun i hi => hb.1 z i (by omega)), fun z => hb.2 (fun i _ => by show (gc W c).2.2.1.getD i _ = (gc V d).2.2.1.getD i _; rw [z])⟩)
    refine itn (nle_oN (by omega) (by omega)) ?_
    cases b with
    | false => exact itp rfl (fin ⟨fun z => (by cases z), fun z => hb.2 (fun i _ => by show (gc W c).2.2.1.getD i _ = (gc V d).2.2.1.getD i _; rw [z])⟩)
    | true =>
      obtain ⟨a1, a2⟩ := hfc k (by omega)
      obtain ⟨a1', a2'⟩ := hfc' k (by omega)
      have inj := nc_inj (A := A) (by omega) a2 a2'
      refine itn (by decide) ?_
      rw [lit32 4, oN_mul, oN_mul, oN_add, oN_add, l38, l38', oN_tnc (k := 4 * c + k) (by omega), oN_tnc (k := 4 * d + k) (by omega), a1, a1']
      refine ⟨(vp_oN (by omega)).mpr (by omega), (vp_oN (by omega)).mpr (by omega), ?_⟩
      unfold w_Works_differ_j166
      rw [lit32 1, oN_add]
      by_cases cc : gf (gc W c) k = gf (gc V d) k
      · refine itp (inj.2 cc) (c_df116 hA hW hV h51 h51' hc hd e el hQ' n (k + 1) true (by omega) (by omega) ⟨fun _ i hi => ?_, fun _ => rfl⟩)
        by_cases ei : i = k
        · rw [ei]; exact cc
        · exact hb.1 rfl i (by omega)
      · exact itn (fun z => cc (inj.1 z)) (c_df116 hA hW hV h51 h51' hc hd e el hQ' n (k + 1) false (by omega) (by omega) ⟨fun z => (by cases z), fun z => absurd (z k (by omega)) cc⟩)
theorem pcC_inj {p q : Nm} (hA : A.length ≤ 200000) (hp : p = [] ∨ p ∈ A) (hq : q = [] ∨ q ∈ A) : pcC A p = pcC A q ↔ p = q := by
  refine ⟨fun h => ?_, fun h => by rw [h]⟩
  have neg : ∀ {z : Nm}, z ∈ A → nc A z ≠ -1 := fun hz e => by
    have hi := List.idxOf_lt_length_of_mem hz
    have := congrArg Int32.toInt e
    unfold nc at this
    rw [oN_toInt (by omega)] at this
    have z1 : (-1 : Int32).toInt = -1 := by decide
    rw [z1] at this
    omega
  unfold pcC at h
  by_cases c1 : p = [] <;> by_cases c2 : q = []
  · rw [c1, c2]
  · rw [if_pos c1, if_neg c2] at h; exact absurd h.symm (neg (hq.resolve_left c2))
  · rw [if_neg c1, if_pos c2] at h; exact absurd h (neg (hp.resolve_left c1))
  · rw [if_neg c1, if_neg c2] at h; exact (nc_inj (A := A) (by omega) (hp.resolve_left c1) (hq.resolve_left c2)).1 h
/-- what looking at methods asks of a world -/
def DfW (W : List Cls) : Prop := ∀ c, c < W.length → (∀ f, f < (gc W c).2.2.2.2.1.length → tyOk (gfl (gc W c) f).2.1) ∧ ∀ k, k < (gc W c).2.2.2.2.2.length → (co (gmt (gc W c) k) = [] ∧ hs (gmt (gc W c) k) = []) ∨ (nfM (gmt (gc W c) k) ∧ wfM (gmt (gc W c) k))
theorem c_wdiffer (hk : k < 3) (hk' : k' < 3) (hOn : cOn on M) (hon : on k = true) (hon' : on k' = true) (hW : WO W) (hV : WO V) (hD : DfW W) (hD' : DfW V) (hKB : KB (k + 1) nq nk np nh nr) (hKB' : KB (k' + 1) nq' nk' np' nh' nr') (hA : A.length ≤ 200000) (h : RA A W (k + 1) br nq nk np nh nr C B F s M) (h' : RA A V (k' + 1) br' nq' nk' np' nh' nr' C' B' F' s' M) (hQ : Q (dfrO W V ca da a) M) : w_Works_differ 0 (Int32.ofNat k) ca (Int32.ofNat k') da a Q M := by
  have h51 := hW.2.2.2
  have h51' := hV.2.2.2
  unfold dfrO at hQ
  unfold w_Works_differ
  refine c_isClass hk hOn hon hW.1.1 hW.2.2.2 h.1.1.1.1.1.1.1.1 (fun z => by rw [if_pos z] at hQ; exact itp rfl hQ) (fun c hc ec ec2 nz => ?_)
  rw [if_neg nz] at hQ
  refine itn (by decide) ?_
  refine c_isClass hk' hOn hon' hV.1.1 hV.2.2.2 h'.1.1.1.1.1.1.1.1 (fun z => by rw [if_pos z] at hQ; exact itp rfl hQ) (fun d hd ed ed2 nz' => ?_)
  rw [if_neg nz'] at hQ
  refine itn (by decide) ?_
  unfold w_Works_isIn
  by_cases c0 : a < 0
  · rw [if_pos (Or.inl c0)] at hQ
    exact itp c0 (itp rfl hQ)
  refine itn c0 ?_
  by_cases c3 : (3 : Int32) < a
  · rw [if_pos (Or.inr c3)] at hQ
    exact itp c3 (itp rfl hQ)
  rw [if_neg (fun z => z.elim c0 c3), ec2, ed2] at hQ
  obtain ⟨a1, a2⟩ := hOn.at hk hon
  obtain ⟨b1, b2'⟩ := hOn.at hk' hon'
  have X := h.1.1.1
  have Y := h'.1.1.1
  refine itn c3 (itn (by decide) ⟨a1, k + 1, a2, b1, k' + 1, b2', ?_⟩)
  rw [ec, ed]
  have a4 : a = 0 ∨ a = 1 ∨ a = 2 ∨ a = 3 := by
    have e := tnc_oN c0
    have hlt : a.toNatClampNeg < 4 := idx_lt (n := 4) (by omega) c0 (fun z => c3 (by rw [Int32.le_iff_toInt_le] at z; rw [Int32.lt_iff_toInt_lt]; exact Int.lt_of_lt_of_le (by decide) z))
    rw [← e]
    have : a.toNatClampNeg = 0 ∨ a.toNatClampNeg = 1 ∨ a.toNatClampNeg = 2 ∨ a.toNatClampNeg = 3 := by omega
    rcases this with q | q | q | q <;> rw [q]
    · exact Or.inl rfl
    · exact Or.inr (Or.inl rfl)
    · exact Or.inr (Or.inr (Or.inl rfl))
    · exact Or.inr (Or.inr (Or.inr rfl))
  obtain ⟨-, ⟨l37, l38, l39, l40⟩, hcl⟩ := X.1.1
  obtain ⟨⟨e37, par, -⟩, ⟨e39, h4, hfc⟩, e40⟩ := hcl c hc
  obtain ⟨-, ⟨l37', l38', l39', l40'⟩, hcl'⟩ := Y.1.1
  obtain ⟨⟨e37', par', -⟩, ⟨e39', h4', hfc'⟩, e40'⟩ := hcl' d hd
  have vc : ∀ {g : Nat}, g = 51 → vp_in (Int32.ofNat c) g := fun e => by rw [e]; exact (vp_oN (by omega)).mpr (by omega)
  have vd : ∀ {g : Nat}, g = 51 → vp_in (Int32.ofNat d) g := fun e => by rw [e]; exact (vp_oN (by omega)).mpr (by omega)
  rcases a4 with e | e | e | e
  · rw [e] at hQ
    refine itp e ⟨vc l40, vd l40', ?_⟩
    rw [oN_tnc (k := c) (by omega), oN_tnc (k := d) (by omega), e40, e40', e37, e37', e39, e39']
    have no : ¬ ((gc W c).2.2.2.1 = (gc V d).2.2.2.1 ∧ (gc W c).2.1 = (gc V d).2.1 ∧ (gc W c).2.2.1 = (gc V d).2.2.1) → w_Works_differ_j110 0 Q (Int32.ofNat c) (Int32.ofNat d) (k + 1) (k' + 1) M := fun z => by
      unfold difO at hQ
      rw [if_pos rfl, if_neg z] at hQ
      have g : w_Works_differ_j174 0 Q 0 M := by
        unfold w_Works_differ_j174
        exact itp rfl hQ
      unfold w_Works_differ_j110 w_Works_differ_j111
      refine ⟨1, ?_⟩
      unfold w_Works_differ_L116
      refine ⟨vc l39, ?_⟩
      split
      · exact g
      · exact itp rfl g
    by_cases c1 : (gc W c).2.2.2.1 = (gc V d).2.2.2.1
    · refine itp c1 ⟨vc l37, vd l37', ?_⟩
      have inj := pcC_inj hA par par'
      by_cases c2 : (gc W c).2.1 = (gc V d).2.1
      · refine itp (inj.2 c2) ⟨vc l39, vd l39', ?_⟩
        by_cases c5 : (gc W c).2.2.1.length = (gc V d).2.2.1.length
        · refine itp (by rw [c5]) ?_
          unfold w_Works_differ_j111
          exact ⟨(gc W c).2.2.1.length + 1, c_df116 hA X Y h51 h51' hc hd ⟨c1, c2⟩ c5 hQ _ 0 true (Nat.zero_le _) (by omega) ⟨fun _ i hi => absurd hi (by omega), fun _ => rfl⟩⟩
        · exact itn (ne_oN c5 (by omega) (by omega)) (no (fun z => c5 (by rw [z.2.2])))
      · exact itn (fun z => c2 (inj.1 z)) (no (fun z => c2 z.2.1))
    · exact itn c1 (no (fun z => c1 z.1))
  · rw [e] at hQ
    exact itn (by rw [e]; decide) (itp e ⟨(gc W c).2.2.2.2.1.length + 1, c_df197 hA X Y h51 h51' hc hd (hD c hc).1 (hD' d hd).1 hQ _ 0 (Nat.zero_le _) (by omega)⟩)
  · have ha : a = 2 ∨ a = 3 := Or.inl e
    exact itn (by rw [e]; decide) (itn (by rw [e]; decide) ⟨(gc W c).2.2.2.2.2.length + 1, c_df254 hA X Y hKB hKB' hc hd (hD c hc).2 (hD' d hd).2 ha hQ _ 0 (Nat.zero_le _) (by omega)⟩)
  · have ha : a = 2 ∨ a = 3 := Or.inr e
    exact itn (by rw [e]; decide) (itn (by rw [e]; decide) ⟨(gc W c).2.2.2.2.2.length + 1, c_df254 hA X Y hKB hKB' hc hd (hD c hc).2 (hD' d hd).2 ha hQ _ 0 (Nat.zero_le _) (by omega)⟩)
end
