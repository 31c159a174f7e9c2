/-! DIFFER, works: instructions that are alike -/
noncomputable def eqQ {α : Type} (a b : α) : Bool := @decide (a = b) (Classical.propDecidable _)
theorem eqQ_t {α : Type} {a b : α} (h : a = b) : eqQ a b = true := @decide_eq_true _ (Classical.propDecidable _) h
theorem eqQ_f {α : Type} {a b : α} (h : a ≠ b) : eqQ a b = false := @decide_eq_false _ (Classical.propDecidable _) h
theorem eqQ_of {α : Type} {a b : α} (h : eqQ a b = true) : a = b := @of_decide_eq_true _ (Classical.propDecidable _) h
theorem b01B (b : Bool) : b2 b = 0 ∨ b2 b = 1 := by cases b <;> simp [b2]
/-- an instruction to be looked at -/
def AlI (A : List Nm) (w nq nk np nr q : Nat) (i : Ins) (M : Mem) : Prop := cFi A w nk np nr q i M ∧ cRm w M ∧ (q < nq ∧ nq ≤ L6 w ∧ nk ≤ L73 w ∧ np ≤ L73 w ∧ 4 * nr ≤ L76 w ∧ 6 * nr ≤ L212 w) ∧ nfI i
theorem ins_ext {i j : Ins} (h1 : i.1 = j.1) (h2 : iV i = iV j) (h3 : i.2.2.1 = j.2.2.1) (h4 : iT i = iT j) (h5 : iK i = iK j) (h6 : iM i = iM j) (h7 : iA i = iA j) (h8 : iR i = iR j) (h9 : iF i = iF j) : i = j := Prod.ext h1 (Prod.ext h2 (Prod.ext h3 (Prod.ext h4 (Prod.ext h5 (Prod.ext h6 (Prod.ext h7 (Prod.ext h8 h9)))))))
theorem gtn_ext {a b : List Nat} (hl : a.length = b.length) (h : ∀ i, i < a.length → gtn a i = gtn b i) : a = b := by
  apply List.ext_getElem hl
  intro i h1 h2
  have := h i h1
  rw [show gtn a i = a[i] by show a.getD i _ = _; rw [List.getD_eq_getElem?_getD, List.getElem?_eq_getElem h1]; rfl, show gtn b i = b[i] by show b.getD i _ = _; rw [List.getD_eq_getElem?_getD, List.getElem?_eq_getElem h2]; rfl] at this
  exact this
section
variable {A : List Nm} {w w' nq nk np nr q nq' nk' np' nr' q' : Nat} {i j : Ins} {M : Mem} {Q : Int32 → Mem → Prop}
theorem c_alP (ho : i.1 = 40) (hi : AlI A w nq nk np nr q i M) (hj : AlI A w' nq' nk' np' nr' q' j M) (eo : j.1 = 40) (hT : ∀ t ∈ iT i, t < 1000) (hT' : ∀ t ∈ iT j, t < 1000) (hl : (iT i).length = (iT j).length) (hQ : Q (b2 (decide (iT i = iT j))) M) : ∀ n k, k ≤ (iT i).length → (iT i).length - k < n → (∀ x, x < k → gtn (iT i) x = gtn (iT j) x) → w_Works_isAlike_L248 0 Q n w (Int32.ofNat q) w' (Int32.ofNat q') (Int32.ofNat i.1) (Int32.ofNat k) M
  | 0, k, hk, hn, hb => absurd hn (by omega)
  | n + 1, k, hk, hn, hb => by
    have l1 := L_le w
    have l2 := L_le w'
    obtain ⟨⟨-, ⟨pf, hop, hpk⟩, -⟩, hR, ⟨k1, k2, k3, k4, k5, k6⟩, -⟩ := id hi
    obtain ⟨⟨-, ⟨pf', hop', hpk'⟩, -⟩, hR', ⟨k1', k2', k3', k4', k5', k6'⟩, -⟩ := id hj
    obtain ⟨p1, p2⟩ := hpk ho
    obtain ⟨p1', p2'⟩ := hpk' eo
    have p1 : pf + (iT i).length ≤ np := p1
    have p1' : pf' + (iT j).length ≤ np' := p1'
    have o1 := hop.1
    have o2 := hop'.1
    unfold cOp0 at o1 o2
    rw [ho, if_neg (by decide), if_neg (by decide), if_pos rfl] at o1
    rw [eo, if_neg (by decide), if_neg (by decide), if_pos rfl] at o2
    have e69 : mI M 69 w q = Int32.ofNat (iT i).length := by
      rw [o1.2.2]
      show Int32.ofNat (List.map _ (iT i)).length = _
      rw [List.length_map]
    unfold w_Works_isAlike_L248
    refine itp (by rw [ho]; rfl) ?_
    rw [oN_tnc (k := q) (by omega), oN_tnc (k := q') (by omega), e69, hR.1 69 (by omega) (by omega), hR.1 68 (by omega) (by omega), hR'.1 68 (by omega) (by omega)]
    refine ⟨(vp_oN (by omega)).mpr (by omega), ?_⟩
    by_cases e : k = (iT i).length
    · refine itp (by rw [e]; exact le_oN (Nat.le_refl _) (by omega)) ?_
      rw [decide_eq_true (gtn_ext hl (fun x hx => hb x (by omega)))] at hQ
      exact hQ
    have hkl : k < (iT i).length := by omega
    refine itn (nle_oN (by omega) (by omega)) ⟨(vp_oN (by omega)).mpr (by omega), ?_⟩
    rw [o1.2.1, o2.2.1, oN_add, oN_add, oN_tnc (k := pf + k) (by omega), oN_tnc (k := pf' + k) (by omega), hR.2.2.1, hR'.2.2.1, p2 k hkl, p2' k (by show k < (iT j).length; omega)]
    refine ⟨(vp_oN (by omega)).mpr (by omega), (vp_oN (by omega)).mpr (by omega), (vp_oN (by omega)).mpr (by omega), ?_⟩
    have t1 := hT _ (gtn_mem hkl)
    have t2 := hT' _ (gtn_mem (l := iT j) (j := k) (by omega))
    by_cases c : gtn (iT i) k = gtn (iT j) k
    · refine itp (show Int32.ofNat (gtn (iT i) k) = Int32.ofNat (gtn (iT j) k) by rw [c]) ?_
      rw [lit32 1, oN_add]
      refine c_alP ho hi hj eo hT hT' hl hQ n (k + 1) (by omega) (by omega) (fun x hx => ?_)
      by_cases ex : x = k
      · rw [ex]; exact c
      · exact hb x (by omega)
    · refine itn (fun z => c ((oN_inj (by omega) (by omega)).1 z)) ?_
      rw [decide_eq_false (fun z => c (by rw [z]))] at hQ
      exact hQ
theorem c_al156 (hA : A.length ≤ 200000) (hi : AlI A w nq nk np nr q i M) (hj : AlI A w' nq' nk' np' nr' q' j M) (hT : ∀ t ∈ iT i, t < 1000) (hT' : ∀ t ∈ iT j, t < 1000) (eo : i.1 = j.1) (ef : iF i = iF j) (hQ : Q (b2 (eqQ i j)) M) : w_Works_isAlike_j156 0 Q w (Int32.ofNat q) w' (Int32.ofNat q') (Int32.ofNat i.1) M := by
  have l1 := L_le w
  have l2 := L_le w'
  obtain ⟨⟨⟨-, h62⟩, ⟨pf, hop, hpk⟩, hJ, -, h6, -⟩, hR, ⟨k1, k2, k3, k4, k5, k6⟩, -, ⟨v1, u1⟩, ⟨t1, t2, t3⟩, ⟨c1, c2⟩, ⟨m1, m2⟩, ⟨a1, a2⟩, ⟨r1, r2⟩, -⟩ := id hi
  obtain ⟨-, ⟨pf', hop', hpk'⟩, hJ', -, h6', -⟩ := id hj.1
  obtain ⟨-, hR', ⟨k1', k2', k3', k4', k5', k6'⟩, -, ⟨v1', u1'⟩, ⟨t1', t2', t3'⟩, ⟨c1', c2'⟩, ⟨m1', m2'⟩, ⟨a1', a2'⟩, ⟨r1', r2'⟩, -⟩ := id hj
  have o1 := hop.1
  have o2 := hop'.1
  have n1 := hop.2
  have n2 := hop'.2
  unfold cOp0 at o1 o2
  rw [← eo] at o2 n2 hJ' v1' u1' t1' t2' t3' c1' c2' m1' m2' a1' r1'
  have no : i ≠ j → Q 0 M := fun z => by rw [eqQ_f z] at hQ; exact hQ
  have yes : i = j → Q 1 M := fun z => by rw [eqQ_t z] at hQ; exact hQ
  unfold w_Works_isAlike_j156
  refine c_isInN (lo := 46) (hi := 53) (by omega) (by omega) (by omega) ?_
  rw [oN_tnc (k := q) (by omega), oN_tnc (k := q') (by omega), hR.1 67 (by omega) (by omega), hR'.1 67 (by omega) (by omega), hR.1 68 (by omega) (by omega), hR'.1 68 (by omega) (by omega)]
  have vq : vp_in (Int32.ofNat q) (L6 w) := (vp_oN (by omega)).mpr (by omega)
  have vq' : vp_in (Int32.ofNat q') (L6 w') := (vp_oN (by omega)).mpr (by omega)
  by_cases cm : 46 ≤ i.1 ∧ i.1 ≤ 53
  · rw [decide_eq_true cm]
    have c2m : isFo i.1 ∨ isMo i.1 := by
      by_cases z : i.1 ≤ 49
      · exact Or.inl ⟨cm.1, z⟩
      · exact Or.inr ⟨by omega, cm.2⟩
    have nN : ¬ isN i.1 := by unfold isN; omega
    rw [if_neg nN, if_pos c2m] at o1 o2
    obtain ⟨r, q1, ⟨q2, -⟩, q3⟩ := o1
    obtain ⟨r', q1', ⟨q2', -⟩, q3'⟩ := o2
    refine itn (by decide) ⟨vq, vq', ?_⟩
    rw [q2, q2']
    refine c_sameMember hA q3 q3' hR hR' ⟨by omega, by omega⟩ ⟨by omega, by omega⟩ (fun κ hκ => kNf_Q (a2 κ hκ)) (fun κ hκ => kNf_Q (a2' κ hκ)) (kNf_Q r2) (kNf_Q r2') h6 h6' ⟨b01B _, ?_⟩
    have e : decide (iK i = iK j ∧ iM i = iM j ∧ iR i = iR j ∧ iA i = iA j) = eqQ i j := by
      by_cases z : i = j
      · rw [eqQ_t z, z]; simp
      · rw [eqQ_f z]
        refine decide_eq_false (fun y => z (ins_ext eo ?_ ?_ ?_ y.1 y.2.1 y.2.2.2 y.2.2.1 ef))
        · rw [v1 (by omega), v1' (by omega)]
        · rw [u1 (by omega), u1' (by omega)]
        · rw [t2 (by omega) (by omega), t2' (by omega) (by omega)]
    show Q (b2 (decide (iK i = iK j ∧ iM i = iM j ∧ iR i = iR j ∧ iA i = iA j))) M
    rw [e]; exact hQ
  rw [decide_eq_false cm]
  have nM : ¬ (isFo i.1 ∨ isMo i.1) := by omega
  have eM : iM i = iM j := by rw [m1 cm, m1' cm]
  have eA : iA i = iA j := by rw [a1 (fun z => nM (Or.inr z)), a1' (fun z => nM (Or.inr z))]
  have eR : iR i = iR j := by rw [r1 nM, r1' nM]
  refine itp rfl ⟨vq, vq', ?_⟩
  -- the rest of the row
  have j227 : iV i = iV j → i.2.2.1 = j.2.2.1 → iK i = iK j → (i.1 ≠ 40 → iT i = iT j) → w_Works_isAlike_j227 0 Q w (Int32.ofNat q) w' (Int32.ofNat q') (Int32.ofNat i.1) M := fun eV eU eK eT => by
    unfold w_Works_isAlike_j227
    rw [oN_tnc (k := q) (by omega), oN_tnc (k := q') (by omega), hR.1 69 (by omega) (by omega), hR'.1 69 (by omega) (by omega)]
    refine ⟨vq, vq', ?_⟩
    by_cases c40 : i.1 = 40
    · rw [if_neg (by unfold isN; omega), if_neg nM, if_pos c40] at o1 o2
      have e69 : mI M 69 w q = Int32.ofNat (iT i).length := by
        rw [o1.2.2]
        show Int32.ofNat (List.map _ (iT i)).length = _
        rw [List.length_map]
      have e69' : mI M 69 w' q' = Int32.ofNat (iT j).length := by
        rw [o2.2.2]
        show Int32.ofNat (List.map _ (iT j)).length = _
        rw [List.length_map]
      have b1 : pf + (iT i).length ≤ np := (hpk c40).1
      have b2' : pf' + (iT j).length ≤ np' := (hpk' (by rw [← eo]; exact c40)).1
      rw [e69, e69']
      by_cases el : (iT i).length = (iT j).length
      · refine itp (by rw [el]) ⟨(iT i).length + 1, c_alP c40 hi hj (by rw [← eo]; exact c40) hT hT' el ?_ _ 0 (Nat.zero_le _) (by omega) (fun x hx => absurd hx (by omega))⟩
        have e : decide (iT i = iT j) = eqQ i j := by
          by_cases z : i = j
          · rw [eqQ_t z, z]; simp
          · rw [eqQ_f z]
            exact decide_eq_false (fun y => z (ins_ext eo eV eU y eK eM eA eR ef))
        rw [e]; exact hQ
      · exact itn (ne_oN el (by omega) (by omega)) (no (fun z => el (by rw [z])))
    · rw [n1 c40, n2 c40]
      refine itp rfl ⟨1, ?_⟩
      unfold w_Works_isAlike_L248
      exact itn (ne_oN (b := 40) c40 (by omega) (by omega)) (yes (ins_ext eo eV eU (eT c40) eK eM eA eR ef))
  by_cases cN : isN i.1
  · rw [if_pos cN] at o1 o2
    have inj := nc_inj (A := A) (by omega) o1.2 o2.2
    have cN' := cN
    unfold isN at cN'
    rw [o1.1, o2.1]
    have n7 : ¬ i.1 = 7 := by omega
    by_cases c : iK i = iK j
    · refine itp (inj.2 c) (itn (ne_oN (b := 7) n7 (by omega) (by omega)) (j227 ?_ ?_ c (fun _ => ?_)))
      · rw [v1 (by omega), v1' (by omega)]
      · rw [u1 n7, u1' n7]
      · rw [t2 (by omega) (by omega), t2' (by omega) (by omega)]
    · exact itn (fun z => c (inj.1 z)) (no (fun z => c (by rw [z])))
  have eK : iK i = iK j := by
    have : ¬ (i.1 = 41 ∨ (46 ≤ i.1 ∧ i.1 ≤ 55)) := by unfold isN at cN; omega
    rw [c1 this, c1' this]
  by_cases cJ : isJ i.1
  · have n7 : ¬ i.1 = 7 := by omega
    have b1 := hT _ (gtn_mem (l := iT i) (j := 0) (by rw [t1 cJ]; omega))
    have b2' := hT' _ (gtn_mem (l := iT j) (j := 0) (by rw [t1' cJ]; omega))
    have e7 : mI M 67 w q = Int32.ofNat (gtn (iT i) 0) := hJ cJ
    have e7' : mI M 67 w' q' = Int32.ofNat (gtn (iT j) 0) := hJ' cJ
    rw [e7, e7']
    by_cases c : gtn (iT i) 0 = gtn (iT j) 0
    · refine itp (by rw [c]) (itn (ne_oN (b := 7) n7 (by omega) (by omega)) (j227 ?_ ?_ eK (fun _ => gtn_ext (by rw [t1 cJ, t1' cJ]) (fun x hx => ?_))))
      · rw [v1 (by omega), v1' (by omega)]
      · rw [u1 n7, u1' n7]
      · rw [t1 cJ] at hx
        rw [show x = 0 by omega]; exact c
    · exact itn (fun z => c ((oN_inj (by omega) (by omega)).1 z)) (no (fun z => c (by rw [z])))
  have eT : i.1 ≠ 40 → iT i = iT j := fun c40 => by rw [t2 cJ c40, t2' cJ c40]
  -- numbers
  have e7 : mI M 67 w q = iV i ∧ (i.1 ≠ 40 → mI M 68 w q = i.2.2.1) := by
    rw [if_neg cN, if_neg nM] at o1
    by_cases c40 : i.1 = 40
    · rw [if_pos c40] at o1; exact ⟨o1.1, fun z => absurd c40 z⟩
    · rw [if_neg c40, if_neg cJ] at o1; exact ⟨o1.1, fun _ => o1.2⟩
  have e7' : mI M 67 w' q' = iV j ∧ (i.1 ≠ 40 → mI M 68 w' q' = j.2.2.1) := by
    rw [if_neg cN, if_neg nM] at o2
    by_cases c40 : i.1 = 40
    · rw [if_pos c40] at o2; exact ⟨o2.1, fun z => absurd c40 z⟩
    · rw [if_neg c40, if_neg cJ] at o2; exact ⟨o2.1, fun _ => o2.2⟩
  rw [e7.1, e7'.1]
  by_cases c : iV i = iV j
  · refine itp c ?_
    by_cases c7 : i.1 = 7
    · refine itp (by rw [c7]; rfl) ⟨vq, vq', ?_⟩
      rw [e7.2 (by omega), e7'.2 (by omega)]
      by_cases cu : i.2.2.1 = j.2.2.1
      · exact itp cu (j227 c cu eK eT)
      · exact itn cu (no (fun z => cu (by rw [z])))
    · exact itn (ne_oN (b := 7) c7 (by omega) (by omega)) (j227 c (by rw [u1 c7, u1' c7]) eK eT)
  · exact itn c (no (fun z => c (by rw [z])))
end
