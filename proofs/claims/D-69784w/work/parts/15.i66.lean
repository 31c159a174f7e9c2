/-! DIFFER, works: instructions that are alike, whole; methods -/
section
variable {A : List Nm} {w w' nq nk np nr q nq' nk' np' nr' q' : Nat} {i j : Ins} {M : Mem} {Q : Int32 → Mem → Prop} {ls ss ls' ss' : List Kd}
theorem c_al89 (hA : A.length ≤ 200000) (hi : AlI A w nq nk np nr q i M) (hj : AlI A w' nq' nk' np' nr' q' j M) (hT : ∀ t ∈ iT i, t < 1000) (hT' : ∀ t ∈ iT j, t < 1000) (eo : i.1 = j.1) (e1 : iF i = some (ls, ss)) (e2 : iF j = some (ls', ss')) (l1 : ls.length = ls'.length) (l2 : ss.length = ss'.length) (hQ : Q (b2 (eqQ i j)) M) : ∀ n k, k ≤ ls.length + ss.length → ls.length + ss.length - k < n → (∀ x, x < k → gk (ls ++ ss) x = gk (ls' ++ ss') x) → w_Works_isAlike_L89 0 Q n w (Int32.ofNat q) w' (Int32.ofNat q') (Int32.ofNat i.1) (Int32.ofNat k) M
  | 0, k, hk, hn, hb => absurd hn (by omega)
  | n + 1, k, hk, hn, hb => by
    have z1 := L_le w
    have z2 := L_le w'
    obtain ⟨⟨-, -, -, hfm, -⟩, hR, ⟨k1, k2, k3, k4, k5, k6⟩, hnf⟩ := id hi
    obtain ⟨⟨-, -, -, hfm', -⟩, hR', ⟨k1', k2', k3', k4', k5', k6'⟩, hnf'⟩ := id hj
    have hfm : cFm A w nk q (iF i) M := hfm
    have hfm' : cFm A w' nk' q' (iF j) M := hfm'
    rw [e1] at hfm
    rw [e2] at hfm'
    obtain ⟨kf, f1, f2, f3, f4, f5⟩ := hfm
    obtain ⟨kf', f1', f2', f3', f4', f5'⟩ := hfm'
    obtain ⟨n1, n2⟩ := hnf.2.2.2.2.2.2.2 _ e1
    obtain ⟨n1', n2'⟩ := hnf'.2.2.2.2.2.2.2 _ e2
    unfold w_Works_isAlike_L89
    rw [oN_tnc (k := q) (by omega), oN_tnc (k := q') (by omega), hR.1 70 (by omega) (by omega), hR.1 71 (by omega) (by omega), hR.1 72 (by omega) (by omega), hR'.1 70 (by omega) (by omega), f2, f3, f4, f2', oN_add, hR.2.1, hR'.2.1]
    have vq : vp_in (Int32.ofNat q) (L6 w) := (vp_oN (by omega)).mpr (by omega)
    have vq' : vp_in (Int32.ofNat q') (L6 w') := (vp_oN (by omega)).mpr (by omega)
    refine ⟨vq, itn (nlt_oN (b := 0) (by omega) (by omega)) ⟨vq, vq, ?_⟩⟩
    by_cases e : k = ls.length + ss.length
    · refine itp (by rw [e]; exact le_oN (Nat.le_refl _) (by omega)) ?_
      have ea : ls ++ ss = ls' ++ ss' := gk_extQ (by rw [List.length_append, List.length_append, l1, l2]) (fun x hx => hb x (by rw [List.length_append] at hx; omega))
      obtain ⟨q1, q2⟩ := List.append_inj ea l1
      exact c_al156 hA hi hj hT hT' eo (by rw [e1, e2, q1, q2]) hQ
    refine itn (nle_oN (by omega) (by omega)) ⟨vq, ?_⟩
    rw [oN_add, oN_add, oN_tnc (k := kf + k) (by omega), oN_tnc (k := kf' + k) (by omega)]
    obtain ⟨g1, g2⟩ := f5 k (by rw [List.length_append]; omega)
    obtain ⟨g1', g2'⟩ := f5' k (by rw [List.length_append]; omega)
    rw [g1, g1']
    refine ⟨(vp_oN (by omega)).mpr (by omega), vq', (vp_oN (by omega)).mpr (by omega), ?_⟩
    have q1 : kQ (gk (ls ++ ss) k) := by
      have := gk_mem (ks := ls ++ ss) (i := k) (by rw [List.length_append]; omega)
      rcases List.mem_append.1 this with z | z
      · exact kNf_Q (n1 _ z)
      · exact kNf_Q (n2 _ z)
    have q2 : kQ (gk (ls' ++ ss') k) := by
      have := gk_mem (ks := ls' ++ ss') (i := k) (by rw [List.length_append]; omega)
      rcases List.mem_append.1 this with z | z
      · exact kNf_Q (n1' _ z)
      · exact kNf_Q (n2' _ z)
    have key := kC_injQ hA q1 q2 g2 g2'
    by_cases c : gk (ls ++ ss) k = gk (ls' ++ ss') k
    · refine itp (key.2 c) ?_
      rw [lit32 1, oN_add]
      refine c_al89 hA hi hj hT hT' eo e1 e2 l1 l2 hQ n (k + 1) (by omega) (by omega) (fun x hx => ?_)
      by_cases ex : x = k
      · rw [ex]; exact c
      · exact hb x (by omega)
    · refine itn (fun z => c (key.1 z)) ?_
      rw [eqQ_f (fun z => c (by
        rw [z, e2] at e1
        injection e1 with e1
        injection e1 with q1 q2
        rw [q1, q2]))] at hQ
      exact hQ
theorem c_isAlike (hA : A.length ≤ 200000) (hi : AlI A w nq nk np nr q i M) (hj : AlI A w' nq' nk' np' nr' q' j M) (hT : ∀ t ∈ iT i, t < 1000) (hT' : ∀ t ∈ iT j, t < 1000) (hQ : Q (b2 (eqQ i j)) M) : w_Works_isAlike 0 w (Int32.ofNat q) w' (Int32.ofNat q') Q M := by
  have z1 := L_le w
  have z2 := L_le w'
  obtain ⟨⟨⟨h66, h62⟩, -, -, hfm, -⟩, hR, ⟨k1, k2, k3, k4, k5, k6⟩, hnf⟩ := id hi
  obtain ⟨⟨⟨h66', h62'⟩, -, -, hfm', -⟩, hR', ⟨k1', k2', k3', k4', k5', k6'⟩, hnf'⟩ := id hj
  have hfm : cFm A w nk q (iF i) M := hfm
  have hfm' : cFm A w' nk' q' (iF j) M := hfm'
  have vq : vp_in (Int32.ofNat q) (L6 w) := (vp_oN (by omega)).mpr (by omega)
  have vq' : vp_in (Int32.ofNat q') (L6 w') := (vp_oN (by omega)).mpr (by omega)
  have no : i ≠ j → Q 0 M := fun z => by rw [eqQ_f z] at hQ; exact hQ
  unfold w_Works_isAlike w_Works_isAlike_j34 w_Works_isAlike_j49
  rw [oN_tnc (k := q) (by omega), oN_tnc (k := q') (by omega), hR.1 66 (by omega) (by omega), hR'.1 66 (by omega) (by omega), hR.1 70 (by omega) (by omega), hR'.1 70 (by omega) (by omega), hR.1 71 (by omega) (by omega), hR'.1 71 (by omega) (by omega), hR.1 72 (by omega) (by omega), hR'.1 72 (by omega) (by omega), h66, h66']
  refine ⟨vq, vq', ?_⟩
  by_cases eo : i.1 = j.1
  · refine itp (by rw [eo]) ⟨vq, ?_⟩
    cases e1 : iF i with
    | none =>
      rw [e1] at hfm
      obtain ⟨a0, a1, a2⟩ := hfm
      rw [a0, a1, a2]
      refine itn (by decide) ⟨vq', ?_⟩
      cases e2 : iF j with
      | none =>
        rw [e2] at hfm'
        obtain ⟨b0, b1, b2'⟩ := hfm'
        rw [b0, b1, b2']
        refine itn (by decide) (itp rfl ⟨vq, vq', itp rfl ⟨vq, vq', itp rfl ⟨1, ?_⟩⟩⟩)
        unfold w_Works_isAlike_L89
        rw [oN_tnc (k := q) (by omega), hR.1 70 (by omega) (by omega), a0]
        exact ⟨vq, itp (by decide) (c_al156 hA hi hj hT hT' eo (by rw [e1, e2]) hQ)⟩
      | some g =>
        obtain ⟨ls', ss'⟩ := g
        rw [e2] at hfm'
        obtain ⟨kf', f1', f2', -⟩ := hfm'
        rw [f2']
        exact itp (oN_zero_le (by omega)) (itn (by decide) (no (fun z => by rw [z, e2] at e1; cases e1)))
    | some f =>
      obtain ⟨ls, ss⟩ := f
      rw [e1] at hfm
      obtain ⟨kf, f1, f2, f3, f4, -⟩ := hfm
      rw [f2, f3, f4]
      refine itp (oN_zero_le (by omega)) ⟨vq', ?_⟩
      cases e2 : iF j with
      | none =>
        rw [e2] at hfm'
        obtain ⟨b0, b1, b2'⟩ := hfm'
        rw [b0]
        exact itn (by decide) (itn (by decide) (no (fun z => by rw [← z, e1] at e2; cases e2)))
      | some g =>
        obtain ⟨ls', ss'⟩ := g
        rw [e2] at hfm'
        obtain ⟨kf', f1', f2', f3', f4', -⟩ := hfm'
        rw [f2', f3', f4']
        have ne : (ls.length ≠ ls'.length ∨ ss.length ≠ ss'.length) → i ≠ j := fun y z => by
          rw [z, e2] at e1
          injection e1 with e1
          injection e1 with q1 q2
          rw [q1, q2] at y
          rcases y with y | y <;> exact y rfl
        refine itp (oN_zero_le (by omega)) (itp rfl ⟨vq, vq', ?_⟩)
        by_cases c1 : ls.length = ls'.length
        · refine itp (by rw [c1]) ⟨vq, vq', ?_⟩
          by_cases c2 : ss.length = ss'.length
          · exact itp (by rw [c2]) ⟨ls.length + ss.length + 1, c_al89 hA hi hj hT hT' eo e1 e2 c1 c2 hQ _ 0 (Nat.zero_le _) (by omega) (fun x hx => absurd hx (by omega))⟩
          · exact itn (ne_oN c2 (by omega) (by omega)) (no (ne (Or.inr c2)))
        · exact itn (ne_oN c1 (by omega) (by omega)) (no (ne (Or.inl c1)))
  · exact itn (ne_oN eo (by omega) (by omega)) (no (fun z => eo (by rw [z])))
end
