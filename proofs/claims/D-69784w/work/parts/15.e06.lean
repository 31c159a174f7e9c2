/-! B: linking in the works: whole -/
theorem badF_drop {W : List Cls} {L : List Nm} {j : Nat} (h : j < L.length) : badF W (L.drop j) = match fnd W (L.getD j []) with
    | none => some 2211
    | some d => if isFc W d then badF W (L.drop (j + 1)) else some 2315 := by
  have e : L.drop j = L.getD j [] :: L.drop (j + 1) := by
    rw [List.drop_eq_getElem_cons h]
    congr 1
    rw [List.getD_eq_getElem?_getD, List.getElem?_eq_getElem h]; rfl
  rw [e]; rfl
theorem lkFs_drop {K : LkS → Nat → Int32 × LkS} {W : List Cls} {L : List Nm} {j : Nat} {s : LkS} (h : j < L.length) : lkFs K W (L.drop j) s = match fnd W (L.getD j []) with
    | none => (some 0, s)
    | some d => if (K s d).1 = 1 then lkFs K W (L.drop (j + 1)) (K s d).2 else (some (K s d).1, (K s d).2) := by
  have e : L.drop j = L.getD j [] :: L.drop (j + 1) := by
    rw [List.drop_eq_getElem_cons h]
    congr 1
    rw [List.getD_eq_getElem?_getD, List.getElem?_eq_getElem h]; rfl
  rw [e]; rfl
theorem badF_none {W : List Cls} : ∀ {L : List Nm}, badF W L = none → ∀ f ∈ L, ∃ d, fnd W f = some d
  | [], _ => fun f hf => absurd hf List.not_mem_nil
  | g :: L, h => by
    unfold badF at h
    split at h
    · cases h
    · rename_i d ed
      split at h
      · intro f hf
        rcases List.mem_cons.mp hf with z | z
        · exact ⟨d, z ▸ ed⟩
        · exact badF_none h f z
      · cases h
section
variable {A : List Nm} {W : List Cls} {w c p : Nat} {br : Int32} {nq nk np nh nr : Nat} {M M' : Mem} {Q : Int32 → Mem → Prop} {s : LkS}
/-- behind parent and faces -/
theorem c_askEnd (h : LKw A W w br nq nk np nh nr s M) (hA : nA A) (hK : KB w nq nk np nh nr) (hWF : WF W) (hI : LInv W s.1) (hc : c < W.length) (h21 : 21 ≤ c) (h0 : s.1 c = 0) (hr : ¬ ring W c) (hp : fnd W (gc W c).2.1 = some p) (hp1 : s.1 p = 1) {K : Nat → Int32 → (Int32 → Mem → Prop) → Mem → Prop}
    (hQ : ∀ M', LKw A W w br nq nk np nh nr (lkEnd br W c s).2 M' → ((lkEnd br W c s).1 = 1 → LaidC W w c M') → Lo w bL M M' → Q (lkEnd br W c s).1 M') : w_World_asks w (25 : Int32) (fun r19 M18 => if r19 = 0 then (wk_World_ask_j205 K w Q (Int32.ofNat c) M18) else (w_World_up w (Int32.ofNat c) (fun r27 M26 => w_World_changesFinal w (Int32.ofNat c) r27 (fun r29 M28 => if r29 = 0 then (wk_World_ask_j205 K w Q (Int32.ofNat c) M28) else (Q (2515 : Int32) M28)) M26) M18)) M := by
  have hcw := h.1
  have c0 : c ≠ 0 := by omega
  obtain ⟨u, hu, hul, hu1, hru⟩ : ∃ u, upW W c = some u ∧ u < W.length ∧ s.1 u = 1 ∧ (u = 0 ∨ rk W u < rk W c) := by
    unfold upW
    rw [if_neg c0]
    by_cases c1 : isFc W c = true
    · rw [if_pos c1]
      exact ⟨0, rfl, by omega, hI.1.2.2.2.2 0 (by omega), Or.inl rfl⟩
    · rw [if_neg c1]
      exact ⟨p, hp, fnd_lt hp, hp1, Or.inr (rk_lt hc (edge_par hp) hr)⟩
  have hpar : (gc W c).2.1 ≠ [] := fun z => by
    rw [z, fnd_nil (fun d hd => (hcw.1.1.2.2 d hd).1.2.2)] at hp; cases hp
  unfold lkEnd at hQ
  have go : (brk br 4 && chFin W c) = false → wk_World_ask_j205 K w Q (Int32.ofNat c) M := fun e => by
    rw [e] at hQ
    simp only [Bool.false_eq_true, if_false] at hQ
    unfold wk_World_ask_j205
    refine c_up hcw.1.1 hc ?_
    rw [hu]
    refine k_lay h hK hI hc hul hu hu1 h0 hru (fun M1 h1 la lo1 => ?_)
    refine c_check h1.1 hA hK hc (hWF c h21 hc) hpar ⟨h1.2.2.2.2.2.2.1, h1.2.2.2.2.2.2.2.1⟩ h1.2.2.2.2.2.2.2.2.1 h1.2.2.2.2.2.2.2.2.2 (fun hn M2 hf => ?_) (fun j r a M2 hs hf => ?_)
    · rw [hn] at hQ
      obtain ⟨h2, lo2⟩ := h1.fr hf
      refine hQ M2 h2 (fun _ => ?_) (lo1.trans lo2)
      obtain ⟨x, y, z⟩ := la
      exact ⟨(hf.Ia (f := 47) rfl rfl w c).trans x, (hf.Ia (f := 48) rfl rfl w c).trans y, fun f hf' hs => (hf.Ia (f := 53) rfl rfl w _).trans (z f hf' hs)⟩
    · rw [hs] at hQ
      obtain ⟨h2, lo2⟩ := h1.fr hf
      obtain ⟨h3, lo3⟩ := h2.w5 (a := Int32.ofNat c) (b := Int32.ofNat j) (d := Int32.ofNat a) hK
      refine hQ _ h3 (fun _ => ?_) ((lo1.trans lo2).trans lo3)
      obtain ⟨x, y, z⟩ := la
      refine ⟨?_, ?_, fun f hf' hs => ?_⟩
      · simp only [mI_sI, mI_sR, mI_sJ, mR_sI, mL_sI, mL_sR, mR_sR, Nat.reduceEqDiff, and_false, false_and, if_false, and_self, true_and, and_true, if_true]; exact (hf.Ia (f := 47) rfl rfl w c).trans x
      · simp only [mI_sI, mI_sR, mI_sJ, mR_sI, mL_sI, mL_sR, mR_sR, Nat.reduceEqDiff, and_false, false_and, if_false, and_self, true_and, and_true, if_true]; exact (hf.Ia (f := 48) rfl rfl w c).trans y
      · simp only [mI_sI, mI_sR, mI_sJ, mR_sI, mL_sI, mL_sR, mR_sR, Nat.reduceEqDiff, and_false, false_and, if_false, and_self, true_and, and_true, if_true]; exact (hf.Ia (f := 53) rfl rfl w _).trans (z f hf' hs)
  rw [lit32 25]
  refine c_asks (bit := 4) (by decide) ?_
  rw [hcw.1.2.2]
  cases eb : brk br 4 with
  | false => exact itp rfl (go (by rw [eb]; rfl))
  | true =>
    refine itn (by decide) (c_up hcw.1.1 hc ?_)
    rw [hu]
    refine c_changesFinal hcw hA hc hI hu (Or.inr hu1) hul ?_
    cases ec : chFin W c with
    | false => exact itp rfl (go (by rw [eb, ec]; rfl))
    | true =>
      refine itn (by decide) ?_
      rw [eb, ec] at hQ
      exact hQ M h (fun z => absurd z (show ¬ (2515 : Int32) = 1 by decide)) (Lo.rf _ _ _)
/-- asking whether a class can be linked -/
theorem c_askW {n : Nat} (h : LKw A W w br nq nk np nh nr s M) (hA : nA A) (hK : KB w nq nk np nh nr) (hWF : WF W) (hI : LInv W s.1) (hc : c < W.length) (h21 : 21 ≤ c) (h0 : s.1 c = 0) (hn : rk W c < n + 2)
    (hKc : ¬ ring W c → ∀ d, edge true W c d → ∀ t M Q, LInv W t.1 → LKw A W w br nq nk np nh nr t M → (∀ M', LKw A W w br nq nk np nh nr (lkN br W (n + 1) t d).2 M' → Lo w bL M M' → Q (lkN br W (n + 1) t d).1 M') → wr_World_link (n + 1) w (Int32.ofNat d) Q M)
    (hQ : ∀ M', LKw A W w br nq nk np nh nr (askF br W (lkN br W (n + 1)) s c).2 M' → ((askF br W (lkN br W (n + 1)) s c).1 = 1 → LaidC W w c M') → Lo w bL M M' → Q (askF br W (lkN br W (n + 1)) s c).1 M') : wk_World_ask (wr_World_link (n + 1)) w (Int32.ofNat c) Q M := by
  have hcl := h.1.1.1
  have h51 : W.length ≤ 51 := hcl.1.1.2.2.1
  have hl45 : ∀ {t M}, LKw A W w br nq nk np nh nr t M → mL M 45 w = 51 := fun h => h.1.2.2.2.1.2.2.2.2.2.2 45 (by omega) (by omega)
  unfold wk_World_ask
  refine mf_w_World_comesBack (Q := fun r M' => ∃ b : Bool, r = b2 b ∧ (b = true ↔ ring W c)) (fun r M1 hf ⟨b, er, hb⟩ => ?_) (c_comesBack hcl ⟨h.2.2.2.2.1, h.2.2.2.2.2.1⟩ hc (fun M' b hb => ⟨b, rfl, hb⟩))
  obtain ⟨h1, lo1⟩ := h.fr hf
  subst er
  unfold askF at hQ
  cases b with
  | true =>
    refine itn (by decide) ?_
    rw [if_pos (ringB_iff.mpr (hb.mp rfl))] at hQ
    exact hQ M1 h1 (fun z => absurd z (show ¬ (2416 : Int32) = 1 by decide)) lo1
  | false =>
  have hr : ¬ ring W c := fun z => absurd (hb.mpr z) (by decide)
  rw [if_neg (fun z => hr (ringB_iff.mp z))] at hQ
  refine itp rfl ?_
  have hcl1 := h1.1.1.1
  obtain ⟨⟨r37, rp, -⟩, ⟨r39, f4, r38⟩, -⟩ := hcl1.2.2 c hc
  rw [oN_tnc (k := c) (by omega), r37, hcl1.2.1.1]
  refine ⟨(vp_oN (by omega)).mpr (by omega), c_findP hcl1 rp ?_⟩
  cases hp : fnd W (gc W c).2.1 with
  | none =>
    rw [hp] at hQ
    exact itn (show ¬ (0 : Int32) ≤ -2 by decide) (hQ M1 h1 (fun z => absurd z (show ¬ (2011 : Int32) = 1 by decide)) lo1)
  | some p =>
  rw [hp] at hQ
  simp only at hQ
  have hpl := fnd_lt hp
  have ep := edge_par hp
  have r40 := (hcl1.2.2 p hpl).2.2
  refine itp (le_oN (a := 0) (Nat.zero_le _) (by omega)) ?_
  have go : (brk br 3 && decide (¬ (gc W p).2.2.2.1 &&& 5 = 0)) = false → wk_World_ask_j55 (wr_World_link (n + 1)) w Q (Int32.ofNat c) (Int32.ofNat p) M1 := fun e => by
    rw [e] at hQ
    simp only [Bool.false_eq_true, if_false] at hQ
    unfold wk_World_ask_j55
    -- faces, looked at
    have loop1 : ∀ m j, (gc W c).2.2.1.length - j < m → j ≤ (gc W c).2.2.1.length → badF W (gc W c).2.2.1 = badF W ((gc W c).2.2.1.drop j) → wk_World_ask_L57 (wr_World_link (n + 1)) w Q m (Int32.ofNat c) (Int32.ofNat p) (Int32.ofNat j) M1 := by
      intro m
      induction m with
      | zero => intro j hm; exact absurd hm (by omega)
      | succ m ih =>
        intro j hm hj he
        unfold wk_World_ask_L57
        rw [oN_tnc (k := c) (by omega), r39, hcl1.2.1.2.2.1]
        refine ⟨(vp_oN (by omega)).mpr (by omega), ?_⟩
        by_cases cj : (gc W c).2.2.1.length ≤ j
        · refine itp (le_oN (by omega) (by omega)) ?_
          rw [List.drop_eq_nil_of_le cj] at he
          replace he : badF W (gc W c).2.2.1 = none := he
          rw [he] at hQ
          simp only at hQ
          refine hKc hr p ep s M1 _ hI h1 (fun M2 h2 lo2 => ?_)
          by_cases c1 : (lkN br W (n + 1) s p).1 = 1
          · refine itp c1 ?_
            simp only [if_pos c1] at hQ
            have hI2 : LInv W (lkN br W (n + 1) s p).2.1 := lkN_inv (n + 1) s p hpl (by have := rk_lt hc ep hr; omega) hI
            have hp2 : (lkN br W (n + 1) s p).2.1 p = 1 := by rw [lkN_own, c1]
            have hc2 : (lkN br W (n + 1) s p).2.1 c = 0 := (lkN_far (n + 1) s p c (fun z => hr ⟨p, ep, z⟩)).trans h0
            have lo12 := lo1.trans lo2
            generalize (lkN br W (n + 1) s p).2 = t at hQ h2 hI2 hp2 hc2
            have hbn := he
            clear c1 lo2 he ih
            -- faces, linked
            have loop2 : ∀ m j t M2, (gc W c).2.2.1.length - j < m → j ≤ (gc W c).2.2.1.length → LKw A W w br nq nk np nh nr t M2 → LInv W t.1 → t.1 p = 1 → t.1 c = 0 → Lo w bL M M2 → (∀ M', LKw A W w br nq nk np nh nr (match lkFs (lkN br W (n + 1)) W ((gc W c).2.2.1.drop j) t with | (some r, s2) => (r, s2) | (none, s2) => lkEnd br W c s2).2 M' → ((match lkFs (lkN br W (n + 1)) W ((gc W c).2.2.1.drop j) t with | (some r, s2) => (r, s2) | (none, s2) => lkEnd br W c s2).1 = 1 → LaidC W w c M') → Lo w bL M M' → Q (match lkFs (lkN br W (n + 1)) W ((gc W c).2.2.1.drop j) t with | (some r, s2) => (r, s2) | (none, s2) => lkEnd br W c s2).1 M') → wk_World_ask_L129 (wr_World_link (n + 1)) w Q m (Int32.ofNat c) (Int32.ofNat j) M2 := by
              intro m
              induction m with
              | zero => intro j t M2 hm; exact absurd hm (by omega)
              | succ m ih =>
                intro j t M2 hm hj h2 hI2 hp2 hc2 lo12 hQ
                have hcl2 := h2.1.1.1
                obtain ⟨-, ⟨r39, f4, r38⟩, -⟩ := hcl2.2.2 c hc
                unfold wk_World_ask_L129
                rw [oN_tnc (k := c) (by omega), r39, hcl2.2.1.2.2.1]
                refine ⟨(vp_oN (by omega)).mpr (by omega), ?_⟩
                by_cases cj : (gc W c).2.2.1.length ≤ j
                · refine itp (le_oN (by omega) (by omega)) ?_
                  rw [List.drop_eq_nil_of_le cj] at hQ
                  exact c_askEnd h2 hA hK hWF hI2 hc h21 hc2 hr hp hp2 (fun M' a b d => hQ M' a b (lo12.trans d))
                have hjl : j < (gc W c).2.2.1.length := by omega
                obtain ⟨e38, m38⟩ := r38 j hjl
                refine itn (nle_oN (by omega) (by omega)) ?_
                rw [show (4 : Int32) * Int32.ofNat c = Int32.ofNat (4 * c) from oN_mul 4 c, oN_add, oN_tnc (k := 4 * c + j) (by omega), e38, hcl2.2.1.2.1]
                refine ⟨(vp_oN (by omega)).mpr (by omega), c_find hcl2.1 m38 ?_⟩
                rw [lkFs_drop hjl] at hQ
                have hQ := hQ
                cases ef : fnd W (gf (gc W c) j) with
                | none =>
                  have hb := (badF_none (W := W) (L := (gc W c).2.2.1) hbn (gf (gc W c) j) (by
                    show (gc W c).2.2.1.getD j [] ∈ _
                    rw [List.getD_eq_getElem?_getD, List.getElem?_eq_getElem hjl]; exact List.getElem_mem hjl))
                  rw [ef] at hb
                  exact hb.elim fun d q => by cases q
                | some d =>
                  have ed : edge true W c d := edge_face (by
                    show (gc W c).2.2.1.getD j [] ∈ _
                    rw [List.getD_eq_getElem?_getD, List.getElem?_eq_getElem hjl]; exact List.getElem_mem hjl) ef
                  have hdl := edge_lt hc ed
                  have ef' : fnd W ((gc W c).2.2.1.getD j []) = some d := ef
                  rw [ef'] at hQ
                  simp only at hQ
                  refine hKc hr d ed t M2 _ hI2 h2 (fun M3 h3 lo3 => ?_)
                  by_cases c1 : (lkN br W (n + 1) t d).1 = 1
                  · refine itp c1 ?_
                    simp only [if_pos c1] at hQ
                    rw [show Int32.ofNat j + (1 : Int32) = Int32.ofNat (j + 1) from oN_add j 1]
                    refine ih (j + 1) _ M3 (by omega) (by omega) h3 (lkN_inv (n + 1) t d hdl (by have := rk_lt hc ed hr; omega) hI2) ?_ ?_ (lo12.trans lo3) hQ
                    · rw [lkN_kp (n + 1) t d p (by rw [hp2]; decide)]; exact hp2
                    · rw [lkN_far (n + 1) t d c (fun z => hr ⟨d, ed, z⟩)]; exact hc2
                  · refine itn c1 ?_
                    simp only [if_neg c1] at hQ
                    show vp_in (Int32.ofNat d) (mL M3 45 w) ∧ Q (mI M3 45 w (Int32.ofNat d).toNatClampNeg) M3
                    rw [oN_tnc (k := d) (by omega), h3.2.1 d hdl, lkN_own, hl45 h3]
                    exact ⟨(vp_oN (by omega)).mpr (by omega), hQ M3 h3 (fun z => absurd z c1) (lo12.trans lo3)⟩
            exact ⟨(gc W c).2.2.1.length + 1, loop2 _ 0 t M2 (by omega) (by omega) h2 hI2 hp2 hc2 lo12 (by rw [List.drop_zero]; exact hQ)⟩
          · refine itn c1 ?_
            simp only [if_neg c1] at hQ
            show vp_in (Int32.ofNat p) (mL M2 45 w) ∧ Q (mI M2 45 w (Int32.ofNat p).toNatClampNeg) M2
            rw [oN_tnc (k := p) (by omega), h2.2.1 p hpl, lkN_own, hl45 h2]
            exact ⟨(vp_oN (by omega)).mpr (by omega), hQ M2 h2 (fun z => absurd z c1) (lo1.trans lo2)⟩
        have hjl : j < (gc W c).2.2.1.length := by omega
        obtain ⟨e38, m38⟩ := r38 j hjl
        refine itn (nle_oN (by omega) (by omega)) ?_
        rw [show (4 : Int32) * Int32.ofNat c = Int32.ofNat (4 * c) from oN_mul 4 c, oN_add, oN_tnc (k := 4 * c + j) (by omega), e38, hcl1.2.1.2.1]
        refine ⟨(vp_oN (by omega)).mpr (by omega), c_find hcl1.1 m38 ?_⟩
        rw [badF_drop hjl] at he
        cases ef : fnd W (gf (gc W c) j) with
        | none =>
          have ef' : fnd W ((gc W c).2.2.1.getD j []) = none := ef
          rw [ef'] at he
          rw [he] at hQ
          exact itn (show ¬ (0 : Int32) ≤ -2 by decide) (hQ M1 h1 (fun z => absurd z (show ¬ (2211 : Int32) = 1 by decide)) lo1)
        | some d =>
          have ef' : fnd W ((gc W c).2.2.1.getD j []) = some d := ef
          rw [ef'] at he
          have hdl := fnd_lt ef
          refine itp (le_oN (a := 0) (Nat.zero_le _) (by omega)) (c_isFace hcl1 hdl ?_)
          simp only at he
          cases eF : isFc W d with
          | false =>
            rw [eF] at he
            rw [he] at hQ
            exact itp rfl (hQ M1 h1 (fun z => absurd z (show ¬ (2315 : Int32) = 1 by decide)) lo1)
          | true =>
            rw [eF] at he
            refine itn (by decide) ?_
            rw [show Int32.ofNat j + (1 : Int32) = Int32.ofNat (j + 1) from oN_add j 1]
            exact ih (j + 1) (by omega) (by omega) he
    exact ⟨(gc W c).2.2.1.length + 1, loop1 _ 0 (by omega) (by omega) (by rw [List.drop_zero])⟩
  rw [lit32 21]
  refine c_asks (bit := 3) (by decide) ?_
  rw [h1.1.1.2.2]
  cases eb : brk br 3 with
  | false => exact itp rfl (go (by rw [eb]; rfl))
  | true =>
    refine itn (by decide) ?_
    show vp_in (Int32.ofNat p) (mL M1 40 w) ∧ (if mI M1 40 w (Int32.ofNat p).toNatClampNeg &&& (5 : Int32) = 0 then _ else _)
    rw [oN_tnc (k := p) (by omega), r40, hcl1.2.1.2.2.2]
    refine ⟨(vp_oN (by omega)).mpr (by omega), ?_⟩
    by_cases c5 : (gc W p).2.2.2.1 &&& 5 = 0
    · exact itp c5 (go (by rw [eb, decide_eq_false (fun z => z c5)]; rfl))
    · refine itn c5 ?_
      rw [eb, decide_eq_true c5] at hQ
      exact hQ M1 h1 (fun z => absurd z (show ¬ (2115 : Int32) = 1 by decide)) lo1
/-- linking a class -/
theorem c_linkN (hA : nA A) (hK : KB w nq nk np nh nr) (hWF : WF W) : ∀ n c s M Q, LKw A W w br nq nk np nh nr s M → LInv W s.1 → c < W.length → rk W c < n → (∀ M', LKw A W w br nq nk np nh nr (lkN br W n s c).2 M' → Lo w bL M M' → Q (lkN br W n s c).1 M') → wr_World_link n w (Int32.ofNat c) Q M := by
  intro n
  induction n with
  | zero => intro c s M Q _ _ _ hn; exact absurd hn (by omega)
  | succ n ih =>
    intro c s M Q h hI hc hn hQ
    have h51 : W.length ≤ 51 := h.1.1.1.1.1.2.2.1
    have l45 : ∀ {t M}, LKw A W w br nq nk np nh nr t M → mL M 45 w = 51 := fun h => h.1.2.2.2.1.2.2.2.2.2.2 45 (by omega) (by omega)
    have hp := rk_pos hc
    obtain ⟨m, em⟩ : ∃ m, n = m + 1 := ⟨n - 1, by omega⟩
    subst em
    show wk_World_link (wr_World_link (m + 1)) w (Int32.ofNat c) Q M
    unfold wk_World_link
    unfold lkN at hQ
    rw [oN_tnc (k := c) (by omega), h.2.1 c hc, l45 h]
    refine ⟨(vp_oN (by omega)).mpr (by omega), ?_⟩
    by_cases h0 : s.1 c = 0
    · rw [if_pos h0] at hQ
      have h21 : 21 ≤ c := by
        by_cases x : 21 ≤ c
        · exact x
        · have := hI.1.2.2.2.2 c (by omega)
          rw [h0] at this; exact absurd this (by decide)
      refine itp h0 (c_askW (n := m) h hA hK hWF hI hc h21 h0 hn (fun hr d hd t M1 Q1 hI1 h1 hQ1 => ih d t M1 Q1 h1 hI1 (edge_lt hc hd) (by have := rk_lt hc hd hr; omega) hQ1) (fun M1 h1 hl lo1 => ?_))
      have hs := askF_self (br := br) (c := c) (W := W) (lkN_far (br := br) (m + 1)) s
      rw [h0] at hs
      obtain ⟨h2, lo2⟩ := h1.w45 (r := (askF br W (lkN br W (m + 1)) s c).1) hK hc hs hl
      rw [l45 h1]
      refine ⟨(vp_oN (by omega)).mpr (by omega), by show vp_in _ (mL M1 45 w); rw [l45 h1]; exact (vp_oN (by omega)).mpr (by omega), ?_⟩
      rw [mI_sI, if_pos ⟨rfl, rfl, rfl⟩]
      exact hQ _ h2 (lo1.trans lo2)
    · rw [if_neg h0] at hQ
      exact itn h0 ⟨(vp_oN (by omega)).mpr (by omega), hQ M h (Lo.rf _ _ _)⟩
theorem c_link (hA : nA A) (hK : KB w nq nk np nh nr) (hWF : WF W) (h : LKw A W w br nq nk np nh nr s M) (hI : LInv W s.1) (hc : c < W.length) (hQ : ∀ M', LKw A W w br nq nk np nh nr (lkN br W 60 s c).2 M' → LInv W (lkN br W 60 s c).2.1 → Lo w bL M M' → Fr F_World_link M M' → Q (lkN br W 60 s c).1 M') : w_World_link w (Int32.ofNat c) Q M := by
  have h51 : W.length ≤ 51 := h.1.1.1.1.1.2.2.1
  have hr := rk_le (W := W) (c := c)
  refine ⟨60, by omega, mf_wr_World_link 60 (Q := fun r M' => r = (lkN br W 60 s c).1 ∧ LKw A W w br nq nk np nh nr (lkN br W 60 s c).2 M' ∧ Lo w bL M M') (fun r M' hf ⟨e, a, b⟩ => ?_) (c_linkN hA hK hWF 60 c s M _ h hI hc (by omega) (fun M' a b => ⟨rfl, a, b⟩))⟩
  rw [e]
  exact hQ M' a (lkN_inv 60 s c hc (by omega) hI) b hf
end
