/-! B: the twin's checker: an instruction's own rules -/
section
variable {G : List Sl} {US : UST} {A : List Nm} {S : List Sg} {W : List Cls} {w c k : Nat} {br : Int32} {nq nl nf nk : Nat} {M M' : Mem} {Q : Int32 → Mem → Prop} {lo st : List Kd} {q n : Nat} {i : Ins}
theorem TE.up (h : TE G US A S W w c k br nq nl nf nk M) : upN W c ≠ [] := by
  unfold upN
  split
  · decide
  · exact h.2.2.2.2.2.2
theorem ct_isNear {nm : Nm} (h : TE G US A S W w c k br nq nl nf nk M) (hn : nm ∈ A) (hQ : Q (b2 (near W c nm)) M) : w_Model_isNear 0 (nc A nm) Q M := by
  have hl := h.lc
  have hA := h.la
  have hc := h.cl.1.2 c hl.1
  have hf := (h.cl.2.2 c hl.1).2.1
  have inj : ∀ {x y : Nm}, x ∈ A → y ∈ A → (nc A x = nc A y ↔ x = y) := fun hx hy => nc_inj (by omega) hx hy
  have loop : ∀ m j (b : Bool), (gc W c).2.2.1.length - j < m → j ≤ (gc W c).2.2.1.length → (b || ((gc W c).2.2.1.drop j).any (fun f => decide (f = nm))) = near W c nm → w_Model_isNear_L36 0 Q m (nc A nm) (b2 b) (Int32.ofNat j) M := by
    intro m
    induction m with
    | zero => intro j b hn; exact absurd hn (by omega)
    | succ m ih =>
      intro j b hn' hj he
      unfold w_Model_isNear_L36 w_Model_isNear_j81
      refine ⟨w, h.r45, ?_⟩
      rw [h.c76, oN_tnc (k := c) (by omega), hf.1, h.cl.2.1.2.2.1]
      refine ⟨(vp_oN (by omega)).mpr (by omega), ?_⟩
      by_cases cj : (gc W c).2.2.1.length ≤ j
      · refine itp (le_oN cj (by omega)) ⟨by cases b <;> simp [b2], ?_⟩
        rw [List.drop_eq_nil_of_le cj] at he
        rw [← he] at hQ
        simpa using hQ
      refine itn (nle_oN (by omega) (by omega)) ?_
      cases b with
      | true =>
        refine itn (by decide) ⟨Or.inr rfl, ?_⟩
        rw [← he] at hQ
        simpa using hQ
      | false =>
        obtain ⟨f1, f2⟩ := hf.2.2 j (by omega)
        refine itp rfl ⟨w, h.r45, ?_⟩
        rw [show (4 : Int32) * Int32.ofNat c = Int32.ofNat (4 * c) from oN_mul 4 c, oN_add, oN_tnc (k := 4 * c + j) (by omega), f1, h.cl.2.1.2.1]
        refine ⟨(vp_oN (by omega)).mpr (by omega), ?_⟩
        have ed : (gc W c).2.2.1.drop j = gf (gc W c) j :: (gc W c).2.2.1.drop (j + 1) := by
          rw [List.drop_eq_getElem_cons (by omega)]
          congr 1
          show _ = (gc W c).2.2.1.getD j _
          rw [List.getD_eq_getElem?_getD, List.getElem?_eq_getElem (by omega)]; rfl
        rw [ed, List.any_cons, ← Bool.or_assoc] at he
        rw [show Int32.ofNat j + (1 : Int32) = Int32.ofNat (j + 1) from oN_add j 1]
        by_cases c1 : gf (gc W c) j = nm
        · rw [decide_eq_true c1] at he
          exact itp (by rw [c1]) (ih _ true (by omega) (by omega) he)
        · rw [decide_eq_false c1] at he
          exact itn (fun z => c1 ((inj f2 hn).mp z)) (ih _ false (by omega) (by omega) he)
  have anyf : ((gc W c).2.2.1.any (fun f => decide (f = nm))) = decide (nm ∈ (gc W c).2.2.1) := by
    by_cases z : nm ∈ (gc W c).2.2.1
    · rw [decide_eq_true z]; exact List.any_eq_true.mpr ⟨nm, z, decide_eq_true rfl⟩
    · rw [decide_eq_false z]
      cases y : (gc W c).2.2.1.any (fun f => decide (f = nm)) with
      | false => rfl
      | true =>
        obtain ⟨f, hf', e⟩ := List.any_eq_true.mp y
        exact absurd (of_decide_eq_true e ▸ hf') z
  have start : ∀ b : Bool, b = decide (nm = (gc W c).1 ∨ nm = upN W c) → w_Model_isNear_j33 0 Q (nc A nm) (b2 b) M := fun b hb => by
    unfold w_Model_isNear_j33
    refine ⟨(gc W c).2.2.1.length + 1, loop _ 0 b (by omega) (by omega) ?_⟩
    rw [List.drop_zero, anyf, hb]
    unfold near
    by_cases q1 : nm = (gc W c).1 ∨ nm = upN W c
    · rw [decide_eq_true q1, decide_eq_true (Or.inl q1)]; rfl
    · rw [decide_eq_false q1]
      by_cases q2 : nm ∈ (gc W c).2.2.1
      · rw [decide_eq_true q2, decide_eq_true (Or.inr q2)]; rfl
      · rw [decide_eq_false q2, decide_eq_false (fun z => z.elim q1 q2)]; rfl
  unfold w_Model_isNear w_Model_isNear_j28
  refine ⟨w, h.r45, ?_⟩
  rw [h.c76, oN_tnc (k := c) (by omega), h.cl.1.1.2.1, hc.1]
  refine ⟨(vp_oN (by omega)).mpr (by omega), ?_⟩
  by_cases c1 : nm = (gc W c).1
  · exact itp (by rw [c1]) (start true (by rw [decide_eq_true (Or.inl c1)]))
  · refine itn (fun z => c1 ((inj hn hc.2).mp z)) (ct_parentName h.r45 h.cl h.1.2.2.1 hl.1 (fun v _ hv => ?_))
    obtain ⟨ev, hm⟩ := hv h.up
    rw [ev]
    by_cases c2 : nm = upN W c
    · exact itp (by rw [c2]) (start true (by rw [decide_eq_true (Or.inr c2)]))
    · exact itn (fun z => c2 ((inj hn hm).mp z)) (start false (by rw [decide_eq_false (fun z => z.elim c1 c2)]))
theorem ct_checkOwn {kn : Bool} (h : TE G US A S W w c k br nq nl nf nk M) (hS : TS A (gmt (gc W c) k) lo st kn M) (hI : TI1 A S w nl nf nk nq q n i M) (hWl : TWl A (wlist W c (gmt (gc W c) k) i) M) (hle : (wlist W c (gmt (gc W c) k) i).length ≤ st.length) (hQ : Q (Int32.ofNat (ownS W c (gmt (gc W c) k) i lo st)) M) : w_Model_checkOwn 0 (Int32.ofNat i.1) (Int32.ofNat q) Q M := by
  have hla := h.la
  have hm := h.mlt
  have hlr := h.lr
  have hsr := h.sr
  have hq := hI.2.1
  have o62 := hI.2.2.1
  have hK := h.1.2.2.1
  obtain ⟨⟨m111, m212, m112⟩, ⟨l1, l2⟩, ⟨s1, s2, s3⟩, s4⟩ := hS
  obtain ⟨e145, hsg⟩ := h.hd.2.1
  have hsg : sg A (gmt (gc W c) k).2.1 (gmt (gc W c) k).2.2.1 ∈ S := hsg
  obtain ⟨⟨g0, gF, gC, gR⟩, eC, eR, -⟩ := te_sig h hsg
  obtain ⟨hko, hkd⟩ := h.hd.2.2.1.2.1
  have hκ : kwf A (co (gmt (gc W c) k)) (gmt (gc W c) k).2.2.1 := kwf_kd hkd hko
  have hk4 : (gmt (gc W c) k).2.2.1.1 = 0 ∨ (gmt (gc W c) k).2.2.1.1 = 1 ∨ (gmt (gc W c) k).2.2.1.1 = 2 ∨ (gmt (gc W c) k).2.2.1.1 = -4 := by
    rcases hkd with z | z | z | z
    · rw [z]; exact Or.inl rfl
    · rw [z]; exact Or.inr (Or.inl rfl)
    · rw [z]; exact Or.inr (Or.inr (Or.inr rfl))
    · exact Or.inr (Or.inr (Or.inl z))
  have kc := kt_cases hκ hla
  unfold w_Model_checkOwn
  refine ⟨rdI M sRe, h.sl5 (s := sRe) (X5_in h.2.1.2.1 (by simp)), w, h.r45, ?_⟩
  rw [h.m75, oN_tnc (k := 12 * c + k) (by omega), h.ml (by omega) (by omega), e145, oN_tnc (k := S.idxOf _) (by omega), show mI M 300 (rdI M sRe) (S.idxOf (sg A (gmt (gc W c) k).2.1 (gmt (gc W c) k).2.2.1)) = kt A (gmt (gc W c) k).2.2.1 from eR]
  refine ⟨(vp_oN (by omega)).mpr hm, (by show vp_in _ (rl M sRe); exact (vp_oN (by omega)).mpr gR), _, rfl, ?_⟩
  unfold ownS at hQ
  -- calls that are not special
  have call : isMo i.1 → ¬ i.1 = 51 → ∃ i77, (mR M 11 0 45) = some (12, i77) ∧ ∃ i78, (mR M 12 i77 32) = some (300, i78) ∧ vp_in (Int32.ofNat q) (mL M 300 i78) ∧ if (mI M 300 i78 (Int32.ofNat q).toNatClampNeg) = (mI M 11 0 6) then (Q (42 : Int32) M) else (Q (0 : Int32) M) := fun hmo n51 => by
    obtain ⟨-, ⟨p1, p2, p3, p4⟩, -⟩ := rdA h hI (Or.inr hmo)
    rw [if_neg (by omega), if_neg (by omega), if_neg (by omega), if_pos (by omega)] at hQ
    refine ⟨w, h.r45, _, p1, (vp_oN (by omega)).mpr p2, ?_⟩
    rw [oN_tnc (k := q) (by omega), p3, hK.make.1]
    by_cases cm : iM i = nMake
    · rw [if_pos cm] at hQ
      exact itp (by rw [cm]) hQ
    · rw [if_neg cm] at hQ
      exact itn (fun z => cm ((nc_inj (by omega) p4 hK.make.2).mp z)) hQ
  by_cases c50 : i.1 = 50
  · exact itp (by rw [c50]; rfl) (call (by omega) (by omega))
  refine itn (ne_oN (b := 50) c50 (by omega) (by omega)) ?_
  by_cases c51 : i.1 = 51
  · rw [if_neg (by omega), if_neg (by omega), if_neg (by omega), if_neg (by omega), if_pos c51] at hQ
    refine itp (by rw [c51]; rfl) ?_
    obtain ⟨⟨a1, a2, a3, a4⟩, ⟨p1, p2, p3, p4⟩, -⟩ := rdA h hI (by omega)
    refine ⟨w, h.r45, _, p1, (vp_oN (by omega)).mpr p2, ?_⟩
    rw [oN_tnc (k := q) (by omega), p3, hK.make.1]
    by_cases cm : iM i = nMake
    · rw [if_pos cm] at hQ
      refine itp (by rw [cm]) ?_
      have lw : (wlist W c (gmt (gc W c) k) i).length = (iA i).length + 1 := by
        rw [wlist_call (by omega), List.length_append, List.length_map, List.length_reverse]
        congr 1
        unfold callT
        rw [if_neg (by omega), if_pos c51]; rfl
      have hlt : (iA i).length < st.length := by omega
      rw [s2, hWl.2.1, lw, oN_sub (by omega), oN_tnc (k := st.length - ((iA i).length + 1)) (by omega), m212]
      obtain ⟨x1, x2⟩ := s1 (st.length - ((iA i).length + 1)) (by omega)
      rw [x1]
      have et : gk st (st.length - ((iA i).length + 1)) = tp st (iA i).length := by show gk st _ = gk st _; congr 1; omega
      rw [et] at x2 ⊢
      refine ⟨(vp_oN (by omega)).mpr (by omega), _, rfl, ?_⟩
      have hg := x2.rg
      generalize hκ0 : tp st (iA i).length = κ0 at x2 hQ hg
      unfold mkRight at hQ
      -- the end
      have j409 : ∀ s1' s0 : Bool, (s1' || s0) = (if κ0.1 = -3 then decide (iK i = (gc W c).1 ∨ iK i = upN W c) else if κ0.1 ≤ -10 then decide (iK (gin (co (gmt (gc W c) k)) (-10 - κ0.1).toNat) = iK i) else false) → w_Model_checkOwn_j409 0 Q (b2 s0) (b2 s1') M := fun s1' s0 e => by
        unfold w_Model_checkOwn_j409
        rw [b2_or, e]
        rw [← e] at hQ ⊢
        cases z : (s1' || s0) with
        | true => rw [z, if_pos rfl] at hQ; exact itn (by decide) hQ
        | false => rw [z, if_neg (by decide)] at hQ; exact itp rfl hQ
      have j350 : ∀ s0 : Bool, (κ0.1 ≠ -3 → s0 = (if κ0.1 ≤ -10 then decide (iK (gin (co (gmt (gc W c) k)) (-10 - κ0.1).toNat) = iK i) else false)) → (κ0.1 = -3 → s0 = false) → w_Model_checkOwn_j350 0 Q (Int32.ofNat q) (kt A κ0) (b2 s0) M := fun s0 e1 e2 => by
        unfold w_Model_checkOwn_j350 w_Model_checkOwn_j404 w_Model_checkOwn_j408
        by_cases c3 : κ0.1 = -3
        · have es := e2 c3
          subst es
          refine itp ((kt_e (n := 5) x2 hla (by omega)).mpr c3) ⟨w, h.r45, _, a1, (vp_oN (by omega)).mpr a2, w, h.r45, ?_⟩
          have hl := h.lc
          have hc := h.cl.1.2 c hl.1
          rw [h.c76, oN_tnc (k := c) (by omega), oN_tnc (k := q) (by omega), a3, hc.1, h.cl.1.1.2.1]
          refine ⟨(vp_oN (by omega)).mpr (by omega), ?_⟩
          by_cases c4 : iK i = (gc W c).1
          · exact itp (by rw [c4]) (j409 false true (by rw [if_pos c3, decide_eq_true (Or.inl c4)]; rfl))
          · refine itn (fun z => c4 ((nc_inj (by omega) a4 hc.2).mp z)) ⟨w, h.r45, _, a1, (vp_oN (by omega)).mpr a2, ct_parentName h.r45 h.cl hK hl.1 (fun v _ hv => ?_)⟩
            obtain ⟨ev, hmm⟩ := hv h.up
            rw [ev, a3]
            by_cases c5 : iK i = upN W c
            · exact itp (by rw [c5]) (j409 false true (by rw [if_pos c3, decide_eq_true (Or.inr c5)]; rfl))
            · exact itn (fun z => c5 ((nc_inj (by omega) a4 hmm).mp z)) (j409 false false (by rw [if_pos c3, decide_eq_false (fun z => z.elim c4 c5)]; rfl))
        · have es := e1 c3
          refine itn (fun z => c3 ((kt_e (n := 5) (m := -3) x2 hla (by omega)).mp z)) (j409 s0 false ?_)
          rw [if_neg c3, ← es]; simp
      by_cases c10 : κ0.1 ≤ -10
      · refine itn (fun z => (kt_l0 x2 hla).mp z c10) ?_
        rcases x2 with ⟨e, -⟩ | ⟨e2, x2'⟩
        · omega
        rcases x2' with z | ⟨j, ej, hj, hj80, h41⟩
        · omega
        obtain ⟨q0, b1, b2', ⟨b3, b4⟩, hI', -, -⟩ := h.mc
        have hb := h.1.1.2.2.2
        obtain ⟨hij, hlt2, -⟩ := h.ins b1 (by omega) hj
        have ej2 : (-10 - κ0.1).toNat = j := by rw [ej]; omega
        have hne : κ0.1 ≠ 2 ∧ κ0.1 ≠ 0 ∧ κ0.1 ≠ 1 ∧ κ0.1 ≠ -1 ∧ κ0.1 ≠ -2 ∧ κ0.1 ≠ -3 ∧ κ0.1 ≠ -4 := by omega
        have ek : Int32.ofNat q0 - (1 : Int32) - kt A κ0 = Int32.ofNat (q0 + j) := by
          unfold kt
          rw [if_neg hne.1, if_neg hne.2.1, if_neg hne.2.2.1, if_neg hne.2.2.2.1, if_neg hne.2.2.2.2.1, if_neg hne.2.2.2.2.2.1, if_neg hne.2.2.2.2.2.2, show κ0.1 + 9 = -1 - (j : Int) by omega]
          have e1 : Int32.ofInt (-1 - (j : Int)) = (-1 : Int32) - Int32.ofNat j := by rw [Int32.ofInt_sub]; rfl
          rw [e1, ← oN_add, show (-1 : Int32) = -(1 : Int32) from rfl]
          generalize Int32.ofNat q0 = x
          generalize Int32.ofNat j = y
          generalize (1 : Int32) = z
          have e : -z + z = 0 := by rw [Int32.add_comm, ← Int32.sub_eq_add_neg, Int32.sub_self]
          rw [Int32.sub_eq_add_neg, Int32.sub_eq_add_neg, Int32.sub_eq_add_neg, Int32.neg_add, Int32.sub_eq_add_neg, Int32.neg_neg, Int32.neg_neg, Int32.add_assoc, ← Int32.add_assoc (-z), e, Int32.zero_add]
        refine ⟨w, h.r45, _, a1, w, h.r45, ?_⟩
        rw [b1, ek, oN_tnc (k := q0 + j) (by omega)]
        have rA : nq ≤ mL M 300 (rdI M (sAs w)) := h.rl.1 (sAs w) (by simp)
        obtain ⟨-, ⟨u1, -, -, u4, -⟩, -⟩ := hij
        have u1' : mI M 300 (rdI M (sAs w)) (q0 + j) = nc A (iK (gin (co (gmt (gc W c) k)) j)) := by
          have := u1
          rw [if_neg (by omega), if_pos (Or.inl (by omega))] at this; exact this
        have u4' := u4 (Or.inl (by omega))
        rw [h.ml (by omega) (by omega), u1']
        refine ⟨(vp_oN (by omega)).mpr hm, (vp_oN (by omega)).mpr (by omega), w, h.r45, _, a1, (vp_oN (by omega)).mpr a2, ?_⟩
        rw [a3]
        unfold w_Model_checkOwn_j349
        by_cases c5 : iK (gin (co (gmt (gc W c) k)) j) = iK i
        · exact itp (by rw [c5]) (j350 true (fun _ => by rw [if_pos c10, ej2, decide_eq_true c5]) (fun z => by omega))
        · exact itn (fun z => c5 ((nc_inj (by omega) u4' a4).mp z)) (j350 false (fun _ => by rw [if_pos c10, ej2, decide_eq_false c5]) (fun _ => rfl))
      · unfold w_Model_checkOwn_j349
        exact itp ((kt_l0 x2 hla).mpr c10) (j350 false (fun _ => by rw [if_neg c10]) (fun _ => rfl))
    · rw [if_neg cm] at hQ
      refine itn (fun z => cm ((nc_inj (by omega) p4 hK.make.2).mp z)) ⟨w, h.r45, _, a1, (vp_oN (by omega)).mpr a2, ?_⟩
      rw [a3]
      refine ct_isNear h a4 ?_
      cases e : near W c (iK i) with
      | true => rw [e, if_pos rfl] at hQ; exact itn (by decide) hQ
      | false => rw [e, if_neg (by decide)] at hQ; exact itp rfl hQ
  refine itn (ne_oN (b := 51) c51 (by omega) (by omega)) ?_
  by_cases c52 : i.1 = 52
  · exact itp (by rw [c52]; rfl) (call (by omega) (by omega))
  refine itn (ne_oN (b := 52) c52 (by omega) (by omega)) ?_
  by_cases c53 : i.1 = 53
  · exact itp (by rw [c53]; rfl) (call (by omega) (by omega))
  refine itn (ne_oN (b := 53) c53 (by omega) (by omega)) ?_
  have i1 : (1 : Int32).toInt = 1 := rfl
  by_cases c57 : i.1 = 57
  · rw [if_pos c57] at hQ
    refine itn (ne_oN (b := 54) (by omega) (by omega) (by omega)) (itn (ne_oN (b := 55) (by omega) (by omega) (by omega)) (itn (ne_oN (b := 56) (by omega) (by omega) (by omega)) (itp (by rw [c57]; rfl) ⟨lo.length + 1, ?_⟩)))
    have j190 : ¬ ((gmt (gc W c) k).1 = nMake ∧ (unM lo || unM st) = true) → w_Model_checkOwn_j190 0 Q (kt A (gmt (gc W c) k).2.2.1) M := fun hn => by
      rw [if_neg hn] at hQ
      unfold w_Model_checkOwn_j190
      by_cases c1 : (gmt (gc W c) k).2.2.1.1 = -4
      · rw [if_pos c1] at hQ
        exact itp ((kt_e (n := 0) hκ hla (by omega)).mpr c1) hQ
      · rw [if_neg c1] at hQ
        exact itn (fun z => c1 ((kt_e (n := 0) (m := -4) hκ hla (by omega)).mp z)) hQ
    have loop2 : ∀ m j (b : Bool), st.length - j < m → j ≤ st.length → (b || unM (st.drop j)) = (unM lo || unM st) → w_Model_checkOwn_L125 0 Q m (kt A (gmt (gc W c) k).2.2.1) (b2 b) (Int32.ofNat j) M := by
      intro m
      induction m with
      | zero => intro j b hn; exact absurd hn (by omega)
      | succ m ih =>
        intro j b hn hj he
        unfold w_Model_checkOwn_L125 w_Model_checkOwn_j152
        rw [s2]
        by_cases cj : st.length ≤ j
        · refine itp (le_oN cj (by omega)) ?_
          rw [List.drop_eq_nil_of_le cj] at he
          have eb : b = (unM lo || unM st) := by rw [← he]; simp [unM]
          cases b with
          | false => exact itp rfl (j190 (fun z => by rw [← eb] at z; exact absurd z.2 (by decide)))
          | true =>
            refine itn (by decide) ⟨w, h.r45, ?_⟩
            rw [h.m75, oN_tnc (k := 12 * c + k) (by omega), h.ml (by omega) (by omega), h.hd.1.1, hK.make.1]
            refine ⟨(vp_oN (by omega)).mpr hm, ?_⟩
            by_cases cm : (gmt (gc W c) k).1 = nMake
            · rw [if_pos ⟨cm, eb.symm⟩] at hQ
              exact itp (by rw [cm]) hQ
            · exact itn (fun z => cm ((nc_inj (by omega) h.hd.1.2 hK.make.2).mp z)) (j190 (fun z => cm z.1))
        obtain ⟨x1, x2⟩ := s1 j (by omega)
        rw [oN_tnc (k := j) (by omega), x1, m212]
        refine itn (nle_oN (by omega) (by omega)) ⟨(vp_oN (by omega)).mpr (by omega), ?_⟩
        rw [unM_drop (by omega), ← Bool.or_assoc] at he
        rw [show Int32.ofNat j + (1 : Int32) = Int32.ofNat (j + 1) from oN_add j 1]
        by_cases c1 : (gk st j).1 = -3
        · rw [decide_eq_true c1] at he
          refine itp ((kt_e (n := 5) x2 hla (by omega)).mpr c1) ?_
          rw [show b2 b ||| (1 : Int32) = b2 (b || true) from b2_or b true]
          exact ih _ _ (by omega) (by omega) he
        · rw [decide_eq_false c1] at he
          refine itn (fun z => c1 ((kt_e (n := 5) (m := -3) x2 hla (by omega)).mp z)) ?_
          rw [show b2 b ||| (0 : Int32) = b2 (b || false) from b2_or b false]
          exact ih _ _ (by omega) (by omega) he
    have loop1 : ∀ m j (b : Bool), lo.length - j < m → j ≤ lo.length → (b || unM (lo.drop j)) = unM lo → w_Model_checkOwn_L78 0 Q m (kt A (gmt (gc W c) k).2.2.1) (b2 b) (Int32.ofNat j) M := by
      intro m
      induction m with
      | zero => intro j b hn; exact absurd hn (by omega)
      | succ m ih =>
        intro j b hn hj he
        unfold w_Model_checkOwn_L78 w_Model_checkOwn_j113
        refine ⟨w, h.r45, ?_⟩
        rw [h.m75, oN_tnc (k := 12 * c + k) (by omega), hlr.1, h.ml (by omega) (by omega)]
        refine ⟨(vp_oN (by omega)).mpr hm, ?_⟩
        by_cases cj : lo.length ≤ j
        · refine itp (le_oN (by omega) (by omega)) ⟨st.length + 1, ?_⟩
          rw [List.drop_eq_nil_of_le cj] at he
          refine loop2 _ 0 b (by omega) (by omega) ?_
          rw [List.drop_zero, ← he]
          simp [unM]
        obtain ⟨x1, x2⟩ := l1 j (by omega)
        rw [oN_tnc (k := j) (by omega), x1, m111]
        refine itn (nle_oN (by omega) (by omega)) ⟨(vp_oN (by omega)).mpr (by omega), ?_⟩
        rw [unM_drop (by omega), ← Bool.or_assoc] at he
        rw [show Int32.ofNat j + (1 : Int32) = Int32.ofNat (j + 1) from oN_add j 1]
        by_cases c1 : (gk lo j).1 = -3
        · rw [decide_eq_true c1] at he
          refine itp ((kt_e (n := 5) x2 hla (by omega)).mpr c1) ?_
          rw [show b2 b ||| (1 : Int32) = b2 (b || true) from b2_or b true]
          exact ih _ _ (by omega) (by omega) he
        · rw [decide_eq_false c1] at he
          refine itn (fun z => c1 ((kt_e (n := 5) (m := -3) x2 hla (by omega)).mp z)) ?_
          rw [show b2 b ||| (0 : Int32) = b2 (b || false) from b2_or b false]
          exact ih _ _ (by omega) (by omega) he
    exact loop1 _ 0 false (by omega) (by omega) (by simp)
  rw [if_neg c57] at hQ
  by_cases c58 : i.1 = 58
  · rw [if_pos c58] at hQ
    refine itn (ne_oN (b := 54) (by omega) (by omega) (by omega)) (itn (ne_oN (b := 55) (by omega) (by omega) (by omega)) (itn (ne_oN (b := 56) (by omega) (by omega) (by omega)) (itn (ne_oN (b := 57) (by omega) (by omega) (by omega)) (itp (by rw [c58]; rfl) ?_))))
    by_cases c1 : (gmt (gc W c) k).2.2.1.1 = 0
    · rw [if_pos c1] at hQ
      exact itp ((kt_e (n := 1) hκ hla (by omega)).mpr c1) hQ
    · rw [if_neg c1] at hQ
      exact itn (fun z => c1 ((kt_e (n := 1) (m := 0) hκ hla (by omega)).mp z)) hQ
  rw [if_neg c58] at hQ
  by_cases c59 : i.1 = 59
  · rw [if_pos c59] at hQ
    refine itn (ne_oN (b := 54) (by omega) (by omega) (by omega)) (itn (ne_oN (b := 55) (by omega) (by omega) (by omega)) (itn (ne_oN (b := 56) (by omega) (by omega) (by omega)) (itn (ne_oN (b := 57) (by omega) (by omega) (by omega)) (itn (ne_oN (b := 58) (by omega) (by omega) (by omega)) (itp (by rw [c59]; rfl) ?_)))))
    by_cases c1 : (gmt (gc W c) k).2.2.1.1 = 1 ∨ (gmt (gc W c) k).2.2.1.1 = 2
    · rw [if_pos c1] at hQ
      refine itp ?_ hQ
      rw [Int32.lt_iff_toInt_lt, i1]; omega
    · rw [if_neg c1] at hQ
      refine itn (fun z => ?_) hQ
      rw [Int32.lt_iff_toInt_lt, i1] at z; omega
  rw [if_neg c59, if_neg (by omega), if_neg (by omega)] at hQ
  by_cases c54 : i.1 = 54
  · exact itp (by rw [c54]; rfl) hQ
  refine itn (ne_oN (b := 54) c54 (by omega) (by omega)) ?_
  by_cases c55 : i.1 = 55
  · exact itp (by rw [c55]; rfl) hQ
  refine itn (ne_oN (b := 55) c55 (by omega) (by omega)) ?_
  by_cases c56 : i.1 = 56
  · exact itp (by rw [c56]; rfl) hQ
  exact itn (ne_oN (b := 56) c56 (by omega) (by omega)) (itn (ne_oN (b := 57) c57 (by omega) (by omega)) (itn (ne_oN (b := 58) c58 (by omega) (by omega)) (itn (ne_oN (b := 59) c59 (by omega) (by omega)) hQ)))
end
