/-! B: the twin's checker: an instruction -/
theorem takenS_loc {W : List Cls} {c : Nat} {x : Mth} {i : Ins} {lo st : List Kd} (h : takenS W c x i lo st = 0) (h3 : 3 ≤ i.1 ∧ i.1 ≤ 7) : iL i < lr x := by
  unfold takenS at h
  by_cases e : lr x ≤ iL i
  · rw [if_pos ⟨h3, e⟩] at h; exact absurd h (by decide)
  · omega
theorem ownS_mk {W : List Cls} {c : Nat} {x : Mth} {i : Ins} {lo st : List Kd} (h : ownS W c x i lo st = 0) (hm : isMk i) : (tp st (iA i).length).1 = -3 ∨ (tp st (iA i).length).1 ≤ -10 := by
  have h51 := hm.1
  unfold ownS at h
  rw [if_neg (by omega), if_neg (by omega), if_neg (by omega), if_neg (by omega), if_pos h51, if_pos hm.2] at h
  by_cases c1 : (tp st (iA i).length).1 = -3
  · exact Or.inl c1
  by_cases c2 : (tp st (iA i).length).1 ≤ -10
  · exact Or.inr c2
  unfold mkRight at h
  rw [if_neg c1, if_neg c2, if_neg (by decide)] at h
  exact absurd h (by decide)
theorem pushS_len {i : Ins} {a : Nat} {lo st : List Kd} : (pushS i a lo st).length ≤ 3 := by
  unfold pushS
  by_cases c1 : (8 ≤ i.1 ∧ i.1 ≤ 18) ∨ i.1 = 1 ∨ i.1 = 3 ∨ i.1 = 43 ∨ i.1 = 45 ∨ i.1 = 55
  · rw [if_pos c1]; simp
  rw [if_neg c1]
  by_cases c1 : i.1 = 42
  · rw [if_pos c1]; simp
  rw [if_neg c1]
  by_cases c1 : i.1 = 2
  · rw [if_pos c1]; simp
  rw [if_neg c1]
  by_cases c1 : i.1 = 4
  · rw [if_pos c1]; simp
  rw [if_neg c1]
  by_cases c1 : i.1 = 20
  · rw [if_pos c1]; simp
  rw [if_neg c1]
  by_cases c1 : i.1 = 21
  · rw [if_pos c1]; simp
  rw [if_neg c1]
  by_cases c1 : i.1 = 22
  · rw [if_pos c1]; simp
  rw [if_neg c1]
  by_cases c1 : i.1 = 41
  · rw [if_pos c1]; simp
  rw [if_neg c1]
  by_cases c1 : i.1 = 46 ∨ i.1 = 48
  · rw [if_pos c1]; simp
  rw [if_neg c1]
  by_cases c1 : i.1 = 54
  · rw [if_pos c1]; simp
  rw [if_neg c1]
  by_cases c1 : isMo i.1
  · rw [if_pos c1]
    by_cases c2 : (iR i).1 = -4
    · rw [if_pos c2]; simp
    · rw [if_neg c2]; simp
  rw [if_neg c1]; simp
section
variable {G : List Sl} {US : UST} {A : List Nm} {S : List Sg} {W : List Cls} {w c k : Nat} {br : Int32} {nq nl nf nk : Nat} {M M' : Mem} {lo st : List Kd} {q n a : Nat} {i : Ins}
theorem ct_act {Q : Mem → Prop} (h : TE G US A S W w c k br nq nl nf nk M) (hS : TS A (gmt (gc W c) k) lo st true M) (hI : TI1 A S w nl nf nk nq q n i M) (hWl : TWl A (wlist W c (gmt (gc W c) k) i) M) (hle : (wlist W c (gmt (gc W c) k) i).length ≤ st.length) (ha : a < (co (gmt (gc W c) k)).length) (hg : gin (co (gmt (gc W c) k)) a = i) (htk : takenS W c (gmt (gc W c) k) i lo st = 0) (hown : ownS W c (gmt (gc W c) k) i lo st = 0) (hQ : ∀ M', TSr A (gmt (gc W c) k) (loS W c i lo st) (stT W c (gmt (gc W c) k) i a lo st) M' → Q M') : w_Model_act 0 (Int32.ofNat i.1) (Int32.ofNat q) (Int32.ofNat a) Q M := by
  have hq := hI.2.1
  have o62 := hI.2.2.1
  have hsr := h.sr.2
  have h80 := h.wf.2.2.1.1
  have hK := h.1.2.2.1
  have hla := h.la
  obtain ⟨⟨m111, m212, m112⟩, ⟨l1, l2⟩, ⟨s1, s2, s3⟩, s4⟩ := id hS
  have rA : nq ≤ mL M 300 (rdI M (sAs w)) := h.rl.1 (sAs w) (by simp)
  obtain ⟨⟨-, ⟨t1, -, -, t4, -⟩, -⟩, -, -, hop, -⟩ := id hI
  have t1 : mI M 300 (rdI M (sAs w)) q = (if isJ i.1 then ((iT i).map Int32.ofNat).headD 0 else if isN i.1 ∨ isFo i.1 ∨ isMo i.1 then nc A (iK i) else iV i) := t1
  have v3 : 3 ≤ i.1 ∧ i.1 ≤ 7 → mI M 300 (rdI M (sAs w)) q = Int32.ofNat (iL i) ∧ iL i < lr (gmt (gc W c) k) := fun e => by
    rw [if_neg (by omega), if_neg (by omega)] at t1
    obtain ⟨b, eb, hb⟩ := hop.1 e
    have e2 : iL i = b := by show (iV i).toNatClampNeg = b; rw [eb, oN_tnc (by omega)]
    exact ⟨by rw [t1, e2, eb], takenS_loc htk e⟩
  have vn : isN i.1 ∨ isFo i.1 ∨ isMo i.1 → mI M 300 (rdI M (sAs w)) q = nc A (iK i) ∧ iK i ∈ A := fun e => by
    rw [if_neg (by omega), if_pos e] at t1
    exact ⟨t1, t4 e⟩
  unfold w_Model_act
  refine ⟨w, h.r45, rdI M (sAs w), h.sl (s := sAs w) (by simp), (vp_oN (by omega)).mpr (by omega), ?_⟩
  rw [oN_tnc (k := q) (by omega), s2]
  generalize hv4 : mI M 300 (rdI M (sAs w)) q = v4 at v3 vn
  have go : ∀ v5 v6, (1 ≤ st.length → v5 = kt A (tp st 0)) → (2 ≤ st.length → v6 = kt A (tp st 1)) → w_Model_act_j58 0 Q (Int32.ofNat i.1) (Int32.ofNat q) (Int32.ofNat a) v4 v5 v6 M := fun v5 v6 h5 h6 => by
    have base : ∀ s0, (isMk i → s0 = kt A (tp st (iA i).length)) → (¬ isMk i → s0 = 0) → w_Model_act_j100 0 Q (Int32.ofNat i.1) (Int32.ofNat q) (Int32.ofNat a) v4 v5 v6 s0 M := fun s0 e1 e2 => by
      refine ct_act100 (i := i) (n := n) ⟨⟨h, ⟨⟨m111, m212, m112⟩, ⟨l1, l2⟩, s1, s2⟩, hI, hWl⟩, ⟨hle, by omega, by omega, ha, hg⟩, v3, vn, h5, h6, fun hm => ⟨e1 hm, ownS_mk hown hm⟩, e2⟩ hQ
    unfold w_Model_act_j58 w_Model_act_j99
    by_cases c51 : i.1 = 51
    · refine itp (by rw [c51]; rfl) ?_
      obtain ⟨-, ⟨p1, p2, p3, p4⟩, -⟩ := rdA h hI (by omega)
      refine ⟨w, h.r45, _, p1, (vp_oN (by omega)).mpr p2, ?_⟩
      rw [oN_tnc (k := q) (by omega), p3, hK.make.1]
      by_cases cm : iM i = nMake
      · refine itp (by rw [cm]) ?_
        have lw : (wlist W c (gmt (gc W c) k) i).length = (iA i).length + 1 := by
          rw [wlist_call (by omega), List.length_append, List.length_map, List.length_reverse]
          congr 1
          unfold callT
          rw [if_neg (by omega), if_pos c51]; rfl
        rw [s2, hWl.2.1, lw, oN_sub (by omega), oN_tnc (k := st.length - ((iA i).length + 1)) (by omega), m212]
        obtain ⟨x1, x2⟩ := s1 (st.length - ((iA i).length + 1)) (by omega)
        rw [x1]
        have et : gk st (st.length - ((iA i).length + 1)) = tp st (iA i).length := by show gk st _ = gk st _; congr 1; omega
        rw [et]
        exact ⟨(vp_oN (by omega)).mpr (by omega), base _ (fun _ => rfl) (fun z => absurd ⟨c51, cm⟩ z)⟩
      · exact itn (fun z => cm ((nc_inj (by omega) p4 hK.make.2).mp z)) (base 0 (fun z => absurd z.2 cm) (fun _ => rfl))
    · exact itn (ne_oN (b := 51) c51 (by omega) (by omega)) (base 0 (fun z => absurd z.1 c51) (fun _ => rfl))
  have j33 : ∀ v5, (1 ≤ st.length → v5 = kt A (tp st 0)) → w_Model_act_j33 0 Q (Int32.ofNat i.1) (Int32.ofNat q) (Int32.ofNat a) v4 v5 M := fun v5 h5 => by
    unfold w_Model_act_j33
    rw [s2]
    by_cases c2 : st.length ≤ 1
    · exact itp (le_oN (b := 1) c2 (by omega)) (go v5 0 h5 (fun z => by omega))
    · refine itn (nle_oN (b := 1) (by omega) (by omega)) ?_
      rw [show Int32.ofNat st.length - (2 : Int32) = Int32.ofNat (st.length - 2) from oN_sub (b := 2) (by omega), oN_tnc (k := st.length - 2) (by omega), (s1 (st.length - 2) (by omega)).1, m212]
      refine ⟨(vp_oN (by omega)).mpr (by omega), go v5 _ h5 (fun _ => ?_)⟩
      show kt A (gk st (st.length - 2)) = kt A (gk st (st.length - 1 - 1))
      rw [show st.length - 1 - 1 = st.length - 2 by omega]
  by_cases c1 : st.length ≤ 0
  · exact itp (le_oN (b := 0) c1 (by omega)) (j33 0 (fun z => by omega))
  · refine itn (nle_oN (b := 0) (by omega) (by omega)) ?_
    rw [show Int32.ofNat st.length - (1 : Int32) = Int32.ofNat (st.length - 1) from oN_sub (b := 1) (by omega), oN_tnc (k := st.length - 1) (by omega), (s1 (st.length - 1) (by omega)).1, m212]
    exact ⟨(vp_oN (by omega)).mpr (by omega), j33 _ (fun _ => rfl)⟩
/-- between instructions: rows are at hand if anything is known -/
def TUx (A : List Nm) (x : Mth) (s : KSt) (M : Mem) : Prop := (mL M 111 0 = 20 ∧ mL M 212 0 = 28 ∧ mL M 112 0 = 10) ∧ (s.2.2 = true → TS A x s.1 s.2.1 true M) ∧ mI M 11 0 73 = b2 s.2.2
theorem ct_step {Q : Int32 → Mem → Prop} (h : TE G US A S W w c k br nq nl nf nk M) (hS : TS A (gmt (gc W c) k) lo st true M) (hq0 : mI M 149 w (12 * c + k) = Int32.ofNat n) (hn : n ≤ 30000) (ha : a < (co (gmt (gc W c) k)).length) (hX : ∀ r M', stepS W c (gmt (gc W c) k) a lo st = .inl r → Q (Int32.ofNat r) M') (hQ : ∀ s M', stepS W c (gmt (gc W c) k) a lo st = .inr s → TE G US A S W w c k br nq nl nf nk M' → TUx A (gmt (gc W c) k) s M' → Q 0 M') : w_Model_checkOne_j219 0 Q (Int32.ofNat a) (b2 (decide (a + 1 = (co (gmt (gc W c) k)).length))) (Int32.ofNat (n + a)) M := by
  have h80 := h.wf.2.2.1.1
  have hm := h.mlt
  have hsr := h.sr
  obtain ⟨hfi, hlt, hwf⟩ := h.ins hq0 hn ha
  obtain ⟨i, hg⟩ : ∃ i, gin (co (gmt (gc W c) k)) a = i := ⟨_, rfl⟩
  rw [hg] at hfi hwf
  have hI : TI1 A S w nl nf nk nq (n + a) (co (gmt (gc W c) k)).length i M := ⟨hfi, hlt, hwf⟩
  have o62 := hwf.1
  unfold stepS at hX hQ
  rw [hg] at hX hQ
  unfold w_Model_checkOne_j219
  refine ct_askHandlers h hS.2.1.1 hS.2.1.2 hS.1.1 (by omega) ?_
  have hhl := handS_le (W := W) (x := gmt (gc W c) k) (lo := lo) (a := a) (H := hs (gmt (gc W c) k))
  by_cases c1 : ¬ (handS W (gmt (gc W c) k) lo a (hs (gmt (gc W c) k)) = 0)
  · rw [if_pos c1] at hX
    exact itn (nle_oN (b := 0) (by omega) (by omega)) (hX _ M rfl)
  replace c1 : handS W (gmt (gc W c) k) lo a (hs (gmt (gc W c) k)) = 0 := Decidable.not_not.mp c1
  rw [c1] at hX hQ ⊢
  rw [if_neg (fun z => z rfl)] at hX hQ
  have rO : nq ≤ mL M 401 (rdI M (sOp w)) := h.rl.1 (sOp w) (by simp)
  refine itp (by decide) ⟨w, h.r45, rdI M (sOp w), h.sl (s := sOp w) (by simp), (vp_oN (by omega)).mpr (by omega), ?_⟩
  rw [oN_tnc (k := n + a) (by omega), show mI M 401 (rdI M (sOp w)) (n + a) = Int32.ofNat i.1 from hfi.1.1]
  have htl := takenS_le (W := W) (c := c) (x := gmt (gc W c) k) (i := i) (lo := lo) (st := st)
  refine ct_checkTaken h hS hI (fun z M1 f1 => ?_) (fun z M1 hWl hle f1 => ?_)
  · rw [if_pos z] at hX
    exact itn (nle_oN (b := 0) (by omega) (by omega)) (hX _ M1 rfl)
  rw [z] at hX hQ
  rw [if_neg (fun y => y rfl)] at hX hQ
  have h1 := h.fr f1
  have hI1 := hI.fr f1 h.2.1.1 h.2.1.2.2.2.1
  have hS1 : TS A (gmt (gc W c) k) lo st true M1 := by
    obtain ⟨⟨m1, m2, m3⟩, ⟨k1, k2⟩, ⟨k3, k4, k5⟩, k6⟩ := hS
    exact ⟨⟨(f1.L (f := 111) rfl 0).trans m1, (f1.L (f := 212) rfl 0).trans m2, (f1.L (f := 112) rfl 0).trans m3⟩, ⟨fun j hj => ⟨(f1.Ia (f := 111) rfl rfl 0 j).trans (k1 j hj).1, (k1 j hj).2⟩, k2⟩, ⟨fun j hj => ⟨(f1.Ia (f := 212) rfl rfl 0 j).trans (k3 j hj).1, (k3 j hj).2⟩, (f1.I (f := 11) (k := 72) rfl 0).trans k4, k5⟩, (f1.I (f := 11) (k := 73) rfl 0).trans k6⟩
  refine itp (by decide) (ct_checkOwn h1 hS1 hI1 hWl hle ?_)
  have hol := ownS_le (W := W) (c := c) (x := gmt (gc W c) k) (i := i) (lo := lo) (st := st)
  by_cases c2 : ¬ (ownS W c (gmt (gc W c) k) i lo st = 0)
  · rw [if_pos c2] at hX
    exact itn (nle_oN (b := 0) (by omega) (by omega)) (hX _ M1 rfl)
  replace c2 : ownS W c (gmt (gc W c) k) i lo st = 0 := Decidable.not_not.mp c2
  rw [c2] at hX hQ ⊢
  rw [if_neg (fun y => y rfl)] at hX hQ
  refine itp (by decide) (mf_w_Model_act (Q := fun M22 => Fr F_Model_act M1 M22 → _) (fun M22 hf hp => hp hf) (ct_act h1 hS1 hI1 hWl hle ha hg z c2 (fun M2 hR f2 => ?_)))
  have h2 := h1.fr f2
  have hI2 := hI1.fr f2 h.2.1.1 h.2.1.2.2.2.1
  obtain ⟨r1, ⟨r2, r3⟩, r4, r5⟩ := hR
  refine ⟨w, h2.r45, ?_⟩
  rw [h2.m75, oN_tnc (k := 12 * c + k) (by omega), h2.sr.1, r5, h2.ml (by omega) (by omega)]
  refine ⟨(vp_oN (by omega)).mpr hm, ?_⟩
  -- the stack's height
  have hst : ¬ (57 ≤ i.1 ∧ i.1 ≤ 59) → stT W c (gmt (gc W c) k) i a lo st = stS W c (gmt (gc W c) k) i a lo st := stT_eq
  have hs3 := hS.2.2.1.2.2
  have hlv : (57 ≤ i.1 ∧ i.1 ≤ 59) → (stT W c (gmt (gc W c) k) i a lo st).length ≤ sr (gmt (gc W c) k) ∧ (stS W c (gmt (gc W c) k) i a lo st).length ≤ sr (gmt (gc W c) k) := fun e => by
    have e1 : pushS i a lo st = [] := by
      unfold pushS
      rw [if_neg (by omega), if_neg (by omega), if_neg (by omega), if_neg (by omega), if_neg (by omega), if_neg (by omega), if_neg (by omega), if_neg (by omega), if_neg (by omega), if_neg (by omega), if_neg (by omega)]
    unfold stT stS restS
    rw [if_neg (fun z => by have := z.1; omega), if_pos e, e1, List.append_nil, List.append_nil, List.length_take]
    omega
  have hlen : (stT W c (gmt (gc W c) k) i a lo st).length < 1000 := by
    unfold stT
    rw [List.length_append]
    have hp := pushS_len (i := i) (a := a) (lo := lo) (st := st)
    have : (if isMk i then (st.take (st.length - (wlist W c (gmt (gc W c) k) i).length)).map (made W c i (tp st (iA i).length)) else st.take (st.length - (wlist W c (gmt (gc W c) k) i).length)).length ≤ st.length := by
      by_cases e : isMk i
      · rw [if_pos e, List.length_map, List.length_take]; omega
      · rw [if_neg e, List.length_take]; omega
    omega
  have h30 : ((stT W c (gmt (gc W c) k) i a lo st).length ≤ sr (gmt (gc W c) k)) ↔ ¬ sr (gmt (gc W c) k) < (stS W c (gmt (gc W c) k) i a lo st).length := by
    by_cases e : 57 ≤ i.1 ∧ i.1 ≤ 59
    · have := hlv e; omega
    · rw [hst e]; omega
  by_cases c3 : ¬ ((stT W c (gmt (gc W c) k) i a lo st).length ≤ sr (gmt (gc W c) k))
  · rw [if_pos (by omega)] at hX
    exact itn (nle_oN (by omega) (by omega)) (hX 30 M2 rfl)
  replace c3 : (stT W c (gmt (gc W c) k) i a lo st).length ≤ sr (gmt (gc W c) k) := Decidable.not_not.mp c3
  rw [if_neg (h30.mp c3)] at hX hQ
  refine itp (le_oN c3 (by omega)) ?_
  -- known, and the last one
  have fin : thenS W (gmt (gc W c) k) i a (loS W c i lo st) (stS W c (gmt (gc W c) k) i a lo st) = 0 → w_Model_checkOne_j458 0 Q (b2 (decide (a + 1 = (co (gmt (gc W c) k)).length))) 0 (Int32.ofNat i.1) M2 := fun e0 => by
    rw [e0] at hX hQ
    rw [if_neg (fun y => y rfl)] at hX hQ
    have j514 : ∀ g : Bool, g = decide (goesOn i.1) → w_Model_checkOne_j514 0 Q (b2 (decide (a + 1 = (co (gmt (gc W c) k)).length))) (b2 g) M2 := fun g hgo => by
      unfold w_Model_checkOne_j514
      refine ⟨by cases g <;> simp [b2], ?_⟩
      have f3 : Fr (18671353792230209846849156868096825059313238370138091962452477406137327790748333287950334237348811369988766597559259112245218339168370248543188809657519117660546798193196691819709989500395875595981418364179573990005193566651895126055065109211693627424111287969549835682589056923543716872163430593489089063376856562116341623559298723806201635234870325819196568858822831400983534227701497316185933022404671175775901311025590183435940880180555908693711889018981378849746295817542058451256022342400682542971771366255050146563201454997722372420149236872968846252823001387062083402577678264738993232575787373845805636334336346755597354082250826300202594874278804973140364822955432438368681661976391704556471068958268594589555360906963449000360059290660276574583939313064390162252746568537674262531464445080952271529661745028519264843890658259973621267906760498922536549426531608920045640816284454810698394967858477802733115898278102799396267200111948900153752974237272321301013330043854651392) M2 (sI M2 11 0 73 (b2 g)) := Fr.wI rfl (Fr.rf _ _)
      have e73 : mI (sI M2 11 0 73 (b2 g)) 11 0 73 = b2 g := by simp only [mI_sI, mI_sR, mI_sJ, mR_sI, mL_sI, mL_sR, mR_sR, Nat.reduceEqDiff, and_false, false_and, if_false, and_self, true_and, and_true, if_true]
      have h3 := h2.fr f3
      have lens : mL (sI M2 11 0 73 (b2 g)) 111 0 = 20 ∧ mL (sI M2 11 0 73 (b2 g)) 212 0 = 28 ∧ mL (sI M2 11 0 73 (b2 g)) 112 0 = 10 := r1
      have k1 : TLk A (co (gmt (gc W c) k)) 111 0 (loS W c i lo st) (sI M2 11 0 73 (b2 g)) := fun j hj => ⟨(f3.Ia (f := 111) rfl rfl 0 j).trans (r2 j hj).1, (r2 j hj).2⟩
      have k2 : TLk A (co (gmt (gc W c) k)) 212 0 (stT W c (gmt (gc W c) k) i a lo st) (sI M2 11 0 73 (b2 g)) := fun j hj => ⟨(f3.Ia (f := 212) rfl rfl 0 j).trans (r4 j hj).1, (r4 j hj).2⟩
      have k3 : mI (sI M2 11 0 73 (b2 g)) 11 0 72 = Int32.ofNat (stT W c (gmt (gc W c) k) i a lo st).length := (f3.I (f := 11) (k := 72) rfl 0).trans r5
      generalize sI M2 11 0 73 (b2 g) = M3 at *
      rw [e73]
      by_cases cg : goesOn i.1
      · rw [decide_eq_true cg] at hgo
        subst hgo
        refine itn (by decide) ?_
        by_cases cl : a + 1 = (co (gmt (gc W c) k)).length
        · rw [if_pos ⟨cg, cl⟩] at hX
          rw [decide_eq_true cl]
          exact itn (by decide) (hX 35 M3 rfl)
        · rw [if_neg (fun y => cl y.2), if_pos cg] at hQ
          rw [decide_eq_false cl]
          have e57 : ¬ (57 ≤ i.1 ∧ i.1 ≤ 59) := cg.2.2.2
          rw [hst e57] at k2 k3 c3
          exact itp rfl (hQ _ M3 rfl h3 ⟨lens, fun _ => ⟨lens, ⟨k1, r3⟩, ⟨k2, k3, c3⟩, e73⟩, e73⟩)
      · rw [decide_eq_false cg] at hgo
        subst hgo
        rw [if_neg (fun y => cg y.1), if_neg cg] at hQ
        exact itp rfl (hQ _ M3 rfl h3 ⟨lens, (fun y => by cases y), e73⟩)
    unfold w_Model_checkOne_j458 w_Model_checkOne_j513
    refine itp (by decide) ?_
    have off : ¬ goesOn i.1 → w_Model_checkOne_j514 0 Q (b2 (decide (a + 1 = (co (gmt (gc W c) k)).length))) 0 M2 := fun e => j514 false (by rw [decide_eq_false e])
    by_cases d1 : i.1 = 23
    · exact itp (by rw [d1]; rfl) (off (fun z => z.1 d1))
    refine itn (ne_oN (b := 23) d1 (by omega) (by omega)) ?_
    by_cases d2 : i.1 = 40
    · exact itp (by rw [d2]; rfl) (off (fun z => z.2.1 d2))
    refine itn (ne_oN (b := 40) d2 (by omega) (by omega)) ?_
    by_cases d3 : i.1 = 56
    · exact itp (by rw [d3]; rfl) (off (fun z => z.2.2.1 d3))
    refine itn (ne_oN (b := 56) d3 (by omega) (by omega)) ?_
    by_cases d4 : i.1 = 57
    · exact itp (by rw [d4]; rfl) (off (fun z => z.2.2.2 (by omega)))
    refine itn (ne_oN (b := 57) d4 (by omega) (by omega)) ?_
    by_cases d5 : i.1 = 58
    · exact itp (by rw [d5]; rfl) (off (fun z => z.2.2.2 (by omega)))
    refine itn (ne_oN (b := 58) d5 (by omega) (by omega)) ?_
    by_cases d6 : i.1 = 59
    · exact itp (by rw [d6]; rfl) (off (fun z => z.2.2.2 (by omega)))
    exact itn (ne_oN (b := 59) d6 (by omega) (by omega)) (j514 true (by rw [decide_eq_true ⟨d1, d2, d3, by omega⟩]))
  have bad : ∀ r, r ≠ 0 → r ≤ 60 → thenS W (gmt (gc W c) k) i a (loS W c i lo st) (stS W c (gmt (gc W c) k) i a lo st) = r → w_Model_checkOne_j458 0 Q (b2 (decide (a + 1 = (co (gmt (gc W c) k)).length))) (Int32.ofNat r) (Int32.ofNat i.1) M2 := fun r hr h60 e => by
    rw [e, if_pos hr] at hX
    unfold w_Model_checkOne_j458
    exact itn (nle_oN (b := 0) (by omega) (by omega)) (hX r M2 rfl)
  have both : ∀ r, r ≤ 60 → thenS W (gmt (gc W c) k) i a (loS W c i lo st) (stS W c (gmt (gc W c) k) i a lo st) = r → w_Model_checkOne_j458 0 Q (b2 (decide (a + 1 = (co (gmt (gc W c) k)).length))) (Int32.ofNat r) (Int32.ofNat i.1) M2 := fun r h60 e => by
    by_cases c : r = 0
    · rw [c] at e ⊢; exact fin e
    · exact bad r c h60 e
  clear fin bad hX hQ
  have hand : (i.1 = 5 ∨ i.1 = 6 ∨ isMk i) → w_Model_checkOne_j345 0 Q (Int32.ofNat a) (b2 (decide (a + 1 = (co (gmt (gc W c) k)).length))) (Int32.ofNat i.1) M2 := fun e => by
    unfold w_Model_checkOne_j345
    refine ct_askHandlers h2 r2 r3 r1.1 (by omega) (both _ handS_le ?_)
    unfold thenS
    rw [if_pos e]
  -- where it goes
  have go : ¬ (i.1 = 5 ∨ i.1 = 6 ∨ isMk i) → w_Model_checkOne_j355 0 Q (b2 (decide (a + 1 = (co (gmt (gc W c) k)).length))) (Int32.ofNat (n + a)) 0 (Int32.ofNat i.1) M2 := fun e => by
    unfold thenS at both
    rw [if_neg e] at both
    unfold w_Model_checkOne_j355 w_Model_checkOne_j387
    have hop := hwf.2.1
    have htg := hwf.2.2.1
    by_cases cJ : isJ i.1
    · rw [if_pos cJ] at both
      refine itn (nlt_oN (b := 23) (by omega) (by omega)) (itn (nlt_oN (a := 39) (by omega) (by omega)) ?_)
      have hln := hop.2.2.1 cJ
      obtain ⟨⟨-, ⟨t1, -⟩, -⟩, -⟩ := id hI2
      rw [if_pos cJ] at t1
      have rA : nq ≤ mL M2 300 (rdI M2 (sAs w)) := h2.rl.1 (sAs w) (by simp)
      refine ⟨w, h2.r45, rdI M2 (sAs w), h2.sl (s := sAs w) (by simp), (vp_oN (by omega)).mpr (by omega), ?_⟩
      have et : mI M2 300 (rdI M2 (sAs w)) (n + a) = Int32.ofNat (gtn (iT i) 0) := by
        have e1 : mI M2 300 (rdI M2 (sAs w)) (n + a) = ((iT i).map Int32.ofNat).headD 0 := t1
        rw [e1]
        match hT : iT i, hln with
        | [t], _ => rfl
      rw [oN_tnc (k := n + a) (by omega), et]
      have e57 : ¬ (57 ≤ i.1 ∧ i.1 ≤ 59) := by omega
      rw [hst e57] at r4 r5 c3
      refine ct_goesTo (kn := true) (lo := loS W c i lo st) (st := stS W c (gmt (gc W c) k) i a lo st) h2 ⟨r1, ⟨r2, r3⟩, ⟨r4, r5, c3⟩, ?_⟩ (htg _ ?_) (both _ goesS_le rfl)
      · exact (f2.I (f := 11) (k := 73) rfl 0).trans hS1.2.2.2
      · show (iT i).getD 0 0 ∈ iT i
        rw [List.getD_eq_getElem?_getD, List.getElem?_eq_getElem (by omega)]; exact List.getElem_mem _
    · rw [if_neg cJ] at both
      have j387 : (if Int32.ofNat i.1 = (40 : Int32) then (∃ n64 : Nat, w_Model_checkOne_L397 0 Q n64 (b2 (decide (a + 1 = (co (gmt (gc W c) k)).length))) (Int32.ofNat (n + a)) 0 (Int32.ofNat i.1) (1 : Int32) M2) else (w_Model_checkOne_j458 0 Q (b2 (decide (a + 1 = (co (gmt (gc W c) k)).length))) 0 (Int32.ofNat i.1) M2)) := by
        by_cases c40 : i.1 = 40
        · rw [if_pos c40] at both
          refine itp (by rw [c40]; rfl) ⟨(iT i).length + 2, ?_⟩
          have e57 : ¬ (57 ≤ i.1 ∧ i.1 ≤ 59) := by omega
          rw [hst e57] at r4 r5 c3
          obtain ⟨⟨-, ⟨-, -, t3, -⟩, -⟩, -⟩ := id hI2
          obtain ⟨lf, u1, u2, u3, u4⟩ := t3 c40
          rw [List.length_map] at u2 u3 u4
          have u3' : lf + (iT i).length ≤ nl := u3
          have hne := hop.2.1 c40
          have rB : nq ≤ mL M2 300 (rdI M2 (sBs w)) := h2.rl.1 (sBs w) (by simp)
          have rC : nq ≤ mL M2 300 (rdI M2 (sCs w)) := h2.rl.1 (sCs w) (by simp)
          have rL : nl ≤ mL M2 300 (rdI M2 (sLi w)) := h2.rl.2.1
          have hb := h2.1.1.2.2.2
          have u1 : mI M2 300 (rdI M2 (sBs w)) (n + a) = Int32.ofNat lf := u1
          have u2 : mI M2 300 (rdI M2 (sCs w)) (n + a) = Int32.ofNat (iT i).length := u2
          have loop : ∀ m j r, (iT i).length + 1 - j < m → 1 ≤ j → j ≤ (iT i).length + 1 → r ≤ 60 → (r = 0 → pickS W (gmt (gc W c) k) (loS W c i lo st) (stS W c (gmt (gc W c) k) i a lo st) (iT i) (iT i).length 1 = pickS W (gmt (gc W c) k) (loS W c i lo st) (stS W c (gmt (gc W c) k) i a lo st) (iT i) ((iT i).length + 1 - j) j) → (r ≠ 0 → pickS W (gmt (gc W c) k) (loS W c i lo st) (stS W c (gmt (gc W c) k) i a lo st) (iT i) (iT i).length 1 = r) → w_Model_checkOne_L397 0 Q m (b2 (decide (a + 1 = (co (gmt (gc W c) k)).length))) (Int32.ofNat (n + a)) (Int32.ofNat r) (Int32.ofNat i.1) (Int32.ofNat j) M2 := by
            intro m
            induction m with
            | zero => intro j r hn; exact absurd hn (by omega)
            | succ m ih =>
              intro j r hn hj1 hj h60 he her
              unfold w_Model_checkOne_L397
              refine ⟨w, h2.r45, rdI M2 (sCs w), h2.sl (s := sCs w) (by simp), (vp_oN (by omega)).mpr (by omega), ?_⟩
              rw [oN_tnc (k := n + a) (by omega), u2]
              by_cases cj : (iT i).length < j
              · refine itp (lt_oN cj (by omega)) ?_
                by_cases c0 : r = 0
                · have e := he c0
                  rw [show (iT i).length + 1 - j = 0 by omega] at e
                  rw [c0]
                  exact both 0 (by omega) e
                · exact both r h60 (her c0)
              refine itn (nlt_oN (by omega) (by omega)) ?_
              by_cases c0 : r = 0
              · have e := he c0
                rw [c0]
                have hmod : j % (iT i).length < (iT i).length := Nat.mod_lt _ (by omega)
                refine itp rfl ⟨w, h2.r45, rdI M2 (sLi w), h2.sl (s := sLi w) (by simp), w, h2.r45, rdI M2 (sBs w), h2.sl (s := sBs w) (by simp), (vp_oN (by omega)).mpr (by omega), w, h2.r45, rdI M2 (sCs w), h2.sl (s := sCs w) (by simp), (vp_oN (by omega)).mpr (by omega), (by rw [u2]; exact ne_oN (b := 0) hne (by omega) (by omega)), ?_⟩
                have u5 : mI M2 300 (rdI M2 (sLi w)) (lf + j % (iT i).length) = Int32.ofNat (gtn (iT i) (j % (iT i).length)) := by
                  have e1 : mI M2 300 (rdI M2 (sLi w)) (lf + j % (iT i).length) = gi ((iT i).map Int32.ofNat) (j % (iT i).length) := u4 _ hmod
                  rw [e1]
                  show ((iT i).map Int32.ofNat).getD _ 0 = Int32.ofNat ((iT i).getD _ 0)
                  rw [List.getD_eq_getElem?_getD, List.getD_eq_getElem?_getD, List.getElem?_map, List.getElem?_eq_getElem hmod]; rfl
                rw [u2, u1, oN_mod (by omega) (by omega), oN_add, oN_tnc (k := lf + j % (iT i).length) (by omega), u5]
                refine ⟨(vp_oN (by omega)).mpr (by omega), ct_goesTo (kn := true) (lo := loS W c i lo st) (st := stS W c (gmt (gc W c) k) i a lo st) h2 ⟨r1, ⟨r2, r3⟩, ⟨r4, r5, c3⟩, (f2.I (f := 11) (k := 73) rfl 0).trans hS1.2.2.2⟩ (htg _ ?_) ?_⟩
                · show (iT i).getD _ 0 ∈ iT i
                  rw [List.getD_eq_getElem?_getD, List.getElem?_eq_getElem hmod]; exact List.getElem_mem _
                · rw [show (iT i).length + 1 - j = ((iT i).length - j) + 1 by omega] at e
                  have e2 : pickS W (gmt (gc W c) k) (loS W c i lo st) (stS W c (gmt (gc W c) k) i a lo st) (iT i) ((iT i).length - j + 1) j = if goesS W (gmt (gc W c) k) (loS W c i lo st) (stS W c (gmt (gc W c) k) i a lo st) (gtn (iT i) (j % (iT i).length)) = 0 then pickS W (gmt (gc W c) k) (loS W c i lo st) (stS W c (gmt (gc W c) k) i a lo st) (iT i) ((iT i).length - j) (j + 1) else goesS W (gmt (gc W c) k) (loS W c i lo st) (stS W c (gmt (gc W c) k) i a lo st) (gtn (iT i) (j % (iT i).length)) := rfl
                  rw [e2] at e
                  rw [show Int32.ofNat j + (1 : Int32) = Int32.ofNat (j + 1) from oN_add j 1]
                  refine ih (j + 1) _ (by omega) (by omega) (by omega) goesS_le (fun z => ?_) (fun z => ?_)
                  · rw [if_pos z] at e
                    rw [e, show (iT i).length + 1 - (j + 1) = (iT i).length - j by omega]
                  · rw [if_neg z] at e; exact e
              · exact itn (ne_oN (b := 0) c0 (by omega) (by omega)) (both r h60 (her c0))
          exact loop _ 1 0 (by omega) (by omega) (by omega) (by omega) (fun _ => by rw [show (iT i).length + 1 - 1 = (iT i).length by omega]) (fun z => absurd rfl z)
        · rw [if_neg c40] at both
          exact itn (ne_oN (b := 40) c40 (by omega) (by omega)) (both 0 (by omega) rfl)
      by_cases c23 : i.1 < 23
      · exact itp (lt_oN (b := 23) c23 (by omega)) j387
      · exact itn (nlt_oN (b := 23) (by omega) (by omega)) (itp (lt_oN (a := 39) (by omega) (by omega)) j387)
  by_cases d5 : i.1 = 5
  · exact itp (by rw [d5]; rfl) (hand (Or.inl d5))
  refine itn (ne_oN (b := 5) d5 (by omega) (by omega)) ?_
  by_cases d6 : i.1 = 6
  · exact itp (by rw [d6]; rfl) (hand (Or.inr (Or.inl d6)))
  refine itn (ne_oN (b := 6) d6 (by omega) (by omega)) ?_
  by_cases d51 : i.1 = 51
  · refine itp (by rw [d51]; rfl) ?_
    obtain ⟨-, ⟨p1, p2, p3, p4⟩, -⟩ := rdA h2 hI2 (by omega)
    refine ⟨w, h2.r45, _, p1, (vp_oN (by omega)).mpr p2, ?_⟩
    rw [p3, h2.1.2.2.1.make.1]
    by_cases cm : iM i = nMake
    · exact itp (by rw [cm]) (hand (Or.inr (Or.inr ⟨d51, cm⟩)))
    · exact itn (fun y => cm ((nc_inj (by have := h.la; omega) p4 h2.1.2.2.1.make.2).mp y)) (go (fun y => by
        rcases y with y | y | y
        · omega
        · omega
        · exact cm y.2))
  · exact itn (ne_oN (b := 51) d51 (by omega) (by omega)) (go (fun y => by
      rcases y with y | y | y
      · omega
      · omega
      · exact d51 y.1))
end
