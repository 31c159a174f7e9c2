/-! B: the twin's checker: what an instruction takes -/
def twok (A : List Nm) (co : List Ins) (t : Wt) : Prop := (t.1 = 0 ∧ kwf A co t.2 ∧ 0 ≤ t.2.1) ∨ t.1 = 1 ∨ t.1 = 2 ∨ t.1 = 3
theorem tw_v {A : List Nm} {co : List Ins} {t : Wt} (h : twok A co t) (hl : A.length ≤ 200000) : (tw A t = 8 ↔ t.1 = 3) ∧ (tw A t = 7 ↔ t.1 = 2) ∧ (tw A t = 6 ↔ t.1 = 1) ∧ (tw A t = 1 ↔ t.1 = 0 ∧ t.2.1 = 0) := by
  unfold tw
  rcases h with ⟨e, h, h0⟩ | e | e | e
  · rw [if_pos e]
    have kc := kt_cases h hl
    have i8 : (8 : Int32).toInt = 8 := rfl
    have i7 : (7 : Int32).toInt = 7 := rfl
    have i6 : (6 : Int32).toInt = 6 := rfl
    have i1 : (1 : Int32).toInt = 1 := rfl
    refine ⟨?_, ?_, ?_, ?_⟩
    · rw [← Int32.toInt_inj, i8]; omega
    · rw [← Int32.toInt_inj, i7]; omega
    · rw [← Int32.toInt_inj, i6]; omega
    · rw [← Int32.toInt_inj, i1]; omega
  · rw [if_neg (by omega), if_pos e]
    exact ⟨⟨fun q => absurd q (by decide), fun q => by omega⟩, ⟨fun q => absurd q (by decide), fun q => by omega⟩, ⟨fun _ => e, fun _ => rfl⟩, ⟨fun q => absurd q (by decide), fun q => by omega⟩⟩
  · rw [if_neg (by omega), if_neg (by omega), if_pos e]
    exact ⟨⟨fun q => absurd q (by decide), fun q => by omega⟩, ⟨fun _ => e, fun _ => rfl⟩, ⟨fun q => absurd q (by decide), fun q => by omega⟩, ⟨fun q => absurd q (by decide), fun q => by omega⟩⟩
  · rw [if_neg (by omega), if_neg (by omega), if_neg (by omega)]
    exact ⟨⟨fun _ => e, fun _ => rfl⟩, ⟨fun q => absurd q (by decide), fun q => by omega⟩, ⟨fun q => absurd q (by decide), fun q => by omega⟩, ⟨fun q => absurd q (by decide), fun q => by omega⟩⟩
section
variable {G : List Sl} {US : UST} {A : List Nm} {S : List Sg} {W : List Cls} {w c k : Nat} {br : Int32} {nq nl nf nk : Nat} {M M' : Mem} {Q : Int32 → Mem → Prop} {lo st : List Kd} {q n : Nat} {i : Ins}
theorem ct_isRef {κ : Kd} {co : List Ins} (hκ : kwf A co κ) (hl : A.length ≤ 200000) (hQ : Q (b2 (rfK κ)) M) : w_Model_isRef (kt A κ) Q M := by
  unfold w_Model_isRef
  unfold rfK at hQ
  by_cases c1 : κ.1 = -1
  · rw [decide_eq_true c1] at hQ
    exact itp ((kt_e (n := 3) hκ hl (by omega)).mpr c1) hQ
  refine itn (fun z => c1 ((kt_e (n := 3) (m := -1) hκ hl (by omega)).mp z)) ?_
  by_cases c2 : κ.1 = 1
  · rw [decide_eq_false c1, decide_eq_true c2] at hQ
    exact itp ((kt_e (n := 2) hκ hl (by omega)).mpr c2) hQ
  refine itn (fun z => c2 ((kt_e (n := 2) (m := 1) hκ hl (by omega)).mp z)) ?_
  by_cases c3 : κ.1 = 2
  · rw [decide_eq_false c1, decide_eq_false c2, decide_eq_true c3] at hQ
    exact itn (fun z => (kt_l16 hκ hl).mp z c3) hQ
  · rw [decide_eq_false c1, decide_eq_false c2, decide_eq_false c3] at hQ
    exact itp ((kt_l16 hκ hl).mpr c3) hQ
theorem ct_isUnmade {κ : Kd} {co : List Ins} (hκ : kwf A co κ) (hl : A.length ≤ 200000) (hQ : Q (b2 (umK κ)) M) : w_Model_isUnmade (kt A κ) Q M := by
  unfold w_Model_isUnmade
  unfold umK at hQ
  by_cases c1 : κ.1 = -3
  · rw [decide_eq_true c1] at hQ
    exact itp ((kt_e (n := 5) hκ hl (by omega)).mpr c1) hQ
  refine itn (fun z => c1 ((kt_e (n := 5) (m := -3) hκ hl (by omega)).mp z)) ?_
  by_cases c2 : κ.1 ≤ -10
  · rw [decide_eq_false c1, decide_eq_true c2] at hQ
    exact itn (fun z => (kt_l0 hκ hl).mp z c2) hQ
  · rw [decide_eq_false c1, decide_eq_false c2] at hQ
    exact itp ((kt_l0 hκ hl).mpr c2) hQ
theorem gwt_drop {ws : List Wt} {j : Nat} (h : j < ws.length) : ws.drop j = gwt ws j :: ws.drop (j + 1) := by
  rw [List.drop_eq_getElem_cons h]
  congr 1
  show _ = ws.getD j _
  rw [List.getD_eq_getElem?_getD, List.getElem?_eq_getElem h]; rfl
theorem ty_kwf {A : List Nm} {co : List Ins} {κ : Kd} (h : tyOk κ) (hk : kok A κ) : kwf A co κ ∧ 0 ≤ κ.1 := by
  refine ⟨kwf_kd h.kd hk, ?_⟩
  rcases h with z | z | z
  · rw [z]; decide
  · rw [z]; decide
  · rw [z]; decide
theorem wlist_ind {P : List Wt → Prop} {W : List Cls} {c : Nat} {x : Mth} {i : Ins} (n1 : P [wNum]) (n2 : P [wNum, wNum]) (sto : P [wSto]) (a1 : P [wAny]) (a2 : P [wAny, wAny]) (r2 : P [wRef, wRef]) (r1 : P [wRef]) (nr : P [wNum, wRow]) (nnr : P [wNum, wNum, wRow]) (row : P [wRow]) (f46 : i.1 = 46 → P [(0, (2, iK i))]) (f47 : i.1 = 47 → P [(0, iR i), (0, (2, iK i))]) (f49 : i.1 = 49 → P [(0, iR i)]) (mo : isMo i.1 → P ((iA i).reverse.map (fun κ => (0, κ)) ++ callT W c i)) (th : P [(0, (2, nFault))]) (rdo : P [if x.2.2.1.1 = 1 ∨ x.2.2.1.1 = 2 then (0, x.2.2.1) else wRef]) (nil : P []) : P (wlist W c x i) := by
  by_cases e : isMo i.1
  · rw [wlist_call e]; exact mo e
  unfold wlist
  by_cases c1 : 8 ≤ i.1 ∧ i.1 ≤ 18
  · rw [if_pos c1]
    by_cases c2 : i.1 = 13
    · rw [if_pos c2]; exact n1
    · rw [if_neg c2]; exact n2
  rw [if_neg c1]
  by_cases c1 : (24 ≤ i.1 ∧ i.1 ≤ 29) ∨ i.1 = 40 ∨ i.1 = 5 ∨ i.1 = 42 ∨ i.1 = 58
  · rw [if_pos c1]; exact n1
  rw [if_neg c1]
  by_cases c1 : 30 ≤ i.1 ∧ i.1 ≤ 35
  · rw [if_pos c1]; exact n2
  rw [if_neg c1]
  by_cases c1 : i.1 = 6
  · rw [if_pos c1]; exact sto
  rw [if_neg c1]
  by_cases c1 : i.1 = 19 ∨ i.1 = 20
  · rw [if_pos c1]; exact a1
  rw [if_neg c1]
  by_cases c1 : i.1 = 21 ∨ i.1 = 22
  · rw [if_pos c1]; exact a2
  rw [if_neg c1]
  by_cases c1 : i.1 = 38 ∨ i.1 = 39
  · rw [if_pos c1]; exact r2
  rw [if_neg c1]
  by_cases c1 : i.1 = 36 ∨ i.1 = 37 ∨ i.1 = 54 ∨ i.1 = 55 ∨ i.1 = 60 ∨ i.1 = 61
  · rw [if_pos c1]; exact r1
  rw [if_neg c1]
  by_cases c1 : i.1 = 43
  · rw [if_pos c1]; exact nr
  rw [if_neg c1]
  by_cases c1 : i.1 = 44
  · rw [if_pos c1]; exact nnr
  rw [if_neg c1]
  by_cases c1 : i.1 = 45
  · rw [if_pos c1]; exact row
  rw [if_neg c1]
  by_cases c1 : i.1 = 46
  · rw [if_pos c1]; exact f46 c1
  rw [if_neg c1]
  by_cases c1 : i.1 = 47
  · rw [if_pos c1]; exact f47 c1
  rw [if_neg c1]
  by_cases c1 : i.1 = 49
  · rw [if_pos c1]; exact f49 c1
  rw [if_neg c1, if_neg e]
  by_cases c1 : i.1 = 56
  · rw [if_pos c1]; exact th
  rw [if_neg c1]
  by_cases c1 : i.1 = 59
  · rw [if_pos c1]; exact rdo
  rw [if_neg c1]; exact nil
theorem callT_ind {P : List Wt → Prop} {W : List Cls} {c : Nat} {i : Ins} (n : P []) (a : P [wAny]) (o : P [(0, (2, (gc W c).1))]) (k : P [(0, (2, iK i))]) : P (callT W c i) := by
  unfold callT
  by_cases c1 : i.1 = 52
  · rw [if_pos c1]; exact n
  rw [if_neg c1]
  by_cases c2 : i.1 = 51
  · rw [if_pos c2]
    by_cases c3 : iM i = nMake
    · rw [if_pos c3]; exact a
    · rw [if_neg c3]; exact o
  · rw [if_neg c2]; exact k
/-- what is wanted is well formed -/
theorem wl_ok (h : TE G US A S W w c k br nq nl nf nk M) (hI : TI1 A S w nl nf nk nq q n i M) : ∀ t ∈ wlist W c (gmt (gc W c) k) i, twok A (co (gmt (gc W c) k)) t := by
  obtain ⟨⟨-, ⟨-, -, -, t4, t5, t6, t7⟩, -⟩, -, -, hop, -⟩ := hI
  have wN : twok A (co (gmt (gc W c) k)) wNum := Or.inl ⟨rfl, kwf0, by decide⟩
  have wR : twok A (co (gmt (gc W c) k)) wRow := Or.inl ⟨rfl, kwf1, by decide⟩
  have wF : twok A (co (gmt (gc W c) k)) wRef := Or.inr (Or.inl rfl)
  have wS : twok A (co (gmt (gc W c) k)) wSto := Or.inr (Or.inr (Or.inl rfl))
  have wA : twok A (co (gmt (gc W c) k)) wAny := Or.inr (Or.inr (Or.inr rfl))
  have cl : ∀ nm, nm ∈ A → twok A (co (gmt (gc W c) k)) (0, (2, nm)) := fun nm hm => Or.inl ⟨rfl, kwf_cls hm, by show (0 : Int) ≤ 2; decide⟩
  have fT : isFo i.1 → twok A (co (gmt (gc W c) k)) (0, iR i) := fun e => by
    have z := ty_kwf (A := A) (co := co (gmt (gc W c) k)) (hop.2.2.2.2.2.2 e) (t6 e).1
    exact Or.inl ⟨rfl, z.1, z.2⟩
  have kK : isFo i.1 ∨ isMo i.1 → iK i ∈ A := fun e => t4 (Or.inr e)
  have one : ∀ a, twok A (co (gmt (gc W c) k)) a → ∀ t ∈ [a], twok A (co (gmt (gc W c) k)) t := fun a ha t ht => by rw [List.mem_singleton.mp ht]; exact ha
  have two : ∀ a b, twok A (co (gmt (gc W c) k)) a → twok A (co (gmt (gc W c) k)) b → ∀ t ∈ [a, b], twok A (co (gmt (gc W c) k)) t := fun a b ha hb t ht => by
    rcases List.mem_cons.mp ht with z | z
    · rw [z]; exact ha
    · exact one b hb t z
  refine wlist_ind (P := fun ws => ∀ t ∈ ws, twok A (co (gmt (gc W c) k)) t) (one _ wN) (two _ _ wN wN) (one _ wS) (one _ wA) (two _ _ wA wA) (two _ _ wF wF) (one _ wF) (two _ _ wN wR) (fun t ht => ?_) (one _ wR) (fun e => one _ (cl _ (kK (by omega)))) (fun e => two _ _ (fT (by omega)) (cl _ (kK (by omega)))) (fun e => one _ (fT (by omega))) (fun e t ht => ?_) (one _ (cl _ h.fault.2)) (one _ ?_) (fun t ht => by cases ht)
  · rcases List.mem_cons.mp ht with z | z
    · rw [z]; exact wN
    · exact two _ _ wN wR t z
  · rcases List.mem_append.mp ht with z | z
    · obtain ⟨κ, hκ, eκ⟩ := List.mem_map.mp z
      rw [List.mem_reverse] at hκ
      subst eκ
      have y := ty_kwf (A := A) (co := co (gmt (gc W c) k)) (hop.2.2.2.2.1 κ hκ) ((t7 e).2.1 κ hκ).1
      exact Or.inl ⟨rfl, y.1, y.2⟩
    · exact callT_ind (P := fun ws => ∀ t ∈ ws, twok A (co (gmt (gc W c) k)) t) (fun t ht => by cases ht) (one _ wA) (one _ (cl _ (h.cl.1.2 c h.lc.1).2)) (one _ (cl _ (kK (Or.inr e)))) t z
  · by_cases e2 : (gmt (gc W c) k).2.2.1.1 = 1 ∨ (gmt (gc W c) k).2.2.1.1 = 2
    · rw [if_pos e2]
      obtain ⟨hko, hkd⟩ := h.hd.2.2.1.2.1
      exact Or.inl ⟨rfl, kwf_kd hkd hko, by show 0 ≤ (gmt (gc W c) k).2.2.1.1; omega⟩
    · rw [if_neg e2]; exact wF
theorem wl_len (hI : TI1 A S w nl nf nk nq q n i M) : (wlist W c (gmt (gc W c) k) i).length ≤ 7 := by
  obtain ⟨-, -, -, -, -, h6, -⟩ := hI
  have h6 : (iA i).length ≤ 6 := h6
  refine wlist_ind (P := fun ws => ws.length ≤ 7) (by decide) (by decide) (by decide) (by decide) (by decide) (by decide) (by decide) (by decide) (by decide) (by decide) (fun _ => by simp) (fun _ => by simp) (fun _ => by simp) (fun e => ?_) (by decide) (by simp) (by decide)
  rw [List.length_append, List.length_map, List.length_reverse]
  have := callT_ind (P := fun ws => ws.length ≤ 1) (W := W) (c := c) (i := i) (by decide) (by decide) (by simp) (by simp)
  omega
theorem ct_checkTaken {kn : Bool} (h : TE G US A S W w c k br nq nl nf nk M) (hS : TS A (gmt (gc W c) k) lo st kn M) (hI : TI1 A S w nl nf nk nq q n i M) (hX : takenS W c (gmt (gc W c) k) i lo st ≠ 0 → ∀ M', Fr FW M M' → Q (Int32.ofNat (takenS W c (gmt (gc W c) k) i lo st)) M') (hQ : takenS W c (gmt (gc W c) k) i lo st = 0 → ∀ M', TWl A (wlist W c (gmt (gc W c) k) i) M' → (wlist W c (gmt (gc W c) k) i).length ≤ st.length → Fr FW M M' → Q 0 M') : w_Model_checkTaken 0 (Int32.ofNat i.1) (Int32.ofNat q) Q M := by
  have hla := h.la
  have hm := h.mlt
  have hlr := h.lr
  have hsr := h.sr
  have hq := hI.2.1
  have o62 := hI.2.2.1
  have hok := wl_ok h hI
  have h7 := wl_len (W := W) (c := c) (k := k) hI
  obtain ⟨⟨m111, m212, m112⟩, ⟨l1, l2⟩, ⟨s1, s2, s3⟩, s4⟩ := hS
  have rA : nq ≤ mL M 300 (rdI M (sAs w)) := h.rl.1 (sAs w) (by simp)
  have eA : 3 ≤ i.1 ∧ i.1 ≤ 7 → mI M 300 (rdI M (sAs w)) q = Int32.ofNat (iL i) ∧ iL i ≤ 19 := fun e => by
    obtain ⟨⟨-, ⟨t1, -⟩, -⟩, -, -, hop, -⟩ := hI
    rw [if_neg (by omega), if_neg (by omega)] at t1
    obtain ⟨b, eb, hb⟩ := hop.1 e
    have e2 : iL i = b := by show (iV i).toNatClampNeg = b; rw [eb, oN_tnc (by omega)]
    exact ⟨by rw [show mI M 300 (rdI M (sAs w)) q = iV i from t1, e2, eb], by omega⟩
  generalize hws : wlist W c (gmt (gc W c) k) i = ws at hok h7 hQ
  -- behind the places of locals
  have main : ∀ v4, (3 ≤ i.1 ∧ i.1 ≤ 7 → v4 = Int32.ofNat (iL i) ∧ iL i < lr (gmt (gc W c) k)) → w_Model_checkTaken_j68 0 Q (Int32.ofNat i.1) (Int32.ofNat q) v4 M := by
    intro v4 hv4
    have n33 : ¬ ((3 ≤ i.1 ∧ i.1 ≤ 7) ∧ lr (gmt (gc W c) k) ≤ iL i) := fun z => by have := (hv4 z.1).2; omega
    unfold takenS at hX hQ
    rw [if_neg n33, hws] at hX hQ
    unfold w_Model_checkTaken_j68
    refine ct_listWants h m112 hI (fun M1 hW1 f1 => ?_)
    rw [hws] at hW1
    obtain ⟨w1, w2, w3⟩ := id hW1
    have e72 : mI M1 11 0 72 = Int32.ofNat st.length := (f1.I (f := 11) (k := 72) rfl 0).trans s2
    have e212 : mL M1 212 0 = 28 := (f1.L (f := 212) rfl 0).trans m212
    have e111 : mL M1 111 0 = 20 := (f1.L (f := 111) rfl 0).trans m111
    have k212 : ∀ j, j < st.length → mI M1 212 0 j = kt A (gk st j) ∧ kwf A (co (gmt (gc W c) k)) (gk st j) := fun j hj => ⟨(f1.Ia (f := 212) rfl rfl 0 j).trans (s1 j hj).1, (s1 j hj).2⟩
    have k111 : ∀ j, j < lo.length → mI M1 111 0 j = kt A (gk lo j) ∧ kwf A (co (gmt (gc W c) k)) (gk lo j) := fun j hj => ⟨(f1.Ia (f := 111) rfl rfl 0 j).trans (l1 j hj).1, (l1 j hj).2⟩
    have h1 := h.fr f1
    rw [w2, e72]
    by_cases c31 : ws.length ≤ st.length
    · refine itp (le_oN c31 (by omega)) ⟨ws.length + 1, ?_⟩
      have loop : ∀ m j (b : Bool), ws.length - j < m → j ≤ ws.length → wFst W st 0 ws = wFst W st j (ws.drop j) → (b || wUn W st j (ws.drop j)) = wUn W st 0 ws → w_Model_checkTaken_L94 0 Q m (Int32.ofNat i.1) v4 (b2 b) (Int32.ofNat j) M1 := by
        intro m
        induction m with
        | zero => intro j b hn; exact absurd hn (by omega)
        | succ m ih =>
          intro j b hn hj hF hU
          unfold w_Model_checkTaken_L94
          rw [w2]
          by_cases cj : ws.length ≤ j
          · refine itp (le_oN cj (by omega)) ?_
            rw [List.drop_eq_nil_of_le cj] at hF hU
            have hF0 : wFst W st 0 ws = 0 := hF
            have hUb : wUn W st 0 ws = b := by rw [← hU]; simp [wUn]
            have tk : takeS W st ws = if b then 39 else 0 := by rw [takeS_un c31 hF0, hUb]
            -- the end
            have j330 : ((if takeS W st ws ≠ 0 then takeS W st ws else if ((i.1 = 3 ∨ i.1 = 7) ∧ (gk lo (iL i)).1 ≠ 0) ∨ (i.1 = 4 ∧ rfK (gk lo (iL i)) = false ∧ umK (gk lo (iL i)) = false) then 34 else 0) = if b then 39 else 0) → w_Model_checkTaken_j330 0 Q (b2 b) M1 := fun e => by
              unfold w_Model_checkTaken_j330
              rw [e] at hX hQ
              cases b with
              | true => exact itn (by decide) (hX (by decide) M1 f1)
              | false => exact itp rfl (hQ rfl M1 hW1 c31 f1)
            have plain : ¬ (i.1 = 3 ∨ i.1 = 7 ∨ i.1 = 4) → w_Model_checkTaken_j330 0 Q (b2 b) M1 := fun hn => j330 (by
              rw [tk]
              cases b with
              | true => rfl
              | false =>
                rw [if_neg (by simp), if_neg (by
                  rintro (z | z)
                  · exact hn (by omega)
                  · exact hn (by omega))]; rfl)
            have loc : (i.1 = 3 ∨ i.1 = 7 ∨ i.1 = 4) → b = false ∧ v4 = Int32.ofNat (iL i) ∧ iL i < lo.length := fun e => by
              have e1 : ws = [] := by rw [← hws]; rcases e with e | e | e <;> simp [wlist, e]
              rw [e1] at hUb
              have z := hv4 (by omega)
              exact ⟨hUb.symm, z.1, by rw [l2]; exact z.2⟩
            unfold w_Model_checkTaken_j285 w_Model_checkTaken_j296
            by_cases c3 : i.1 = 3 ∨ i.1 = 7
            · obtain ⟨hb, hv, hl⟩ := loc (by omega)
              subst hb
              have tk0 : takeS W st ws = 0 := tk
              rw [if_neg (by omega)] at hX hQ
              obtain ⟨x1, x2⟩ := k111 (iL i) hl
              have go : vp_in v4 (mL M1 111 0) ∧ (if (mI M1 111 0 v4.toNatClampNeg) = (1 : Int32) then (if Int32.ofNat i.1 = (4 : Int32) then (vp_in v4 (mL M1 111 0) ∧ w_Model_isRef (mI M1 111 0 v4.toNatClampNeg) (fun r15 M14 => if r15 = 0 then (vp_in v4 (mL M14 111 0) ∧ w_Model_isUnmade (mI M14 111 0 v4.toNatClampNeg) (fun r19 M18 => if r19 = 0 then (Q (34 : Int32) M18) else (w_Model_checkTaken_j330 0 Q (b2 false) M18)) M14) else (w_Model_checkTaken_j330 0 Q (b2 false) M14)) M1) else (w_Model_checkTaken_j330 0 Q (b2 false) M1)) else (Q (34 : Int32) M1)) := by
                rw [hv, oN_tnc (by omega), x1, e111]
                refine ⟨(vp_oN (by omega)).mpr (by omega), ?_⟩
                by_cases c4 : (gk lo (iL i)).1 = 0
                · refine itp ((kt_e (n := 1) x2 hla (by omega)).mpr c4) (itn (ne_oN (b := 4) (by omega) (by omega) (by omega)) ?_)
                  unfold w_Model_checkTaken_j330
                  rw [if_neg (by
                    rintro (z | z)
                    · exact z.2 c4
                    · omega)] at hQ
                  exact itp rfl (hQ rfl M1 hW1 c31 f1)
                · rw [if_pos (Or.inl ⟨c3, c4⟩)] at hX
                  exact itn (fun z => c4 ((kt_e (n := 1) (m := 0) x2 hla (by omega)).mp z)) (hX (by decide) M1 f1)
              by_cases c5 : i.1 = 3
              · exact itp (by rw [c5]; rfl) go
              · exact itn (ne_oN (b := 3) c5 (by omega) (by omega)) (itp (by rw [show i.1 = 7 by omega]; rfl) go)
            · refine itn (ne_oN (b := 3) (by omega) (by omega) (by omega)) (itn (ne_oN (b := 7) (by omega) (by omega) (by omega)) ?_)
              by_cases c4 : i.1 = 4
              · obtain ⟨hb, hv, hl⟩ := loc (by omega)
                subst hb
                have tk0 : takeS W st ws = 0 := tk
                rw [if_neg (by omega)] at hX hQ
                obtain ⟨x1, x2⟩ := k111 (iL i) hl
                refine itp (by rw [c4]; rfl) ?_
                rw [hv, oN_tnc (by omega), x1, e111]
                refine ⟨(vp_oN (by omega)).mpr (by omega), ct_isRef x2 hla ?_⟩
                have fin : ¬ (rfK (gk lo (iL i)) = false ∧ umK (gk lo (iL i)) = false) → w_Model_checkTaken_j330 0 Q (b2 false) M1 := fun hn => by
                  unfold w_Model_checkTaken_j330
                  rw [if_neg (by
                    rintro (z | z)
                    · omega
                    · exact hn z.2)] at hQ
                  exact itp rfl (hQ rfl M1 hW1 c31 f1)
                cases c5 : rfK (gk lo (iL i)) with
                | true => exact itn (by decide) (fin (fun z => by rw [c5] at z; exact absurd z.1 (by decide)))
                | false =>
                  refine itp rfl ?_
                  rw [x1, e111]
                  refine ⟨(vp_oN (by omega)).mpr (by omega), ct_isUnmade x2 hla ?_⟩
                  cases c6 : umK (gk lo (iL i)) with
                  | true => exact itn (by decide) (fin (fun z => by rw [c6] at z; exact absurd z.2 (by decide)))
                  | false =>
                    rw [if_pos (Or.inr ⟨c4, c5, c6⟩)] at hX
                    exact itp rfl (hX (by decide) M1 f1)
              · exact itn (ne_oN (b := 4) c4 (by omega) (by omega)) (plain (by omega))
          · have hjl : j < ws.length := by omega
            refine itn (nle_oN (by omega) (by omega)) ?_
            rw [e72, show Int32.ofNat st.length - (1 : Int32) = Int32.ofNat (st.length - 1) from oN_sub (b := 1) (by omega), oN_sub (by omega), oN_tnc (k := st.length - 1 - j) (by omega), e212]
            obtain ⟨x1, x2⟩ := k212 (st.length - 1 - j) (by omega)
            have htk := hok (gwt ws j) (by
              show ws.getD j _ ∈ ws
              rw [List.getD_eq_getElem?_getD, List.getElem?_eq_getElem hjl]; exact List.getElem_mem hjl)
            obtain ⟨v1, v2, v3, v0⟩ := tw_v htk hla
            rw [x1, oN_tnc (k := j) (by omega), w3 j hjl, w1]
            refine ⟨(vp_oN (by omega)).mpr (by omega), _, rfl, (vp_oN (by omega)).mpr (by omega), ?_⟩
            rw [gwt_drop hjl, wFst_cons] at hF
            rw [gwt_drop hjl, wUn_cons] at hU
            have x2 : kwf A (co (gmt (gc W c) k)) (tp st j) := x2
            have ehead : kt A (gk st (st.length - 1 - j)) = kt A (tp st j) := rfl
            rw [ehead]
            generalize gwt ws j = t at htk v1 v2 v3 v0 hF hU
            generalize tp st j = κ at x2 hF hU
            -- it goes on, or a rule is broken
            have next : ∀ b' : Bool, (wOne W t κ = 0 ∧ b' = b ∨ wOne W t κ = 39 ∧ b' = true) → w_Model_checkTaken_j248 0 Q (w_Model_checkTaken_L94 0 Q m) (Int32.ofNat i.1) v4 (b2 b') (Int32.ofNat j) 0 M1 := fun b' hb' => by
              unfold w_Model_checkTaken_j248 w_Model_checkTaken_j268
              rw [show Int32.ofNat j + (1 : Int32) = Int32.ofNat (j + 1) from oN_add j 1]
              refine itp (by decide) (ih (j + 1) b' (by omega) (by omega) ?_ ?_)
              · rw [if_pos (by rcases hb' with z | z <;> omega)] at hF; exact hF
              · rw [← hU]
                rcases hb' with ⟨z, y⟩ | ⟨z, y⟩
                · rw [z, y]; rfl
                · rw [z, y]; simp
            have rule : ∀ v9 : Nat, v9 ≠ 0 → v9 ≤ 60 → wOne W t κ = (if v9 = 43 then 43 else 32) → w_Model_checkTaken_j248 0 Q (w_Model_checkTaken_L94 0 Q m) (Int32.ofNat i.1) v4 (b2 b) (Int32.ofNat j) (Int32.ofNat v9) M1 := fun v9 h0 h60 e => by
              unfold w_Model_checkTaken_j248
              refine itn (nle_oN (b := 0) (by omega) (by omega)) ?_
              rw [e, if_neg (by split <;> decide)] at hF
              have tk : takeS W st ws = if v9 = 43 then 43 else 32 := by rw [takeS_fst c31 (by rw [hF]; split <;> decide), hF]
              rw [tk, if_pos (by split <;> decide)] at hX
              have hX := hX (by split <;> decide) M1 f1
              by_cases c43 : v9 = 43
              · rw [if_pos c43] at hX
                exact itp (by rw [c43]; rfl) hX
              · rw [if_neg c43] at hX
                exact itn (ne_oN (b := 43) c43 (by omega) (by omega)) hX
            unfold w_Model_checkTaken_j164 w_Model_checkTaken_j170 w_Model_checkTaken_j193 w_Model_checkTaken_j233
            by_cases c3 : t.1 = 3
            · have e0 : wOne W t κ = 0 := by unfold wOne; rw [if_pos c3]
              refine itp (v1.mpr c3) ?_
              have := next b (Or.inl ⟨e0, rfl⟩)
              unfold w_Model_checkTaken_j248 at this
              rw [if_pos (by decide)] at this
              exact this
            refine itn (fun z => c3 (v1.mp z)) ?_
            by_cases c2 : t.1 = 2
            · have e0 : wOne W t κ = if rfK κ || umK κ then 0 else 32 := by unfold wOne; rw [if_neg c3, if_pos c2]
              refine itp (v2.mpr c2) (ct_isRef x2 hla ?_)
              cases c4 : rfK κ with
              | true =>
                rw [c4, Bool.true_or, if_pos rfl] at e0
                exact itn (by decide) (next b (Or.inl ⟨e0, rfl⟩))
              | false =>
                refine itp rfl (ct_isUnmade x2 hla ?_)
                cases c5 : umK κ with
                | true =>
                  rw [c4, c5] at e0
                  exact itn (by decide) (next b (Or.inl ⟨e0, rfl⟩))
                | false =>
                  rw [c4, c5, if_neg (by decide)] at e0
                  exact itp rfl (rule 37 (by decide) (by decide) e0)
            refine itn (fun z => c2 (v2.mp z)) ?_
            by_cases c0 : t.1 = 0 ∧ t.2.1 = 0
            · have e0 : wOne W t κ = if κ.1 = 0 then 0 else 32 := by unfold wOne; rw [if_neg c3, if_neg c2, if_pos c0]
              refine itp (v0.mpr c0) ?_
              by_cases c4 : κ.1 = 0
              · rw [if_pos c4] at e0
                exact itp ((kt_e (n := 1) x2 hla (by omega)).mpr c4) (next b (Or.inl ⟨e0, rfl⟩))
              · rw [if_neg c4] at e0
                exact itn (fun z => c4 ((kt_e (n := 1) (m := 0) x2 hla (by omega)).mp z)) (rule 37 (by decide) (by decide) e0)
            refine itn (fun z => c0 (v0.mp z)) (ct_isUnmade x2 hla ?_)
            have e0 : wOne W t κ = if umK κ then 39 else if t.1 = 1 then (if rfK κ then 0 else 32) else if fitK W κ t.2 = 0 then 0 else if fitK W κ t.2 = 43 then 43 else 32 := by unfold wOne; rw [if_neg c3, if_neg c2, if_neg c0]
            cases c4 : umK κ with
            | true =>
              rw [c4, if_pos rfl] at e0
              exact itn (by decide) (next true (Or.inr ⟨e0, rfl⟩))
            | false =>
              rw [c4, if_neg (by decide)] at e0
              refine itp rfl ?_
              by_cases c1 : t.1 = 1
              · rw [if_pos c1] at e0
                refine itp (v3.mpr c1) (ct_isRef x2 hla ?_)
                cases c5 : rfK κ with
                | true =>
                  rw [c5, if_pos rfl] at e0
                  exact itn (by decide) (next b (Or.inl ⟨e0, rfl⟩))
                | false =>
                  rw [c5, if_neg (by decide)] at e0
                  exact itp rfl (rule 37 (by decide) (by decide) e0)
              · rw [if_neg c1] at e0
                refine itn (fun z => c1 (v3.mp z)) ?_
                have tk0 : t.1 = 0 ∧ kwf A (co (gmt (gc W c) k)) t.2 := by
                  rcases htk with z | z | z | z
                  · exact ⟨z.1, z.2.1⟩
                  · omega
                  · omega
                  · omega
                rw [show tw A t = kt A t.2 by unfold tw; rw [if_pos tk0.1]]
                refine ct_fit h1.r45 h1.cl h1.1.2.2.1 hla x2 tk0.2 ?_
                have h60 := fitK_le (W := W) (a := κ) (b := t.2)
                by_cases c5 : fitK W κ t.2 = 0
                · rw [if_pos c5] at e0
                  rw [c5]
                  exact next b (Or.inl ⟨e0, rfl⟩)
                · rw [if_neg c5] at e0
                  exact rule _ c5 h60 e0
      exact loop _ 0 false (by omega) (by omega) (by rw [List.drop_zero]) (by rw [List.drop_zero]; rfl)
    · have tk : takeS W st ws = 31 := takeS_lt (by omega)
      rw [tk, if_pos (by decide)] at hX
      exact itn (nle_oN (by omega) (by omega)) (hX (by decide) M1 f1)
  have sl := h.sl (s := sAs w) (by simp)
  have hvp : vp_in (Int32.ofNat q) (mL M 300 (rdI M (sAs w))) := (vp_oN (by omega)).mpr (by omega)
  unfold w_Model_checkTaken w_Model_checkTaken_j27 w_Model_checkTaken_j32
  by_cases cl : 3 ≤ i.1 ∧ i.1 ≤ 7
  · obtain ⟨ea, h19⟩ := eA cl
    have body : ∃ i2, (mR M 11 0 45) = some (12, i2) ∧ ∃ i3, (mR M 12 i2 31) = some (300, i3) ∧ vp_in (Int32.ofNat q) (mL M 300 i3) ∧ if (1 : Int32) = 0 then (w_Model_checkTaken_j68 0 Q (Int32.ofNat i.1) (Int32.ofNat q) (mI M 300 i3 (Int32.ofNat q).toNatClampNeg) M) else (∃ i48, (mR M 11 0 45) = some (12, i48) ∧ vp_in (mI M 11 0 75) (mL M 148 i48) ∧ if (mI M 300 i3 (Int32.ofNat q).toNatClampNeg) < (mI M 148 i48 (mI M 11 0 75).toNatClampNeg) then (w_Model_checkTaken_j68 0 Q (Int32.ofNat i.1) (Int32.ofNat q) (mI M 300 i3 (Int32.ofNat q).toNatClampNeg) M) else (Q (33 : Int32) M)) := by
      refine ⟨w, h.r45, _, sl, hvp, itn (by decide) ⟨w, h.r45, ?_⟩⟩
      rw [oN_tnc (k := q) (by omega), h.m75, oN_tnc (k := 12 * c + k) (by omega), hlr.1, h.ml (by omega) (by omega)]
      refine ⟨(vp_oN (by omega)).mpr hm, ?_⟩
      have ea' : mI M (sAs w).2.2.2 (rdI M (sAs w)) q = Int32.ofNat (iL i) := ea
      by_cases c33 : iL i < lr (gmt (gc W c) k)
      · exact itp (by rw [ea']; exact lt_oN c33 (by omega)) (main _ (fun _ => ⟨ea', c33⟩))
      · refine itn (by rw [ea']; exact nlt_oN (by omega) (by omega)) ?_
        have e33 : takenS W c (gmt (gc W c) k) i lo st = 33 := by unfold takenS; rw [if_pos ⟨cl, by omega⟩]
        rw [e33] at hX
        exact hX (by decide) M (Fr.rf _ _)
    by_cases c3 : i.1 = 3
    · exact itp (by rw [c3]; rfl) body
    refine itn (ne_oN (b := 3) c3 (by omega) (by omega)) ?_
    by_cases c4 : i.1 = 4
    · exact itp (by rw [c4]; rfl) body
    refine itn (ne_oN (b := 4) c4 (by omega) (by omega)) ?_
    by_cases c5 : i.1 = 5
    · exact itp (by rw [c5]; rfl) body
    refine itn (ne_oN (b := 5) c5 (by omega) (by omega)) ?_
    by_cases c6 : i.1 = 6
    · exact itp (by rw [c6]; rfl) body
    exact itn (ne_oN (b := 6) c6 (by omega) (by omega)) (itp (by rw [show i.1 = 7 by omega]; rfl) body)
  · refine itn (ne_oN (b := 3) (by omega) (by omega) (by omega)) (itn (ne_oN (b := 4) (by omega) (by omega) (by omega)) (itn (ne_oN (b := 5) (by omega) (by omega) (by omega)) (itn (ne_oN (b := 6) (by omega) (by omega) (by omega)) (itn (ne_oN (b := 7) (by omega) (by omega) (by omega)) ⟨w, h.r45, _, sl, hvp, itp rfl ?_⟩))))
    exact main _ (fun z => absurd z cl)
end
