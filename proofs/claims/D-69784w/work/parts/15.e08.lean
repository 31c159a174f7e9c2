/-! B: linking in the twin: behind parent and faces -/
theorem ownI_make {x : Mth} (hx : x.1 ≠ nMake) : ∀ {L : List Mth} {k : Nat}, (∀ m ∈ L, m.1 = nMake) → ownI x k L = none
  | [], _, _ => rfl
  | y :: L, k, h => by
    unfold ownI
    rw [if_neg (fun z => hx (z.1.symm.trans (h y (List.mem_cons_self ..))))]
    exact ownI_make hx (fun m hm => h m (List.mem_cons_of_mem _ hm))
theorem chkC_dropD {W : List Cls} {c : Nat} {L : List Mth} {d : Mth} {j : Nat} (h : j < L.length) : chkC W c j (L.drop j) = if (chkM W c (L.getD j d)).1 = 0 then chkC W c (j + 1) (L.drop (j + 1)) else some (j, (chkM W c (L.getD j d)).1, (chkM W c (L.getD j d)).2) := by
  have e : L.drop j = L.getD j d :: L.drop (j + 1) := by
    rw [List.drop_eq_getElem_cons h]
    congr 1
    rw [List.getD_eq_getElem?_getD, List.getElem?_eq_getElem h]; rfl
  rw [e]; rfl
section
variable {G : List Sl} {US : UST} {A : List Nm} {S : List Sg} {W : List Cls} {w c k u p : Nat} {br : Int32} {nq nl nf nk : Nat} {M M' : Mem} {s : LkS} {Q : Int32 → Mem → Prop} {K : Nat → Int32 → (Int32 → Mem → Prop) → Mem → Prop}
/-- methods are checked -/
theorem ct_lcheck (h : LKt G US A S W w br nq nl nf nk s M) (hWF : WF W) (hc : c < W.length) (h21 : 21 ≤ c) (hpar : (gc W c).2.1 ≠ []) (hN : chkC W c 0 (gc W c).2.2.2.2.2 = none → ∀ M', LKt G US A S W w br nq nl nf nk s M' → LoL w M M' → Q 0 M') (hX : ∀ j r a, chkC W c 0 (gc W c).2.2.2.2.2 = some (j, r, a) → ∀ M', LKt G US A S W w br nq nl nf nk (s.1, Int32.ofNat c, Int32.ofNat j, Int32.ofNat a) M' → LoL w M M' → Q (100 * Int32.ofNat r + 17) M') : ∃ n, wk_Model_linkCode_L395 K 0 Q n (Int32.ofNat c) 0 M := by
  have loop : ∀ n j M1, LKt G US A S W w br nq nl nf nk s M1 → LoL w M M1 → (gc W c).2.2.2.2.2.length - j < n → j ≤ (gc W c).2.2.2.2.2.length → chkC W c 0 (gc W c).2.2.2.2.2 = chkC W c j ((gc W c).2.2.2.2.2.drop j) → wk_Model_linkCode_L395 K 0 Q n (Int32.ofNat c) (Int32.ofNat j) M1 := by
    intro n
    induction n with
    | zero => intro j M1 _ _ hn; exact absurd hn (by omega)
    | succ n ih =>
      intro j M1 h1 lo1 hn hj he
      have hb := h1.1
      have h51 := hb.l51
      obtain ⟨e136, h12⟩ := hb.mcn hc
      have l136 : mL M1 136 w = 51 := hb.1.1.1.1.2.2.2.2.1
      unfold wk_Model_linkCode_L395
      refine ⟨w, hb.r45, ?_⟩
      rw [oN_tnc (k := c) (by omega), e136, l136]
      refine ⟨(vp_oN (by omega)).mpr (by omega), ?_⟩
      by_cases cj : (gc W c).2.2.2.2.2.length ≤ j
      · rw [List.drop_eq_nil_of_le cj] at he
        exact itp (le_oN (by omega) (by omega)) (hN he M1 h1 lo1)
      have hjl : j < (gc W c).2.2.2.2.2.length := by omega
      rw [chkC_dropD (d := ([], [], (0, []), 0, 0, 0, [], [])) hjl] at he
      have he : chkC W c 0 (gc W c).2.2.2.2.2 = if (chkM W c (gmt (gc W c) j)).1 = 0 then chkC W c (j + 1) ((gc W c).2.2.2.2.2.drop (j + 1)) else some (j, (chkM W c (gmt (gc W c) j)).1, (chkM W c (gmt (gc W c) j)).2) := he
      have hm : gmt (gc W c) j ∈ (gc W c).2.2.2.2.2 := by
        show (gc W c).2.2.2.2.2.getD j _ ∈ _
        rw [List.getD_eq_getElem?_getD, List.getElem?_eq_getElem hjl]; exact List.getElem_mem hjl
      have h60 := chkM_le (W := W) (c := c) (x := gmt (gc W c) j)
      refine itn (nle_oN (by omega) (by omega)) ?_
      rw [show (12 : Int32) * Int32.ofNat c = Int32.ofNat (12 * c) from oN_mul 12 c, oN_add]
      refine mf_w_Model_check (Q := fun r M2 => ((chkM W c (gmt (gc W c) j)).1 = 0 ∧ r = 0) ∨ ((chkM W c (gmt (gc W c) j)).1 ≠ 0 ∧ r = Int32.ofNat (chkM W c (gmt (gc W c) j)).1 ∧ mI M2 11 0 74 = Int32.ofNat (chkM W c (gmt (gc W c) j)).2)) (fun r M2 hf hp => ?_) (ct_check hb h1.2.2.2.1 h1.2.2.2.2 hc hjl (hWF c h21 hc _ hm) hpar (fun e M2 => Or.inl ⟨e, rfl⟩) (fun e M2 e74 => Or.inr ⟨e, rfl, e74⟩))
      obtain ⟨h2, lo2⟩ := h1.fr hf
      rcases hp with ⟨e, er⟩ | ⟨e, er, e74⟩
      · rw [if_pos e] at he
        rw [er, show Int32.ofNat j + (1 : Int32) = Int32.ofNat (j + 1) from oN_add j 1]
        exact itp (by decide) (ih (j + 1) M2 h2 (lo1.trans lo2) (by omega) (by omega) he)
      · rw [if_neg e] at he
        rw [er]
        refine itn (nle_oN (b := 0) (by omega) (by omega)) ?_
        obtain ⟨h3, lo3⟩ := h2.w156 (a := Int32.ofNat c) (b := Int32.ofNat j) (d := Int32.ofNat (chkM W c (gmt (gc W c) j)).2)
        have l156 := h2.2.2.1.1
        refine ⟨w, h2.1.r45, by rw [l156]; exact (vp_oN (a := 0) (by omega)).mpr (by omega), w, h2.1.r45, by show vp_in _ (mL M2 156 w); rw [l156]; exact (vp_oN (a := 1) (by omega)).mpr (by omega), _, rfl, w, h2.1.r45, by show vp_in _ (mL M2 156 w); rw [l156]; exact (vp_oN (a := 2) (by omega)).mpr (by omega), ?_⟩
        have e74' : mI (sI (sI M2 156 w (0 : Int32).toNatClampNeg (Int32.ofNat c)) 156 w (1 : Int32).toNatClampNeg (Int32.ofNat j)) 11 0 74 = Int32.ofNat (chkM W c (gmt (gc W c) j)).2 := by
          simp only [mI_sI, mI_sR, mI_sJ, mR_sI, mL_sI, mL_sR, mR_sR, Nat.reduceEqDiff, and_false, false_and, if_false, and_self, true_and, and_true, if_true]; exact e74
        rw [e74']
        exact hX j _ _ he _ h3 ((lo1.trans lo2).trans lo3)
  exact ⟨(gc W c).2.2.2.2.2.length + 1, loop _ 0 M h (LoL.rf _ _) (by omega) (by omega) (by rw [List.drop_zero])⟩
/-- behind parent and faces -/
theorem ct_linkEnd (h : LKt G US A S W w br nq nl nf nk s M) (hWF : WF W) (hI : LInv W s.1) (hc : c < W.length) (h21 : 21 ≤ c) (hr : ¬ ring W c) (hp : fnd W (gc W c).2.1 = some p) (hp1 : s.1 p = 1)
    (hQ : ∀ M', LKt G US A S W w br nq nl nf nk (lkEnd br W c s).2 M' → LoL w M M' → Q (if (lkEnd br W c s).1 = 1 then 0 else (lkEnd br W c s).1) M') : ∃ n, wk_Model_linkCode_L220 K 0 Q n (Int32.ofNat c) 0 M := by
  have hb := h.1
  have h51 := hb.l51
  have hcl := hb.cl
  have hla := hb.2.2.1
  have c0 : c ≠ 0 := by omega
  have hKs : TKs A M := hb.1.2.2.1
  obtain ⟨e136, h12⟩ := hb.mcn hc
  have l136 : mL M 136 w = 51 := hb.1.1.1.1.2.2.2.2.1
  obtain ⟨u0, hu0, hul0, hu10⟩ : ∃ u, upW W c = some u ∧ u < W.length ∧ (u = 0 ∨ s.1 u = 1) := by
    unfold upW
    rw [if_neg c0]
    by_cases c1 : isFc W c = true
    · rw [if_pos c1]
      exact ⟨0, rfl, by omega, Or.inl rfl⟩
    · rw [if_neg c1]
      exact ⟨p, hp, fnd_lt hp, Or.inr hp1⟩
  have hpar : (gc W c).2.1 ≠ [] := fun z => by
    rw [z, fnd_nil (fun d hd => (hcl.2.2 d hd).1.2.2)] at hp; cases hp
  unfold lkEnd chFin at hQ
  rw [hu0] at hQ
  have loop : ∀ n j, (gc W c).2.2.2.2.2.length - j < n → j ≤ (gc W c).2.2.2.2.2.length → (brk br 4 = true → (gc W c).2.2.2.2.2.any (fun x => plainM x && chUp W x 52 (some u0)) = ((gc W c).2.2.2.2.2.drop j).any (fun x => plainM x && chUp W x 52 (some u0))) → wk_Model_linkCode_L220 K 0 Q n (Int32.ofNat c) (Int32.ofNat j) M := by
    intro n
    induction n with
    | zero => intro j hn; exact absurd hn (by omega)
    | succ n ih =>
      intro j hn hj he
      unfold wk_Model_linkCode_L220
      refine ⟨w, hb.r45, ?_⟩
      rw [oN_tnc (k := c) (by omega), e136, l136]
      refine ⟨(vp_oN (by omega)).mpr (by omega), ?_⟩
      by_cases cj : (gc W c).2.2.2.2.2.length ≤ j
      · refine itp (le_oN (by omega) (by omega)) ?_
        rw [List.drop_eq_nil_of_le cj] at he
        have hz : (brk br 4 && (gc W c).2.2.2.2.2.any (fun x => plainM x && chUp W x 52 (some u0))) = false := by
          cases eb : brk br 4 with
          | false => rfl
          | true => rw [he eb]; rfl
        rw [hz] at hQ
        simp only [Bool.false_eq_true, if_false] at hQ
        refine ct_lcheck h hWF hc h21 hpar (fun e M2 h2 lo2 => ?_) (fun j r a e M2 h2 lo2 => ?_)
        · rw [e] at hQ; exact hQ M2 h2 lo2
        · rw [e] at hQ
          have hQ := hQ M2 h2 lo2
          have h60 : r ≤ 60 := by
            have : ∀ L k, chkC W c k L = some (j, r, a) → r ≤ 60 := by
              intro L
              induction L with
              | nil => intro k z; cases z
              | cons x L ihL =>
                intro k z
                unfold chkC at z
                split at z
                · exact ihL _ z
                · cases z; exact chkM_le
            exact this _ _ e
          have hne : ¬ (100 * Int32.ofNat r + 17 : Int32) = 1 := by
            rw [show (100 : Int32) * Int32.ofNat r = Int32.ofNat (100 * r) from oN_mul 100 r, show Int32.ofNat (100 * r) + (17 : Int32) = Int32.ofNat (100 * r + 17) from oN_add (100 * r) 17]
            exact ne_oN (b := 1) (by omega) (by omega) (by omega)
          replace hQ : Q (if (100 * Int32.ofNat r + 17 : Int32) = 1 then 0 else 100 * Int32.ofNat r + 17) M2 := hQ
          rw [if_neg hne] at hQ
          exact hQ
      have hjl : j < (gc W c).2.2.2.2.2.length := by omega
      obtain ⟨⟨y1, y2⟩, ⟨y3, y4⟩, ⟨y5, y6, -⟩, y7, -⟩ := hb.hd hc hjl
      have ed : (gc W c).2.2.2.2.2.drop j = gmt (gc W c) j :: (gc W c).2.2.2.2.2.drop (j + 1) := by
        rw [List.drop_eq_getElem_cons hjl]
        congr 1
        show _ = (gc W c).2.2.2.2.2.getD j _
        rw [List.getD_eq_getElem?_getD, List.getElem?_eq_getElem hjl]; rfl
      rw [ed, List.any_cons] at he
      refine itn (nle_oN (by omega) (by omega)) ⟨w, hb.r45, ?_⟩
      rw [show (12 : Int32) * Int32.ofNat c = Int32.ofNat (12 * c) from oN_mul 12 c, oN_add, oN_tnc (k := 12 * c + j) (by omega), y1, hb.ml (by omega) (by omega), hKs.make.1, hKs.start.1]
      refine ⟨(vp_oN (by omega)).mpr (by omega), ?_⟩
      have next : (brk br 4 = true → (plainM (gmt (gc W c) j) && chUp W (gmt (gc W c) j) 52 (some u0)) = false) → wk_Model_linkCode_j387 K 0 Q (wk_Model_linkCode_L220 K 0 Q n) (Int32.ofNat c) (Int32.ofNat j) M := fun e => by
        unfold wk_Model_linkCode_j387
        rw [show Int32.ofNat j + (1 : Int32) = Int32.ofNat (j + 1) from oN_add j 1]
        exact ih (j + 1) (by omega) (by omega) (fun hbk => by rw [he hbk, e hbk, Bool.false_or])
      have found : brk br 4 = true → (plainM (gmt (gc W c) j) && chUp W (gmt (gc W c) j) 52 (some u0)) = true → Q 2515 M := fun hbk e => by
        have he := he hbk
        rw [e, Bool.true_or] at he
        rw [he, hbk] at hQ
        exact hQ M h (LoL.rf _ _)
      -- the way up
      have way : plainM (gmt (gc W c) j) = true → brk br 4 = true → ∀ m (u : Option Nat) r, (∀ d, u = some d → (d = 0 ∨ s.1 d = 1) ∧ d < W.length ∧ (d ≠ 0 → rk W d < r)) → r ≤ 52 → (u = none ∨ r + 2 < m) → 0 < m → (chUp W (gmt (gc W c) j) 52 (some u0) = chUp W (gmt (gc W c) j) r u) → wk_Model_linkCode_L304 K 0 Q (wk_Model_linkCode_L220 K 0 Q n) m (Int32.ofNat c) (Int32.ofNat j) (Int32.ofNat (12 * c + j)) 1 (oC u) M := by
        intro hpl hbk m
        have hnm : (gmt (gc W c) j).1 ≠ nMake := by
          unfold plainM at hpl
          rw [Bool.and_eq_true] at hpl
          exact of_decide_eq_true hpl.1
        induction m with
        | zero => intro u r _ _ _ hn; exact absurd hn (by omega)
        | succ m ihm =>
          intro u r hu hr52 hn' _ hch
          unfold wk_Model_linkCode_L304
          refine itn (by decide) ?_
          rw [lit32 4]
          refine ct_isOff hb.1.1.1.1 ?_
          rw [hbk]
          refine itp rfl ?_
          cases u with
          | none =>
            refine itp (show (-2 : Int32) < 0 by decide) (next (fun _ => ?_))
            rw [hch]
            cases r <;> simp [chUp]
          | some d =>
            obtain ⟨hd1, hdl, hrk⟩ := hu d rfl
            have hn' : r + 2 < m + 1 := hn'.resolve_left (fun z => by cases z)
            refine itn (oN_nonneg (by omega)) ⟨w, hb.r45, by rw [hb.ml (by omega) (by omega)]; exact (vp_oN (by omega)).mpr (by omega), w, hb.r45, by rw [hb.ml (by omega) (by omega)]; exact (vp_oN (by omega)).mpr (by omega), ?_⟩
            rw [oN_tnc (k := 12 * c + j) (by omega), y1, y3]
            refine ct_methodIn hb hdl y2 y4 ⟨y5, y6⟩ ?_
            by_cases d0 : d = 0
            · -- Thing: it makes only
              rw [d0, ownI_make hnm hI.1.1]
              refine itp (show (-2 : Int32) < 0 by decide) ?_
              unfold wk_Model_linkCode_j376
              refine ct_parentOf hb.r45 hcl (by omega) ?_
              have hup : upW W 0 = none := by unfold upW; rw [if_pos rfl]
              rw [hup]
              refine ihm none 0 (fun d z => by cases z) (by omega) (Or.inl rfl) (by omega) ?_
              rw [hch, d0]
              cases r <;> rfl
            · have hrk := hrk d0
              obtain ⟨r', er⟩ : ∃ r', r = r' + 1 := ⟨r - 1, by omega⟩
              subst er
              have hcu : chUp W (gmt (gc W c) j) (r' + 1) (some d) = if d = 0 then false else (match ownI (gmt (gc W c) j) 0 (gc W d).2.2.2.2.2 with
                | none => false
                | some j' => decide ((gmt (gc W d) j').2.2.2.1 &&& 7 = 2)) || chUp W (gmt (gc W c) j) r' (upW W d) := rfl
              rw [hcu, if_neg d0] at hch
              obtain ⟨u', eu, hu'l, hu'⟩ := hI.up hdl (by rcases hd1 with z | z; exact absurd z d0; exact z) d0
              have more : (match ownI (gmt (gc W c) j) 0 (gc W d).2.2.2.2.2 with
                | none => false
                | some j' => decide ((gmt (gc W d) j').2.2.2.1 &&& 7 = 2)) = false → wk_Model_linkCode_j376 K 0 Q (wk_Model_linkCode_L220 K 0 Q n) (wk_Model_linkCode_L304 K 0 Q (wk_Model_linkCode_L220 K 0 Q n) m) (Int32.ofNat c) (Int32.ofNat j) (Int32.ofNat (12 * c + j)) 1 (Int32.ofNat d) M := fun e => by
                rw [e, Bool.false_or] at hch
                unfold wk_Model_linkCode_j376
                refine ct_parentOf hb.r45 hcl hdl (ihm (upW W d) r' (fun d' z => ?_) (by omega) (Or.inr (by omega)) (by omega) hch)
                rw [eu] at z
                cases z
                refine ⟨hu'.elim Or.inl (fun y => Or.inr y.1), hu'l, fun z => ?_⟩
                rcases hu' with y | y
                · exact absurd y z
                · omega
              cases eo : ownI (gmt (gc W c) j) 0 (gc W d).2.2.2.2.2 with
              | none => exact itp (show (-2 : Int32) < 0 by decide) (more (by rw [eo]))
              | some j' =>
                have hj' := ownI_lt eo
                have hj'l : j' < (gc W d).2.2.2.2.2.length := by omega
                obtain ⟨-, d12⟩ := hb.mcn hdl
                have z7 := (hb.hd hdl hj'l).2.2.2.1
                refine itn (oN_nonneg (by omega)) ⟨w, hb.r45, ?_⟩
                rw [oN_tnc (k := 12 * d + j') (by omega), z7, hb.ml (by omega) (by omega)]
                refine ⟨(vp_oN (by omega)).mpr (by omega), ?_⟩
                rw [eo] at hch
                by_cases c7 : (gmt (gc W d) j').2.2.2.1 &&& 7 = 2
                · refine itp c7 (found hbk ?_)
                  rw [hpl, hch]
                  show (true && (decide ((gmt (gc W d) j').2.2.2.1 &&& 7 = 2) || _)) = true
                  rw [decide_eq_true c7]; rfl
                · exact itn c7 (more (by rw [eo]; exact decide_eq_false c7))
      have start : ∀ (b : Bool), b = plainM (gmt (gc W c) j) → wk_Model_linkCode_j295 K 0 Q (wk_Model_linkCode_L220 K 0 Q n) (Int32.ofNat c) (Int32.ofNat j) (Int32.ofNat (12 * c + j)) (b2 b) M := fun b hb' => by
        unfold wk_Model_linkCode_j295
        refine ct_parentOf hb.r45 hcl hc ?_
        rw [hu0]
        have := rk_le (W := W) (c := u0)
        cases b with
        | false =>
          refine ⟨1, ?_⟩
          unfold wk_Model_linkCode_L304
          exact itp rfl (next (fun _ => by rw [← hb']; rfl))
        | true =>
          cases eb : brk br 4 with
          | true => exact ⟨55, way hb'.symm eb 55 (some u0) 52 (fun d z => by cases z; exact ⟨hu10, hul0, fun _ => by omega⟩) (by omega) (Or.inr (by omega)) (by omega) rfl⟩
          | false =>
            refine ⟨1, ?_⟩
            unfold wk_Model_linkCode_L304
            refine itn (by decide) ?_
            rw [lit32 4]
            refine ct_isOff hb.1.1.1.1 ?_
            rw [eb]
            exact itn (by decide) (next (fun z => by rw [eb] at z; cases z))
      unfold wk_Model_linkCode_j294
      unfold plainM at start
      by_cases d1 : (gmt (gc W c) j).1 = nMake
      · exact itp (by rw [d1]) (start false (by rw [decide_eq_false (fun z => z d1)]; rfl))
      refine itn (fun z => d1 ((nc_inj (by omega) y2 hKs.make.2).mp z)) ⟨w, hb.r45, by rw [hb.ml (by omega) (by omega)]; exact (vp_oN (by omega)).mpr (by omega), ?_⟩
      rw [y1]
      by_cases d2 : (gmt (gc W c) j).1 = nStart
      · exact itp (by rw [d2]) (start false (by rw [decide_eq_true d1, decide_eq_false (p := (gmt (gc W c) j).1 ≠ nStart) (fun z => z d2)]; rfl))
      refine itn (fun z => d2 ((nc_inj (by omega) y2 hKs.start.2).mp z)) ⟨w, hb.r45, by rw [hb.ml (by omega) (by omega)]; exact (vp_oN (by omega)).mpr (by omega), ?_⟩
      rw [y7]
      by_cases d3 : (gmt (gc W c) j).2.2.2.1 &&& 5 = 0
      · exact itp d3 (start true (by rw [decide_eq_true d1, decide_eq_true d2, decide_eq_true d3]; rfl))
      · exact itn d3 (start false (by rw [decide_eq_true d1, decide_eq_true d2, decide_eq_false d3]; rfl))
  exact ⟨(gc W c).2.2.2.2.2.length + 1, loop _ 0 (by omega) (by omega) (fun _ => by rw [List.drop_zero])⟩
end
