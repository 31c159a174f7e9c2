/-! B: finding methods in the works: faces -/
def okM (W : List Cls) (x : Mth) (msk : Int32) (q : Nat × Nat) : Prop := q.1 < W.length ∧ q.2 < (gc W q.1).2.2.2.2.2.length ∧ lik (gmt (gc W q.1) q.2) x ∧ (gmt (gc W q.1) q.2).2.2.2.1 &&& msk = 0
theorem pkM_z {W : List Cls} {x : Mth} {msk : Int32} {o : Option (Nat × Nat)} {d : Nat} (e : ownQ x msk (gc W d).2.2.2.2.2 = none) : pkM W x msk o d = o := by unfold pkM; rw [e]
theorem pkM_n {W : List Cls} {x : Mth} {msk : Int32} {d i : Nat} (e : ownQ x msk (gc W d).2.2.2.2.2 = some i) : pkM W x msk none d = some (d, i) := by unfold pkM; rw [e]
theorem pkM_s {W : List Cls} {x : Mth} {msk : Int32} {q : Nat × Nat} {d i : Nat} (e : ownQ x msk (gc W d).2.2.2.2.2 = some i) : pkM W x msk (some q) d = if ¬ (gmt (gc W q.1) q.2).2.2.2.1 &&& 8 = 0 ∧ (gmt (gc W d) i).2.2.2.1 &&& 8 = 0 then some (d, i) else some q := by unfold pkM; rw [e]
theorem cSt.w62 {w : Nat} {M : Mem} {y : Int32} (h : cSt w M) : cSt w (sI M 5 w 62 y) := ⟨h.1, fun i hi => by
  rw [mI_sI, if_neg (fun z => absurd z.1 (by decide)), mI_sI, if_neg (fun z => absurd z.2.2 (by decide))]
  exact h.2 i hi⟩
theorem pkM_ok {W : List Cls} {x : Mth} {msk : Int32} {o : Option (Nat × Nat)} {d : Nat} (ho : ∀ q, o = some q → okM W x msk q) (hd : d < W.length) : ∀ q, pkM W x msk o d = some q → okM W x msk q := by
  intro q h
  unfold pkM at h
  split at h
  · exact ho q h
  · rename_i j e
    have hq : okM W x msk (d, j) := ⟨hd, ownQ_lt e⟩
    split at h
    · cases h; exact hq
    · rename_i q'
      split at h
      · cases h; exact hq
      · exact ho q h
theorem pk_ok {W : List Cls} {x : Mth} {msk : Int32} : ∀ {v : List Nat} {o : Option (Nat × Nat)}, (∀ d ∈ v, d < W.length) → (∀ q, o = some q → okM W x msk q) → ∀ q, v.foldl (pkM W x msk) o = some q → okM W x msk q
  | [], o, _, ho => ho
  | d :: v, o, hv, ho => pk_ok (v := v) (fun e he => hv e (List.mem_cons_of_mem _ he)) (pkM_ok ho (hv d List.mem_cons_self))
theorem mthUp_ok {W : List Cls} {x : Mth} {msk : Int32} : ∀ n u, (∀ d, u = some d → d < W.length) → ∀ q, mthUp W x msk n u = some q → okM W x msk q
  | 0, _, _, q, h => by cases h
  | _ + 1, none, _, q, h => by cases h
  | n + 1, some u, hu, q, h => by
    unfold mthUp at h
    split at h
    · rename_i j e
      cases h
      exact ⟨hu u rfl, ownQ_lt e⟩
    · exact mthUp_ok n _ (fun d hd => up_lt (hu u rfl) hd) q h
theorem lsS_lt {K : Nat → List Nat → List Nat} {W : List Cls} (hK : ∀ d v, d < W.length → (∀ e ∈ v, e < W.length) → ∀ e ∈ K d v, e < W.length) : ∀ fs v, (∀ e ∈ v, e < W.length) → ∀ e ∈ lsS K W fs v, e < W.length
  | [], v, hv => hv
  | f :: fs, v, hv => by
    unfold lsS
    split
    · exact lsS_lt hK fs v hv
    · rename_i d ed
      split
      · exact lsS_lt hK fs v hv
      · refine lsS_lt hK fs _ (hK d _ (fnd_lt ed) (fun e he => ?_))
        rcases List.mem_append.mp he with q | q
        · exact hv e q
        · rw [List.mem_singleton.mp q]; exact fnd_lt ed
theorem lsO_lt {W : List Cls} : ∀ n c v, (∀ e ∈ v, e < W.length) → ∀ e ∈ lsO W n c v, e < W.length
  | 0, _, _, hv => hv
  | n + 1, _, _, hv => lsS_lt (fun d v _ h => lsO_lt n d v h) _ _ hv
theorem lsF_lt {W : List Cls} : ∀ n u v, (∀ e ∈ v, e < W.length) → ∀ e ∈ lsF W n u v, e < W.length
  | 0, _, _, hv => hv
  | _ + 1, none, _, hv => hv
  | n + 1, some u, v, hv => lsF_lt n _ _ (lsO_lt 60 u v hv)
theorem mthW_ok {W : List Cls} {x : Mth} {msk : Int32} {c : Nat} (hc : c < W.length) {q : Nat × Nat} (h : mthW W x msk c = some q) : okM W x msk q := by
  unfold mthW at h
  split at h
  · rename_i e
    cases h
    exact mthUp_ok 52 _ (fun d hd => by cases hd; exact hc) _ e
  · exact pk_ok (lsF_lt 52 _ [] (fun e he => absurd he List.not_mem_nil)) (fun q z => by cases z) q h
theorem lsS_drop {K : Nat → List Nat → List Nat} {W : List Cls} {L : List Nm} {v : List Nat} {j : Nat} (h : j < L.length) : lsS K W (L.drop j) v = match fnd W (L.getD j []) with
    | none => lsS K W (L.drop (j + 1)) v
    | some d => if d ∈ v then lsS K W (L.drop (j + 1)) v else lsS K W (L.drop (j + 1)) (K d (v ++ [d])) := by
  have e : L.drop j = L.getD j [] :: L.drop (j + 1) := by
    rw [List.drop_eq_getElem_cons h]
    congr 1
    rw [List.getD_eq_getElem?_getD, List.getElem?_eq_getElem h]; rfl
  rw [e]; rfl
section
variable {A : List Nm} {W : List Cls} {w c p r : Nat} {br : Int32} {nq nk np nh nr : Nat} {M M' : Mem} {Q : Int32 → Mem → Prop} {v : List Nat} {k : Nm} {x : Mth} {L : Nat → Int32} {msk : Int32}
theorem oM_lt (h : CWx A W w br nq nk np nh nr M) {q : Nat × Nat} (hq : okM W x msk q) : oM W (some q) = Int32.ofNat (moff W q.1 + q.2) ∧ moff W q.1 + q.2 < 381 ∧ cHd A w q.1 (moff W q.1 + q.2) (gmt (gc W q.1) q.2) M := by
  obtain ⟨u1, u2, u3, u4, u5⟩ := h.mo (e := 0) hq.1
  have := hq.2.1
  exact ⟨rfl, by omega, (h.2.1.2.2 q.1 hq.1 q.2 hq.2.1).1⟩
/-- faces that were looked in, and what was found in them -/
def FS (A : List Nm) (W : List Cls) (w : Nat) (br : Int32) (nq nk np nh nr : Nat) (x : Mth) (msk : Int32) (v : List Nat) (M : Mem) : Prop := SF A W w br nq nk np nh nr v M ∧ mI M 5 w 62 = oM W (v.foldl (pkM W x msk) none) ∧ ∀ d ∈ v, d < W.length
theorem FS.ok (h : FS A W w br nq nk np nh nr x msk v M) : ∀ q, v.foldl (pkM W x msk) none = some q → okM W x msk q := pk_ok h.2.2 (fun q z => by cases z)
theorem c_lookN (hK : KB w nq nk np nh nr) (hA : A.length ≤ 200000) (hI : LInv W L) (hC : WC W) : ∀ n c v M (Q : Mem → Prop), FS A W w br nq nk np nh nr x msk v M → RfX A w r k x M → c < W.length → L c = 1 → mu W c < n → (∀ M', FS A W w br nq nk np nh nr x msk (lsO W n c v) M' → Sp w M M' → Q M') → wr_World_lookInFaces n w (Int32.ofNat c) (Int32.ofNat r) msk Q M := by
  intro n
  induction n with
  | zero => intro c v M Q _ _ _ _ h; exact absurd h (by omega)
  | succ n ih =>
    intro c v M Q h hR hc hl hn hQ
    have h51 : W.length ≤ 51 := h.1.1.1.1.1.1.2.2.1
    have loop : ∀ m j v M1, FS A W w br nq nk np nh nr x msk v M1 → Sp w M M1 → (gc W c).2.2.1.length - j < m → j ≤ (gc W c).2.2.1.length → (∀ M', FS A W w br nq nk np nh nr x msk (lsS (lsO W n) W ((gc W c).2.2.1.drop j) v) M' → Sp w M M' → Q M') → wk_World_lookInFaces_L3 (wr_World_lookInFaces n) w Q m (Int32.ofNat c) (Int32.ofNat r) msk (Int32.ofNat j) M1 := by
      intro m
      induction m with
      | zero => intro j v M1 _ _ hm; exact absurd hm (by omega)
      | succ m ihm =>
        intro j v M1 hs sp hm hj hq
        have hcl1 := hs.1.1.1.1
        obtain ⟨e39, h4, e38⟩ := (hcl1.2.2 c hc).2.1
        have hR1 := hR.sp sp
        unfold wk_World_lookInFaces_L3
        rw [oN_tnc (by omega), hcl1.2.1.2.2.1, e39]
        refine ⟨(vp_oN (by omega)).mpr (by omega), ?_⟩
        by_cases cj : (gc W c).2.2.1.length ≤ j
        · rw [List.drop_of_length_le cj] at hq
          exact itp (le_oN (by omega) (by omega)) (hq M1 hs sp)
        have hjl : j < (gc W c).2.2.1.length := by omega
        refine itn (nle_oN (by omega) (by omega)) ?_
        rw [lit32 4, oN_mul, oN_add, oN_tnc (by omega), (e38 j hjl).1, hcl1.2.1.2.1]
        refine ⟨(vp_oN (by omega)).mpr (by omega), ?_⟩
        obtain ⟨d, ed, hd, ld, md⟩ := hI.face hc hl hjl
        refine c_find hcl1.1 (e38 j hjl).2 ?_
        rw [lsS_drop hjl, ed] at hq
        dsimp only at hq
        rw [show fnd W (gf (gc W c) j) = some d from ed]
        show vp_in (Int32.ofNat d) (mL M1 77 w) ∧ _
        rw [hs.1.2.1.1]
        refine ⟨(vp_oN (by omega)).mpr (by omega), ?_⟩
        rw [show (oC (some d)).toNatClampNeg = d from oN_tnc (by omega)]
        unfold wk_World_lookInFaces_j115 wk_World_lookInFaces_j109 wk_World_lookInFaces_j115 wk_World_lookInFaces_j123
        rw [show Int32.ofNat j + (1 : Int32) = Int32.ofNat (j + 1) from oN_add j 1]
        by_cases cv : d ∈ v
        · rw [if_pos cv] at hq
          exact itp (((hs.1.2.2 d (by omega)).1).mpr cv) (ihm (j + 1) v M1 hs sp (by omega) (by omega) hq)
        rw [if_neg cv] at hq
        refine itn (fun z => cv ((hs.1.2.2 d (by omega)).1.mp z)) ⟨(vp_oN (by omega)).mpr (by omega), ?_⟩
        obtain ⟨h1, s1⟩ := hs.1.put (c := d) hK
        have e62 : mI (sI M1 77 w d (mI M1 5 w 61)) 5 w 62 = oM W (v.foldl (pkM W x msk) none) := hs.2.1
        have hv' : ∀ e ∈ v ++ [d], e < W.length := fun e he => by
          rcases List.mem_append.mp he with q | q
          · exact hs.2.2 e q
          · rw [List.mem_singleton.mp q]; exact hd
        have hok := hs.ok
        have hfold : (v ++ [d]).foldl (pkM W x msk) none = pkM W x msk (v.foldl (pkM W x msk) none) d := by rw [List.foldl_append]; rfl
        refine c_ownLike h1.1 (hR1.sp s1) hA hC hd ?_
        have next : ∀ M2, FS A W w br nq nk np nh nr x msk (v ++ [d]) M2 → Sp w M M2 → wr_World_lookInFaces n w (Int32.ofNat d) (Int32.ofNat r) msk (fun M12 => wk_World_lookInFaces_L3 (wr_World_lookInFaces n) w Q m (Int32.ofNat c) (Int32.ofNat r) msk (Int32.ofNat (j + 1)) M12) M2 := fun M2 f2 sp2 =>
          ih d (v ++ [d]) M2 _ f2 (hR.sp sp2) hd ld (by omega) (fun M3 f3 sp3 => ihm (j + 1) _ M3 f3 (sp2.trans sp3) (by omega) (by omega) hq)
        have stay : pkM W x msk (v.foldl (pkM W x msk) none) d = v.foldl (pkM W x msk) none → wr_World_lookInFaces n w (Int32.ofNat d) (Int32.ofNat r) msk (fun M12 => wk_World_lookInFaces_L3 (wr_World_lookInFaces n) w Q m (Int32.ofNat c) (Int32.ofNat r) msk (Int32.ofNat (j + 1)) M12) (sI M1 77 w d (mI M1 5 w 61)) := fun e => next _ ⟨h1, by rw [hfold, e]; exact e62, hv'⟩ (sp.trans s1)
        cases eq : ownQ x msk (gc W d).2.2.2.2.2 with
        | none =>
          exact itp (show (-2 : Int32) < 0 by decide) (stay (pkM_z eq))
        | some i =>
          have hdi : okM W x msk (d, i) := ⟨hd, ownQ_lt eq⟩
          obtain ⟨-, hlt, hhd⟩ := oM_lt h1.1 hdi
          have hlt : moff W d + i < 381 := hlt
          have take : pkM W x msk (v.foldl (pkM W x msk) none) d = some (d, i) → wr_World_lookInFaces n w (Int32.ofNat d) (Int32.ofNat r) msk (fun M12 => wk_World_lookInFaces_L3 (wr_World_lookInFaces n) w Q m (Int32.ofNat c) (Int32.ofNat r) msk (Int32.ofNat (j + 1)) M12) (sI (sI M1 77 w d (mI M1 5 w 61)) 5 w 62 (Int32.ofNat (moff W d + i))) := fun e => by
            obtain ⟨h2, s2⟩ := h1.w62 (x := Int32.ofNat (moff W d + i)) hK
            refine next _ ⟨h2, ?_, hv'⟩ ((sp.trans s1).trans s2)
            rw [hfold, e, mI_sI, if_pos ⟨rfl, rfl, rfl⟩]; rfl
          refine itn (show ¬ Int32.ofNat (moff W d + i) < 0 from oN_nonneg (by omega)) ?_
          rw [e62]
          cases eo : v.foldl (pkM W x msk) none with
          | none =>
            exact itp (show (-2 : Int32) < 0 by decide) (take (by rw [eo]; exact pkM_n eq))
          | some q =>
            obtain ⟨eq1, hq1, hh1⟩ := oM_lt h1.1 (hok q eo)
            have f57 := h1.1.2.1.1.2.1 57 (by omega) (by omega)
            rw [eq1]
            refine itn (oN_nonneg (by omega)) ⟨by rw [f57]; exact (vp_oN (by omega)).mpr hq1, ?_⟩
            rw [oN_tnc (by omega), hh1.2.2.1]
            have epk : pkM W x msk (v.foldl (pkM W x msk) none) d = if ¬ (gmt (gc W q.1) q.2).2.2.2.1 &&& 8 = 0 ∧ (gmt (gc W d) i).2.2.2.1 &&& 8 = 0 then some (d, i) else some q := by
              rw [eo]; exact pkM_s eq
            by_cases c1 : (gmt (gc W q.1) q.2).2.2.2.1 &&& 8 = 0
            · rw [if_neg (fun z => z.1 c1)] at epk
              exact itp c1 (stay (epk.trans eo.symm))
            · refine itn c1 ⟨by rw [f57]; exact (vp_oN (a := moff W d + i) (by omega)).mpr (by omega), ?_⟩
              rw [show (oM W (Option.map (fun j => (d, j)) (some i))).toNatClampNeg = moff W d + i from oN_tnc (k := moff W d + i) (by omega), hhd.2.2.1]
              by_cases c2 : (gmt (gc W d) i).2.2.2.1 &&& 8 = 0
              · rw [if_pos ⟨c1, c2⟩] at epk
                exact itp c2 (take epk)
              · rw [if_neg (fun z => c2 z.2)] at epk
                exact itn c2 (stay (epk.trans eo.symm))
    exact ⟨(gc W c).2.2.1.length + 1, loop _ 0 v M h (Sp.rf _ _) (by omega) (by omega) hQ⟩
/-- the way up from a linked class -/
theorem LInv.upm (hI : LInv W L) {d : Nat} (hd : d < W.length) (ld : L d = 1) (d0 : d ≠ 0) : ∃ e, upW W d = some e ∧ e < W.length ∧ L e = 1 ∧ mu W e < mu W d := by
  obtain ⟨e, eu, hel, hee⟩ := hI.up hd ld d0
  refine ⟨e, eu, hel, ?_, ?_⟩
  · rcases hee with z | z
    · rw [z]; exact hI.1.2.2.2.2 0 (by omega)
    · exact z.1
  · unfold mu
    rw [if_neg d0]
    by_cases e0 : e = 0
    · rw [if_pos e0]; exact rk_pos hd
    · rw [if_neg e0]; exact (hee.resolve_left e0).2
/-- the method of a member that is named, from a class on -/
theorem c_methodW (h : CWx A W w br nq nk np nh nr M) (hS : cSt w M) (hR : RfX A w r k x M) (hK : KB w nq nk np nh nr) (hA : A.length ≤ 200000) (hI : LInv W L) (hC : WC W) (hc : c < W.length) (hl : L c = 1) (hQ : ∀ M', cSt w M' → Sp w M M' → Q (oM W (mthW W x msk c)) M') : w_World_method w (Int32.ofNat c) (Int32.ofNat r) msk Q M := by
  have h51 : W.length ≤ 51 := h.1.1.1.1.2.2.1
  have lp2 : ∀ m s (u : Option Nat) v M1, FS A W w br nq nk np nh nr x msk v M1 → Sp w M M1 → (∀ d, u = some d → d < W.length ∧ L d = 1 ∧ mu W d < s) → ((u = none ∨ s < m) ∧ 0 < m) → (mthW W x msk c = (lsF W s u v).foldl (pkM W x msk) none) → w_World_method_L50 w Q m (Int32.ofNat r) msk (oC u) M1 := by
    intro m
    induction m with
    | zero => intro s u v M1 _ _ _ hm; exact absurd hm.2 (by omega)
    | succ m ihm =>
      intro s u v M1 hs sp hu hm he
      unfold w_World_method_L50
      cases u with
      | none =>
        refine itp (by decide) ?_
        have : lsF W s none v = v := by cases s <;> rfl
        rw [this] at he
        rw [hs.2.1, ← he]
        exact hQ M1 hs.1.st sp
      | some d =>
        obtain ⟨hd, ld, md⟩ := hu d rfl
        obtain ⟨s', er⟩ : ∃ s', s = s' + 1 := ⟨s - 1, by omega⟩
        subst er
        have hm' := hm.1.resolve_left (fun z => by cases z)
        refine itn (oN_nonneg (by omega)) ⟨60, Nat.le_refl _, ?_⟩
        refine c_lookN (L := L) hK hA hI hC 60 d v M1 _ hs (hR.sp sp) hd ld (by have := mu_le (W := W) (c := d); omega) (fun M2 hs2 sp2 => ?_)
        refine c_up hs2.1.1.1.1 hd ?_
        by_cases d0 : d = 0
        · have e : upW W d = none := by unfold upW; rw [if_pos d0]
          rw [e]
          refine ihm s' none _ M2 hs2 (sp.trans sp2) (fun _ z => by cases z) ⟨Or.inl rfl, by omega⟩ ?_
          rw [he, show lsF W (s' + 1) (some d) v = lsF W s' (upW W d) (lsO W 60 d v) from rfl, e]
        · obtain ⟨e, eu, hel, he1, hmu⟩ := hI.upm hd ld d0
          rw [eu]
          refine ihm s' (some e) _ M2 hs2 (sp.trans sp2) (fun d' z => by cases z; exact ⟨hel, he1, by omega⟩) ⟨Or.inr (by omega), by omega⟩ ?_
          rw [he, show lsF W (s' + 1) (some d) v = lsF W s' (upW W d) (lsO W 60 d v) from rfl, eu]
  have lp1 : ∀ m s (u : Option Nat), (∀ d, u = some d → d < W.length ∧ L d = 1 ∧ mu W d < s) → ((u = none ∨ s < m) ∧ 0 < m) → mthUp W x msk 52 (some c) = mthUp W x msk s u → w_World_method_L3 w Q m (Int32.ofNat c) (Int32.ofNat r) msk (oC u) M := by
    intro m
    induction m with
    | zero => intro s u _ hm; exact absurd hm.2 (by omega)
    | succ m ihm =>
      intro s u hu hm he
      unfold w_World_method_L3
      cases u with
      | none =>
        have e1 : mthUp W x msk s none = none := by cases s <;> rfl
        rw [e1] at he
        refine itp (by decide) ?_
        have sp0 : Sp w M (sI M 5 w 62 (-2)) := ⟨Fr.wI rfl (Fr.rf _ _), Fi.wI (Fi.rf _ _)⟩
        refine k_stamp (M := sI M 5 w 62 (-2)) hS.w62 (fun M1 sp1 l1 st1 e62 => ?_)
        have s1 : SF A W w br nq nk np nh nr [] M1 := ⟨(h.sp sp0 hK).sp sp1 hK, l1, fun i hi => ⟨⟨fun z => absurd z (st1 i hi).1, fun z => absurd z List.not_mem_nil⟩, (st1 i hi).2⟩⟩
        refine ⟨53, lp2 53 52 (some c) [] M1 ⟨s1, ?_, fun d hd => absurd hd List.not_mem_nil⟩ (sp0.trans sp1) (fun d z => by cases z; exact ⟨hc, hl, by have := mu_le (W := W) (c := c); omega⟩) ⟨Or.inr (by omega), by omega⟩ ?_⟩
        · rw [e62, mI_sI, if_pos ⟨rfl, rfl, rfl⟩]; rfl
        · unfold mthW; rw [he]
      | some d =>
        obtain ⟨hd, ld, md⟩ := hu d rfl
        obtain ⟨s', er⟩ : ∃ s', s = s' + 1 := ⟨s - 1, by omega⟩
        subst er
        have hm' := hm.1.resolve_left (fun z => by cases z)
        refine itn (oN_nonneg (by omega)) ?_
        refine c_ownLike h hR hA hC hd ?_
        cases eq : ownQ x msk (gc W d).2.2.2.2.2 with
        | some j =>
          have hdi : okM W x msk (d, j) := ⟨hd, ownQ_lt eq⟩
          obtain ⟨-, hlt, -⟩ := oM_lt h hdi
          have hlt : moff W d + j < 381 := hlt
          have : mthW W x msk c = some (d, j) := by
            unfold mthW
            rw [he]
            show (match mthUp W x msk (s' + 1) (some d) with | some r => some r | none => _) = _
            unfold mthUp; rw [eq]
          rw [this] at hQ
          exact itn (show ¬ Int32.ofNat (moff W d + j) < 0 from oN_nonneg (by omega)) (hQ M hS (Sp.rf _ _))
        | none =>
          refine itp (show (-2 : Int32) < 0 by decide) (c_up h.1.1 hd ?_)
          have he' : mthUp W x msk 52 (some c) = mthUp W x msk s' (upW W d) := by
            rw [he]
            show (match ownQ x msk (gc W d).2.2.2.2.2 with | some j => some (d, j) | none => mthUp W x msk s' (upW W d)) = _
            rw [eq]
          by_cases d0 : d = 0
          · have e : upW W d = none := by unfold upW; rw [if_pos d0]
            rw [e] at he' ⊢
            exact ihm s' none (fun _ z => by cases z) ⟨Or.inl rfl, by omega⟩ he'
          · obtain ⟨e, eu, hel, he1, hmu⟩ := hI.upm hd ld d0
            rw [eu] at he' ⊢
            exact ihm s' (some e) (fun d' z => by cases z; exact ⟨hel, he1, by omega⟩) ⟨Or.inr (by omega), by omega⟩ he'
  unfold w_World_method
  exact ⟨53, lp1 53 52 (some c) (fun d z => by cases z; exact ⟨hc, hl, by have := mu_le (W := W) (c := c); omega⟩) ⟨Or.inr (by omega), by omega⟩ rfl⟩
/-- of a row there is none -/
theorem c_methodNeg (hS : cSt w M) (hQ : ∀ M', cSt w M' → Sp w M M' → Q (-2) M') : w_World_method w (-1) (Int32.ofNat r) msk Q M := by
  unfold w_World_method
  refine ⟨1, ?_⟩
  unfold w_World_method_L3
  refine itp (by decide) ?_
  have sp0 : Sp w M (sI M 5 w 62 (-2)) := ⟨Fr.wI rfl (Fr.rf _ _), Fi.wI (Fi.rf _ _)⟩
  refine k_stamp (M := sI M 5 w 62 (-2)) hS.w62 (fun M1 sp1 l1 st1 e62 => ⟨1, ?_⟩)
  unfold w_World_method_L50
  refine itp (by decide) ?_
  rw [e62, mI_sI, if_pos ⟨rfl, rfl, rfl⟩]
  exact hQ M1 ⟨l1, fun i hi => (st1 i hi).2⟩ (sp0.trans sp1)
end
