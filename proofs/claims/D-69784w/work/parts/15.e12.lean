/-! B: finding fields in the works -/
theorem ownF_drop {nm : Nm} {κ : Kd} {L : List Fld} {d : Fld} {j : Nat} (h : j < L.length) : ownF nm κ j (L.drop j) = if (L.getD j d).1 = nm ∧ (L.getD j d).2.1 = κ then some j else ownF nm κ (j + 1) (L.drop (j + 1)) := by
  have e : L.drop j = L.getD j d :: L.drop (j + 1) := by
    rw [List.drop_eq_getElem_cons h]
    congr 1
    rw [List.getD_eq_getElem?_getD, List.getElem?_eq_getElem h]; rfl
  rw [e]; rfl
theorem ownF_lt {nm : Nm} {κ : Kd} : ∀ {L : List Fld} {k j : Nat}, ownF nm κ k L = some j → k ≤ j ∧ j < k + L.length
  | [], _, _, h => by cases h
  | y :: L, k, j, h => by
    unfold ownF at h
    split at h
    · cases h; simp
    · have := ownF_lt h
      simp only [List.length_cons]; omega
theorem getD_mem {α : Type} {L : List α} {j : Nat} {d : α} (h : j < L.length) : L.getD j d ∈ L := by
  rw [List.getD_eq_getElem?_getD, List.getElem?_eq_getElem h]; exact List.getElem_mem h
theorem fbS_drop {K : Nat → List Nat → FV} {W : List Cls} {L : List Nm} {v : List Nat} {j : Nat} (h : j < L.length) : fbS K W (L.drop j) v = match fnd W (L.getD j []) with
    | none => fbS K W (L.drop (j + 1)) v
    | some d => match K d v with
      | (some r, v') => (some r, v')
      | (none, v') => fbS K W (L.drop (j + 1)) v' := by
  have e : L.drop j = L.getD j [] :: L.drop (j + 1) := by
    rw [List.drop_eq_getElem_cons h]
    congr 1
    rw [List.getD_eq_getElem?_getD, List.getElem?_eq_getElem h]; rfl
  rw [e]; rfl
theorem fbS_lt {K : Nat → List Nat → FV} {W : List Cls} {P : Nat × Nat → Prop} (hK : ∀ d v r, d < W.length → (K d v).1 = some r → P r) : ∀ fs v r, (fbS K W fs v).1 = some r → P r
  | [], v, r, h => by cases h
  | f :: fs, v, r, h => by
    unfold fbS at h
    split at h
    · exact fbS_lt hK fs v r h
    · rename_i d ed
      have hk := hK d v r (fnd_lt ed)
      split at h
      · rename_i e
        rw [e] at hk
        exact hk h
      · exact fbS_lt hK fs _ r h
/-- what is found is there -/
theorem fbN_lt {W : List Cls} {nm : Nm} {κ : Kd} : ∀ n c v r, c < W.length → (fbN W nm κ n c v).1 = some r → r.1 < W.length ∧ r.2 < (gc W r.1).2.2.2.2.1.length ∧ (gfl (gc W r.1) r.2).1 = nm ∧ (gfl (gc W r.1) r.2).2.1 = κ
  | 0, c, v, r, _, h => by cases h
  | n + 1, c, v, r, hc, h => by
    unfold fbN at h
    split at h
    · cases h
    split at h
    · rename_i f e
      cases h
      have hl := ownF_lt e
      have : ∀ (l : List Fld) k j, ownF nm κ k l = some j → (l.getD (j - k) ([], (0, []), 0, 0, false)).1 = nm ∧ (l.getD (j - k) ([], (0, []), 0, 0, false)).2.1 = κ := by
        intro l
        induction l with
        | nil => intro k j h; cases h
        | cons y l ih =>
          intro k j h
          have h' := h
          unfold ownF at h
          split at h
          · rename_i q
            cases h
            rw [Nat.sub_self]; exact q
          · have := ownF_lt h
            have := ih _ _ h
            rw [show j - k = (j - (k + 1)) + 1 by omega]
            exact this
      have := this _ _ _ e
      exact ⟨hc, by have := hl.2; simpa using this, this⟩
    · exact fbS_lt (P := fun r => r.1 < W.length ∧ r.2 < (gc W r.1).2.2.2.2.1.length ∧ (gfl (gc W r.1) r.2).1 = nm ∧ (gfl (gc W r.1) r.2).2.1 = κ) (fun d v r hd hr => fbN_lt n d v r hd hr) _ _ r h
def oF (W : List Cls) (o : Option (Nat × Nat)) : Int32 := match o with
  | none => -2
  | some r => Int32.ofNat (foff W r.1 + r.2)
/-- a linked class's faces are there, and linked -/
theorem LInv.face {W : List Cls} {L : Nat → Int32} (h : LInv W L) {c : Nat} (hc : c < W.length) (hl : L c = 1) {j : Nat} (hj : j < (gc W c).2.2.1.length) : ∃ d, fnd W ((gc W c).2.2.1.getD j []) = some d ∧ d < W.length ∧ L d = 1 ∧ mu W d < mu W c := by
  rcases h.2 c hc hl with e | ⟨hr, -, hf⟩
  · rw [e, h.1.2.2.1] at hj; exact absurd hj (by simp)
  have hm := getD_mem (d := []) hj
  obtain ⟨d, e1, e2⟩ := hf _ hm
  have hed := edge_face hm e1
  have hrk := rk_lt hc hed hr
  have hp := rk_pos (W := W) hc
  have c0 : c ≠ 0 := fun z => by rw [z, h.1.2.2.1] at hj; exact absurd hj (by simp)
  refine ⟨d, e1, fnd_lt e1, e2, ?_⟩
  unfold mu
  rw [if_neg c0]
  split <;> omega
theorem mu_le {W : List Cls} {c : Nat} : mu W c ≤ W.length := by
  unfold mu
  split
  · omega
  · exact rk_le
section
variable {A : List Nm} {W : List Cls} {w c p : Nat} {br : Int32} {nq nk np nh nr : Nat} {M M' : Mem} {Q : Int32 → Mem → Prop} {v : List Nat} {nm : Nm} {κ : Kd} {L : Nat → Int32}
/-- classes that have the stamp -/
def SF (A : List Nm) (W : List Cls) (w : Nat) (br : Int32) (nq nk np nh nr : Nat) (v : List Nat) (M : Mem) : Prop := CWx A W w br nq nk np nh nr M ∧ (mL M 77 w = 51 ∧ mL M 78 w = 52) ∧ ∀ i, i < 51 → (mI M 77 w i = mI M 5 w 61 ↔ i ∈ v) ∧ (mI M 77 w i).toUInt32.toNat ≤ (mI M 5 w 61).toUInt32.toNat
theorem SF.st (h : SF A W w br nq nk np nh nr v M) : cSt w M := ⟨h.2.1, fun i hi => (h.2.2 i hi).2⟩
theorem SF.put (h : SF A W w br nq nk np nh nr v M) (hK : KB w nq nk np nh nr) : SF A W w br nq nk np nh nr (v ++ [c]) (sI M 77 w c (mI M 5 w 61)) ∧ Sp w M (sI M 77 w c (mI M 5 w 61)) := by
  have sp : Sp w M (sI M 77 w c (mI M 5 w 61)) := ⟨Fr.wIa rfl rfl (Fr.rf _ _), Fi.wI (Fi.rf _ _)⟩
  refine ⟨⟨h.1.sp sp hK, h.2.1, fun i hi => ?_⟩, sp⟩
  have e2 : mI (sI M 77 w c (mI M 5 w 61)) 5 w 61 = mI M 5 w 61 := rfl
  rw [e2, mI_sI]
  by_cases e : i = c
  · rw [if_pos ⟨rfl, rfl, e⟩]
    exact ⟨⟨fun _ => by rw [e]; simp, fun _ => rfl⟩, Nat.le_refl _⟩
  · rw [if_neg (fun q => e q.2.2)]
    refine ⟨(h.2.2 i hi).1.trans ?_, (h.2.2 i hi).2⟩
    simp [e]
theorem SF.w62 {x : Int32} (h : SF A W w br nq nk np nh nr v M) (hK : KB w nq nk np nh nr) : SF A W w br nq nk np nh nr v (sI M 5 w 62 x) ∧ Sp w M (sI M 5 w 62 x) := by
  have sp : Sp w M (sI M 5 w 62 x) := ⟨Fr.wI rfl (Fr.rf _ _), Fi.wI (Fi.rf _ _)⟩
  refine ⟨⟨h.1.sp sp hK, h.2.1, fun i hi => ?_⟩, sp⟩
  rw [mI_sI, if_neg (fun z => absurd z.1 (by decide)), mI_sI, if_neg (fun z => absurd z.2.2 (by decide))]
  exact h.2.2 i hi
theorem c_fbN (hK : KB w nq nk np nh nr) (hA : A.length ≤ 200000) (hI : LInv W L) (hC : WC W) (hnm : nm ∈ A) (hκ : kdOk κ ∧ kok A κ) : ∀ n c v M Q, SF A W w br nq nk np nh nr v M → c < W.length → L c = 1 → mu W c < n → (∀ M', SF A W w br nq nk np nh nr (fbN W nm κ n c v).2 M' → Sp w M M' → Q (oF W (fbN W nm κ n c v).1) M') → wr_World_fieldByFaces n w (Int32.ofNat c) (nc A nm) (kC A κ) Q M := by
  intro n
  induction n with
  | zero => intro c v M Q _ _ _ h; exact absurd h (by omega)
  | succ n ih =>
    intro c v M Q h hc hl hn hQ
    have hcw := h.1
    have h51 : W.length ≤ 51 := hcw.1.1.1.1.2.2.1
    have hfl := hcw.1.2.1
    have hfo := foff_le (fun c hc => (hfl.2.1 c hc).2) W.length (Nat.le_refl _)
    rw [foff_all] at hfo
    obtain ⟨⟨e41, e42⟩, h8, -⟩ := hfl.2.1 c hc
    have hcl := hcw.1.1
    obtain ⟨e39, h4, e38⟩ := (hcl.2.2 c hc).2.1
    show wk_World_fieldByFaces (wr_World_fieldByFaces n) w _ _ _ Q M
    unfold wk_World_fieldByFaces
    rw [oN_tnc (by omega), h.2.1.1]
    refine ⟨(vp_oN (by omega)).mpr (by omega), ?_⟩
    unfold fbN at hQ
    by_cases cv : c ∈ v
    · rw [if_pos cv] at hQ
      exact itp (((h.2.2 c (by omega)).1).mpr cv) (hQ M h (Sp.rf _ _))
    rw [if_neg cv] at hQ
    obtain ⟨h1, s1⟩ := h.put (c := c) hK
    have loop2 : ∀ m j v M1, SF A W w br nq nk np nh nr v M1 → Sp w M M1 → (gc W c).2.2.1.length - j < m → j ≤ (gc W c).2.2.1.length → (∀ M', SF A W w br nq nk np nh nr (fbS (fbN W nm κ n) W ((gc W c).2.2.1.drop j) v).2 M' → Sp w M M' → Q (oF W (fbS (fbN W nm κ n) W ((gc W c).2.2.1.drop j) v).1) M') → wk_World_fieldByFaces_L86 (wr_World_fieldByFaces n) w Q m (Int32.ofNat c) (nc A nm) (kC A κ) (Int32.ofNat j) M1 := by
      intro m
      induction m with
      | zero => intro j v M1 _ _ hm; exact absurd hm (by omega)
      | succ m ihm =>
        intro j v M1 hs sp hm hj hq
        have hcl1 := hs.1.1.1
        obtain ⟨e39, h4, e38⟩ := (hcl1.2.2 c hc).2.1
        unfold wk_World_fieldByFaces_L86
        rw [oN_tnc (by omega), hcl1.2.1.2.2.1, e39]
        refine ⟨(vp_oN (by omega)).mpr (by omega), ?_⟩
        by_cases cj : (gc W c).2.2.1.length ≤ j
        · rw [List.drop_of_length_le cj] at hq
          exact itp (le_oN (by omega) (by omega)) (hq M1 hs sp)
        have hjl : j < (gc W c).2.2.1.length := by omega
        refine itn (nle_oN (by omega) (by omega)) ?_
        rw [lit32 4, oN_mul, oN_add, oN_tnc (by omega), (e38 j hjl).1, hcl1.2.1.2.1]
        refine ⟨(vp_oN (by omega)).mpr (by omega), ?_⟩
        obtain ⟨d, ed, hd, ld, md⟩ := hI.face hc hl hjl
        refine c_find hcl1.1 (e38 j hjl).2 ?_
        rw [fbS_drop hjl, ed] at hq
        rw [show fnd W (gf (gc W c) j) = some d from ed]
        refine ih d v M1 _ hs hd ld (by omega) (fun M2 hs2 sp2 => ?_)
        have hlt := fbN_lt (W := W) (nm := nm) (κ := κ) n d v
        cases ef : fbN W nm κ n d v with
        | mk o v' =>
          rw [ef] at hs2 hlt
          dsimp only at hq
          rw [ef] at hq
          cases o with
          | none =>
            refine itp (show (-2 : Int32) < 0 by decide) ?_
            rw [lit32 1, oN_add]
            exact ihm (j + 1) v' M2 hs2 (sp.trans sp2) (by omega) (by omega) hq
          | some r =>
            have := hlt r hd rfl
            have := foff_succ (W := W) (n := r.1) this.1
            have := foff_le (fun c hc => (hfl.2.1 c hc).2) (r.1 + 1) (by omega)
            exact itn (oN_nonneg (by omega)) (hq M2 hs2 (sp.trans sp2))
    have loop1 : ∀ m j, (gc W c).2.2.2.2.1.length - j < m → j ≤ (gc W c).2.2.2.2.1.length → ownF nm κ 0 (gc W c).2.2.2.2.1 = ownF nm κ j ((gc W c).2.2.2.2.1.drop j) → wk_World_fieldByFaces_L34 (wr_World_fieldByFaces n) w Q m (Int32.ofNat c) (nc A nm) (kC A κ) (Int32.ofNat (foff W c + j)) (sI M 77 w c (mI M 5 w 61)) := by
      intro m
      induction m with
      | zero => intro j hm; exact absurd hm (by omega)
      | succ m ihm =>
        intro j hm hj ho
        have hfl1 := h1.1.1.2.1
        obtain ⟨⟨e41, e42⟩, h8, -⟩ := hfl1.2.1 c hc
        obtain ⟨⟨-, ⟨l49, l50, -⟩, l41, l42⟩, -, hg⟩ := hfl1
        have hfs := foff_succ (W := W) (n := c) hc
        have hfo1 := foff_le (fun c hc => (hfl.2.1 c hc).2) (c + 1) hc
        unfold wk_World_fieldByFaces_L34 wk_World_fieldByFaces_j77
        rw [oN_tnc (k := c) (by omega), e41, e42, oN_add, l41, l42]
        refine ⟨(vp_oN (by omega)).mpr (by omega), (vp_oN (by omega)).mpr (by omega), ?_⟩
        by_cases cj : (gc W c).2.2.2.2.1.length ≤ j
        · rw [List.drop_of_length_le cj] at ho
          rw [show ownF nm κ 0 (gc W c).2.2.2.2.1 = Option.none from ho] at hQ
          refine itp (le_oN (by omega) (by omega)) ⟨(gc W c).2.2.1.length + 1, ?_⟩
          refine loop2 _ 0 (v ++ [c]) _ h1 s1 (by omega) (by omega) ?_
          exact hQ
        have hjl : j < (gc W c).2.2.2.2.1.length := by omega
        obtain ⟨g1, g2⟩ := gF1_at hc hjl
        have hgf := hg (foff W c + j) g1
        rw [g2] at hgf
        obtain ⟨⟨i49, n49⟩, ⟨i50, n50⟩, -⟩ := hgf
        refine itn (nle_oN (by omega) (by omega)) ?_
        rw [oN_tnc (k := foff W c + j) (by omega), i49, i50, l49, l50, show Int32.ofNat (foff W c + j) + (1 : Int32) = Int32.ofNat (foff W c + (j + 1)) from oN_add (foff W c + j) 1]
        refine ⟨(vp_oN (by omega)).mpr (by omega), ?_⟩
        have hty := ((hC.at hc).1.1 _ (getD_mem (d := ([], (0, []), 0, 0, false)) hjl)).1
        rw [ownF_drop (d := ([], (0, []), 0, 0, false)) hjl] at ho
        have egf : (gc W c).2.2.2.2.1.getD j ([], (0, []), 0, 0, false) = gfl (gc W c) j := rfl
        rw [egf] at ho hty
        by_cases e1 : (gfl (gc W c) j).1 = nm
        · refine itp (by rw [e1]) ⟨(vp_oN (by omega)).mpr (by omega), ?_⟩
          by_cases e2 : (gfl (gc W c) j).2.1 = κ
          · rw [if_pos ⟨e1, e2⟩] at ho
            rw [ho] at hQ
            exact itp (by rw [e2]) (hQ _ h1 s1)
          · rw [if_neg (fun z => e2 z.2)] at ho
            exact itn (fun z => e2 ((kC_inj hty.kd hκ.1 n50 hκ.2 (by omega)).mp z)) (ihm (j + 1) (by omega) (by omega) ho)
        · rw [if_neg (fun z => e1 z.1)] at ho
          exact itn (fun z => e1 ((nc_inj (by omega) n49 hnm).mp z)) (ihm (j + 1) (by omega) (by omega) ho)
    refine itn (fun z => cv ((h.2.2 c (by omega)).1.mp z)) ⟨(vp_oN (by omega)).mpr (by omega), ?_, _, rfl, (gc W c).2.2.2.2.1.length + 1, ?_⟩
    · show vp_in _ (mL M 41 w)
      rw [hfl.1.2.2.1]; exact (vp_oN (by omega)).mpr (by omega)
    · rw [mI_sI, if_neg (fun z => absurd z.1 (by decide)), e41]
      exact loop1 _ 0 (by omega) (by omega) rfl
theorem c_fieldW (h : CWx A W w br nq nk np nh nr M) (hS : cSt w M) (hK : KB w nq nk np nh nr) (hA : A.length ≤ 200000) (hI : LInv W L) (hC : WC W) (hnm : nm ∈ A) (hκ : kdOk κ ∧ kok A κ) (hc : c < W.length) (hl : L c = 1) (hQ : ∀ M', cSt w M' → Sp w M M' → Q (oF W (fldW W nm κ c)) M') : w_World_field w (Int32.ofNat c) (nc A nm) (kC A κ) Q M := by
  have h51 : W.length ≤ 51 := h.1.1.1.1.2.2.1
  have hfl := h.1.2.1
  unfold w_World_field
  refine k_stamp hS (fun M1 sp1 l1 st1 _ => ?_)
  have s1 : SF A W w br nq nk np nh nr [] M1 := ⟨h.sp sp1 hK, l1, fun i hi => ⟨⟨fun z => absurd z (st1 i hi).1, fun z => absurd z List.not_mem_nil⟩, (st1 i hi).2⟩⟩
  have loop : ∀ m r (u : Option Nat) v M1, SF A W w br nq nk np nh nr v M1 → Sp w M M1 → (∀ d, u = some d → d < W.length ∧ L d = 1 ∧ mu W d < r) → ((u = none ∨ r < m) ∧ 0 < m) → (fdU W nm κ 52 (some c) [] = fdU W nm κ r u v ∨ (u = none ∧ fdU W nm κ 52 (some c) [] = none)) → w_World_field_L7 w Q m (nc A nm) (kC A κ) (oC u) M1 := by
    intro m
    induction m with
    | zero => intro r u v M1 _ _ _ hm; exact absurd hm.2 (by omega)
    | succ m ihm =>
      intro r u v M1 hs sp hu hm he
      unfold w_World_field_L7
      cases u with
      | none =>
        have : fldW W nm κ c = none := by
          rcases he with z | z
          · refine (show fldW W nm κ c = _ from z).trans ?_
            cases r <;> rfl
          · exact z.2
        rw [this] at hQ
        exact itp (by decide) (hQ M1 hs.st sp)
      | some d =>
        obtain ⟨hd, ld, md⟩ := hu d rfl
        obtain ⟨r', er⟩ : ∃ r', r = r' + 1 := ⟨r - 1, by omega⟩
        subst er
        have he := he.resolve_right (fun z => by cases z.1)
        rw [show fdU W nm κ (r' + 1) (some d) v = (match fbN W nm κ 60 d v with
          | (some r, _) => some r
          | (none, v') => fdU W nm κ r' (upW W d) v') from rfl] at he
        refine itn (oN_nonneg (by omega)) ⟨60, Nat.le_refl _, ?_⟩
        refine c_fbN hK hA hI hC hnm hκ 60 d v M1 _ hs hd ld (by have := mu_le (W := W) (c := d); omega) (fun M2 hs2 sp2 => ?_)
        have hlt := fbN_lt (W := W) (nm := nm) (κ := κ) 60 d v
        cases ef : fbN W nm κ 60 d v with
        | mk o v' =>
          rw [ef] at hs2 hlt he
          cases o with
          | none =>
            refine itp (show (-2 : Int32) < 0 by decide) (c_up hs2.1.1.1 hd ?_)
            by_cases d0 : d = 0
            · have e : upW W d = none := by unfold upW; rw [if_pos d0]
              rw [e] at he ⊢
              exact ihm r' none v' M2 hs2 (sp.trans sp2) (fun _ z => by cases z) ⟨Or.inl rfl, by have := hm.1.resolve_left (fun z => by cases z); omega⟩ (Or.inl he)
            · obtain ⟨e, eu, hel, hee⟩ := hI.up hd ld d0
              rw [eu] at he ⊢
              have he1 : L e = 1 := by
                rcases hee with z | z
                · rw [z]; exact hI.1.2.2.2.2 0 (by omega)
                · exact z.1
              have hmu : mu W e < mu W d := by
                unfold mu
                rw [if_neg d0]
                by_cases e0 : e = 0
                · rw [if_pos e0]; exact rk_pos hd
                · rw [if_neg e0]; exact (hee.resolve_left e0).2
              refine ihm r' (some e) v' M2 hs2 (sp.trans sp2) (fun d' z => by cases z; exact ⟨hel, he1, by omega⟩) ⟨Or.inr (by have := hm.1.resolve_left (fun z => by cases z); omega), ?_⟩ (Or.inl he)
              have := hm.1.resolve_left (fun z => by cases z)
              omega
          | some q =>
            have := hlt q hd rfl
            have := foff_succ (W := W) (n := q.1) this.1
            have := foff_le (fun c hc => (hfl.2.1 c hc).2) (q.1 + 1) (by omega)
            rw [show fldW W nm κ c = some q from he] at hQ
            exact itn (oN_nonneg (by omega)) (hQ M2 hs2.st (sp.trans sp2))
  refine ⟨53, loop 53 52 (some c) [] M1 s1 sp1 (fun d z => by cases z; exact ⟨hc, hl, by have := mu_le (W := W) (c := c); omega⟩) ⟨Or.inr (by omega), by omega⟩ (Or.inl rfl)⟩
end
