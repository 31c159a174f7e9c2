/-! THE OPERATIONS call, asked: the line, in the twin -/
abbrev FTw : Nat := F_Model_className ||| F_Model_need ||| F_Model_plainName ||| F_Model_needWord ||| F_Model_takes ||| F_Model_type ||| F_Model_numberIn ||| F_Model_wrong
def PZ (Inv : Mem → Prop) : Prop := ∀ M M', Inv M → Fr FTw M M' → Inv M'
section
variable {Inv : Mem → Prop} {A : List Nm} {L ts : List Tok} {M : Mem}
theorem z_need {Q X : Mem → Prop} {b : Nat} (hI : PZ Inv) (h : TQ A L ts M) (hne : ts ≠ []) (hi : Inv M) (hb : b < 100) (hQ : ∀ M', (hd ts).1 = b → TQ A L ts.tail M' → Inv M' → Q M') (hX : ∀ M', (hd ts).1 ≠ b → ThT (er ts) M' → Inv M' → X M') : w_Model_need 0 (Int32.ofNat b) Q X M :=
  mf_w_Model_need (Q := fun M' => Fr F_Model_need M M' → Q M') (X := fun M' => Fr F_Model_need M M' → X M') (fun _ hf hp => hp hf) (fun _ hf hp => hp hf) (ct_need h hne hb (fun M' a b hf => hQ M' a b (hI _ _ hi (hf.sub rfl))) (fun M' a b hf => hX M' a b (hI _ _ hi (hf.sub rfl))))
theorem z_needWord {Q X : Mem → Prop} {nm : Nm} (hI : PZ Inv) (h : TQ A L ts M) (hne : ts ≠ []) (hi : Inv M) (hm : nm ∈ A) (hQ : ∀ M', isWd nm ts = true → TQ A L ts.tail M' → Inv M' → Q M') (hX : ∀ M', isWd nm ts = false → ThT (er ts) M' → Inv M' → X M') : w_Model_needWord 0 (nc A nm) Q X M :=
  mf_w_Model_needWord (Q := fun M' => Fr F_Model_needWord M M' → Q M') (X := fun M' => Fr F_Model_needWord M M' → X M') (fun _ hf hp => hp hf) (fun _ hf hp => hp hf) (ct_needWord h hne hm (fun M' a b hf => hQ M' a b (hI _ _ hi (hf.sub rfl))) (fun M' a b hf => hX M' a b (hI _ _ hi (hf.sub rfl))))
theorem z_plainName {Q : Int32 → Mem → Prop} {X : Mem → Prop} (hI : PZ Inv) (h : TQ A L ts M) (hne : ts ≠ []) (hi : Inv M) (hQ : ∀ nm ts' M', pName ts = .inr (nm, ts') → nm ∈ A → TQ A L ts' M' → Inv M' → Q (nc A nm) M') (hX : ∀ e M', pName ts = .inl e → ThT e M' → Inv M' → X M') : w_Model_plainName 0 Q X M :=
  mf_w_Model_plainName (Q := fun v M' => Fr F_Model_plainName M M' → Q v M') (X := fun M' => Fr F_Model_plainName M M' → X M') (fun _ _ hf hp => hp hf) (fun _ hf hp => hp hf) (ct_plainName h hne (fun nm ts' M' a b c hf => hQ nm ts' M' a b c (hI _ _ hi (hf.sub rfl))) (fun e M' a b hf => hX e M' a b (hI _ _ hi (hf.sub rfl))))
theorem z_className {Q : Int32 → Mem → Prop} {X : Mem → Prop} (hI : PZ Inv) (h : TQ A L ts M) (hne : ts ≠ []) (hi : Inv M) (hQ : ∀ nm ts' M', pCls ts = .inr (nm, ts') → nm ∈ A → TQ A L ts' M' → Inv M' → Q (nc A nm) M') (hX : ∀ e M', pCls ts = .inl e → ThT e M' → Inv M' → X M') : w_Model_className 0 Q X M :=
  mf_w_Model_className (Q := fun v M' => Fr F_Model_className M M' → Q v M') (X := fun M' => Fr F_Model_className M M' → X M') (fun _ _ hf hp => hp hf) (fun _ hf hp => hp hf) (ct_className h hne (fun nm ts' M' a b c hf => hQ nm ts' M' a b c (hI _ _ hi (hf.sub rfl))) (fun e M' a b hf => hX e M' a b (hI _ _ hi (hf.sub rfl))))
theorem z_numberIn {Q : Int32 → Mem → Prop} {X : Mem → Prop} {lo hi' : Int32} (hI : PZ Inv) (h : TQ A L ts M) (hne : ts ≠ []) (hi : Inv M) (hQ : ∀ v ts' M', pNum lo hi' ts = .inr (v, ts') → TQ A L ts' M' → Inv M' → Q v M') (hX : ∀ e M', pNum lo hi' ts = .inl e → ThT e M' → Inv M' → X M') : w_Model_numberIn 0 lo hi' Q X M :=
  mf_w_Model_numberIn (Q := fun v M' => Fr F_Model_numberIn M M' → Q v M') (X := fun M' => Fr F_Model_numberIn M M' → X M') (fun _ _ hf hp => hp hf) (fun _ hf hp => hp hf) (ct_numberIn h hne (fun v ts' M' a b hf => hQ v ts' M' a b (hI _ _ hi (hf.sub rfl))) (fun e M' a b hf => hX e M' a b (hI _ _ hi (hf.sub rfl))))
theorem z_wrong {Q X : Mem → Prop} (hI : PZ Inv) (h : TQ A L ts M) (hne : ts ≠ []) (hi : Inv M) (hX : ∀ M', ThT (er ts) M' → Inv M' → X M') : w_Model_wrong 0 Q X M :=
  mf_w_Model_wrong (Q := fun _ => False) (X := fun M' => Fr F_Model_wrong M M' → X M') (fun _ _ hp => hp.elim) (fun _ hf hp => hp hf) (ct_wrong h hne (fun M' a hf => hX M' a (hI _ _ hi (hf.sub rfl))))
end
theorem pNum_ne {lo hi' v : Int32} {ts t2 : List Tok} (h : pNum lo hi' ts = .inr (v, t2)) : (hd ts).1 = 4 ∧ t2 = ts.tail := by
  unfold pNum at h
  split at h
  · rename_i c; cases h; exact ⟨c.1, rfl⟩
  · cases h
theorem pName_ne {nm : Nm} {ts t2 : List Tok} (h : pName ts = .inr (nm, t2)) : (hd ts).1 = 2 ∧ t2 = ts.tail := by
  unfold pName at h
  split at h
  · rename_i c; cases h; exact ⟨c, rfl⟩
  · cases h
theorem pCls_h2 {nm : Nm} {ts t2 : List Tok} (h : pCls ts = .inr (nm, t2)) : (hd ts).1 = 2 ∧ t2 = ts.tail := by
  unfold pCls at h
  split at h
  · rename_i c; cases h; exact ⟨c.1, rfl⟩
  · cases h
theorem nums_types : ∀ f n ts m t2, pNumsF f n ts = .inr (m, t2) → pTypesF false f (kNs n) ts = .inr (kNs m, t2)
  | 0, _, _, _, _, h => by unfold pNumsF at h; cases h
  | f + 1, n, ts, m, t2, h => by
    unfold pNumsF at h
    unfold pTypesF
    rw [show (kNs n).length = n from List.length_replicate]
    by_cases c : (hd ts).1 = 41
    · rw [if_pos c] at h ⊢; cases h; rfl
    · rw [if_neg c] at h ⊢
      generalize (if n = 0 then (.inr ((), ts) : Rz Unit) else pSign 44 ts) = z at h ⊢
      cases z with
      | inl e => cases h
      | inr p =>
        obtain ⟨u, t1⟩ := p
        dsimp only at h ⊢
        rw [if_neg (fun q => by cases q.1)]
        by_cases cw : isWd nNum t1 = true ∧ n ≠ 6
        · rw [if_pos cw] at h
          have e : pType t1 = .inr ((0, []), t1.tail) := by unfold pType; rw [if_pos cw.1]
          rw [e]
          dsimp only
          have := nums_types f (n + 1) _ m t2 h
          rw [show kNs (n + 1) = kNs n ++ [(0, [])] from List.replicate_succ'] at this
          exact this
        · rw [if_neg cw] at h; cases h
/-- what holds while a line is read -/
def Tc (G : List Sl) (US : UST) (A : List Nm) (S : List Sg) (M0 M : Mem) : Prop := TV US A S M ∧ GF G X6 M0 M ∧ mL M 113 0 = 6
def Jv (G : List Sl) (US : UST) (A : List Nm) (S : List Sg) (M0 : Mem) (a b c : Int32) (vs : List Int32) (M : Mem) : Prop := Tc G US A S M0 M ∧ (mI M 11 0 88 = a ∧ mI M 11 0 89 = b ∧ mI M 11 0 90 = c) ∧ ∀ i, i < vs.length → mI M 113 0 i = vs.getD i 0
section
variable {G : List Sl} {US : UST} {A : List Nm} {S S' : List Sg} {w : Nat} {L ts : List Tok} {Q X : Mem → Prop} {M M' M0 : Mem} {F : Nat} {a b c : Int32} {vs : List Int32} {k m : Nm}
theorem Tc.fr (h : Tc G US A S M0 M) (hx : Gx G w) (hf : Fr F M M') (hS : sOk F = true := by rfl) (hv : okF F [cd 11 4, cd 11 36, cd 11 37, cd 11 38, 105, 5105, 106, 5106, 5113] = true := by rfl) : Tc G US A S M0 M' := by
  have o := fun {b : Nat} (hb : b ∈ [cd 11 4, cd 11 36, cd 11 37, cd 11 38, 105, 5105, 106, 5106, 5113]) => okF_in hv hb
  exact ⟨h.1.fr hf hx hS (o (by decide)) (o (by decide)) (o (by decide)) (o (by decide)) (o (by decide)) (o (by decide)) (o (by decide)) (o (by decide)), h.2.1.fr hf hx.1 hS, (hf.L (f := 113) (o (by decide)) 0).trans h.2.2⟩
theorem Tc.pz (hx : Gx G w) : PZ (Tc G US A S M0) := fun _ _ h hf => h.fr hx hf
theorem Jv.pz (hx : Gx G w) : PZ (Jv G US A S M0 a b c vs) := fun _ _ h hf => ⟨h.1.fr hx hf, ⟨(hf.I (f := 11) (k := 88) rfl 0).trans h.2.1.1, (hf.I (f := 11) (k := 89) rfl 0).trans h.2.1.2.1, (hf.I (f := 11) (k := 90) rfl 0).trans h.2.1.2.2⟩, fun i hi => (hf.Ia (f := 113) rfl rfl 0 i).trans (h.2.2 i hi)⟩
theorem ct_vals {nn x : Nat} (hx : Gx G w) (hz : lz L) (hn6 : nn ≤ 6) (hix : x < S'.length) (hgs : (gs1 S' x).1.length = nn) : ∀ d vs t M1, nn - vs.length < d → vs.length ≤ nn → TQ A L t M1 → t ≠ [] → Jv G US A S' M0 a b (Int32.ofNat x) vs M1 →
    (∀ ws t2 M', pValsF (nn - vs.length) vs t = .inr (ws, t2) → pEnd t2 = none → Jv G US A S' M0 a b (Int32.ofNat x) ws M' → Q M') →
    (∀ e M', (pValsF (nn - vs.length) vs t = .inl e ∨ ∃ ws t2, pValsF (nn - vs.length) vs t = .inr (ws, t2) ∧ pEnd t2 = some e) → ThT e M' → Tc G US A S' M0 M' → X M') → w_Model_callWords_L178 0 Q X d (Int32.ofNat vs.length) M1 := by
  intro d
  induction d with
  | zero => intro vs t M1 h; omega
  | succ d ih =>
    intro vs t M1 hd' hle hq hne hJ hQ hX
    unfold w_Model_callWords_L178
    obtain ⟨⟨hV, hg, h113⟩, ⟨f1, f2, f3⟩, hrow⟩ := id hJ
    have hS := hV.1.2
    have hl1 : S'.length ≤ rl M1 sC := hS.2.1.2.1
    have hl2 := hS.2.1.2.2.2.2.2.2.1
    have hl3 : S'.length ≤ 100000 := hS.1.2.2.1
    have e : rl M1 sC = mL M1 300 (rdI M1 sC) := rfl
    refine ⟨rdI M1 sC, (hg.1 sC hx.2.1.2.1).1.1, ?_⟩
    rw [f3, oN_tnc (k := x) (by omega)]
    have er1 : mI M1 300 (rdI M1 sC) x = Int32.ofNat nn := by
      have := (hS.2.2.2.1 x hix).1.2.1
      rw [hgs] at this; exact this
    refine ⟨(vp_oN (by omega)).mpr (by omega), ?_⟩
    rw [er1]
    by_cases c1 : nn ≤ vs.length
    · have e0 : nn - vs.length = 0 := by omega
      rw [e0] at hQ hX
      refine itp (le_oN c1 (by omega)) ?_
      exact z_need (b := 0) (Jv.pz hx) hq hne hJ (by omega) (fun M' y1 y2 y3 => hQ vs t M' rfl (if_pos y1) y3) (fun M' y1 y2 y3 => hX (er t) M' (Or.inr ⟨vs, t, rfl, if_neg y1⟩) y2 y3.1)
    · refine itn (nle_oN (by omega) (by omega)) ?_
      obtain ⟨f, ef⟩ : ∃ f, nn - vs.length = f + 1 := ⟨nn - vs.length - 1, by omega⟩
      rw [ef] at hQ hX
      have go : ∀ bb, bb = (if vs.length = 0 then 58 else 44) → w_Model_callWords_j203 0 Q X (w_Model_callWords_L178 0 Q X d) (Int32.ofNat vs.length) (Int32.ofNat bb) M1 := by
        intro bb hb
        have hb1 : bb < 100 ∧ bb ≠ 0 := by rw [hb]; split <;> omega
        unfold w_Model_callWords_j203
        refine z_need (Jv.pz hx) hq hne hJ hb1.1 (fun M2 y1 y2 y3 => ?_) (fun M2 y1 y2 y3 => hX (er t) M2 (Or.inl ?_) y2 y3.1)
        · have hne2 : t.tail ≠ [] := tl_ne hq hz hne (by omega)
          have hs : pSign (if vs.length = 0 then 58 else 44) t = .inr ((), t.tail) := if_pos (y1.trans hb)
          refine z_numberIn (Jv.pz hx) y2 hne2 y3 (fun v t2 M3 u1 u2 u3 => ?_) (fun e M3 u1 u2 u3 => hX e M3 (Or.inl ?_) u2 u3.1)
          · have hn := pNum_ne u1
            have hne3 : t2 ≠ [] := by rw [hn.2]; exact tl_ne y2 hz hne2 (by rw [hn.1]; decide)
            have hf : Fr (10384593717069655257060992658440192) M3 (sI M3 113 0 vs.length v) := Fr.wIa rfl rfl (Fr.rf _ _)
            rw [oN_tnc (k := vs.length) (by omega), lit32 1, oN_add, u3.1.2.2]
            refine ⟨(vp_oN (by omega)).mpr (by omega), ?_⟩
            have hex : pValsF (f + 1) vs t = pValsF f (vs ++ [v]) t2 := by
              conv => lhs; unfold pValsF
              rw [hs]
              dsimp only
              rw [show pNum i32min i32max t.tail = .inr (v, t2) from u1]
            rw [hex] at hQ hX
            have hl : (vs ++ [v]).length = vs.length + 1 := by rw [List.length_append, List.length_singleton]
            have ef2 : f = nn - (vs ++ [v]).length := by omega
            rw [ef2] at hQ hX
            rw [← hl]
            refine ih (vs ++ [v]) t2 _ (by omega) (by omega) (u2.fr hf) hne3 ⟨u3.1.fr hx hf, u3.2.1, fun i hi => ?_⟩ hQ hX
            rw [mI_sI]
            by_cases ci : i = vs.length
            · rw [if_pos ⟨rfl, rfl, ci⟩, ci, List.getD_eq_getElem?_getD, List.getElem?_append_right (Nat.le_refl _), Nat.sub_self]; rfl
            · rw [if_neg (fun z => ci z.2.2), u3.2.2 i (by omega), List.getD_eq_getElem?_getD, List.getD_eq_getElem?_getD, List.getElem?_append_left (by omega)]
          · conv => lhs; unfold pValsF
            rw [hs]
            dsimp only
            rw [show pNum i32min i32max t.tail = .inl e from u1]
        · conv => lhs; unfold pValsF
          rw [show pSign (if vs.length = 0 then 58 else 44) t = .inl (er t) from if_neg (fun z => y1 (z.trans hb.symm))]
      by_cases c0 : vs.length = 0
      · exact itp (by rw [c0]; rfl) (go 58 (if_pos c0).symm)
      · exact itn (ne_oN (b := 0) c0 (by omega) (by omega)) (go 44 (if_neg c0).symm)
end
