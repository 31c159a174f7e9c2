/-! B: what a text's lines leave holds together -/
def tyOk (κ : Kd) : Prop := κ = (0, []) ∨ κ = (1, []) ∨ κ.1 = 2
theorem tyOk.kd {κ : Kd} (h : tyOk κ) : kdOk κ := by
  rcases h with q | q | q
  · exact Or.inl q
  · exact Or.inr (Or.inl q)
  · exact Or.inr (Or.inr (Or.inr q))
theorem pType_ty {ts t2 : List Tok} {κ : Kd} (h : pType ts = .inr (κ, t2)) : tyOk κ := pType_kind h
theorem pTypesF_ty {s : Bool} : ∀ d acc ts ks t', pTypesF s d acc ts = .inr (ks, t') → (∀ κ ∈ acc, tyOk κ) → ∀ κ ∈ ks, tyOk κ := by
  intro d
  induction d with
  | zero => intro acc ts ks t' h; unfold pTypesF at h; cases h
  | succ d ih =>
    intro acc ts ks t' h ha
    unfold pTypesF at h
    by_cases c : (hd ts).1 = 41
    · rw [if_pos c] at h; cases h; exact ha
    · rw [if_neg c] at h
      split at h
      · cases h
      · split at h
        · cases h
        · split at h
          · cases h
          · rename_i q
            refine ih _ _ _ _ h (fun κ hκ => ?_)
            rcases List.mem_append.mp hκ with z | z
            · exact ha κ z
            · simp at z; rw [z]; exact pType_ty q
theorem pTypes_ty {s : Bool} {ts t' : List Tok} {ks : List Kd} (h : pTypes s ts = .inr (ks, t')) : ∀ κ ∈ ks, tyOk κ := by
  unfold pTypes pSign at h
  by_cases c : (hd ts).1 = 40
  · rw [if_pos c] at h
    exact pTypesF_ty _ _ _ _ _ h (fun κ hκ => by cases hκ)
  · rw [if_neg c] at h; cases h
theorem pSig_ty {ts t' : List Tok} {ks : List Kd} {κ : Kd} (h : pSig ts = .inr ((ks, κ), t')) : (∀ κ ∈ ks, tyOk κ) ∧ kdOk κ := by
  unfold pSig at h
  split at h
  · cases h
  · rename_i q
    split at h
    · cases h
    · rename_i r
      cases h
      exact ⟨pTypes_ty q, pRes_kd r⟩
theorem pKind_fk {ts t' : List Tok} {κ : Kd} (h : pKind ts = .inr (κ, t')) : fkOk κ := by
  unfold pKind at h
  split at h
  · cases h; exact Or.inr (Or.inr (Or.inl rfl))
  split at h
  · cases h; exact Or.inr (Or.inr (Or.inr (Or.inl rfl)))
  split at h
  · cases h; exact Or.inr (Or.inr (Or.inr (Or.inr (Or.inl rfl))))
  rcases pType_ty h with q | q | q
  · exact Or.inl q
  · exact Or.inr (Or.inl q)
  · exact Or.inr (Or.inr (Or.inr (Or.inr (Or.inr q))))
theorem pKinds_fk {b : Nat} : ∀ d acc ts ks t', pKinds b d acc ts = .inr (ks, t') → (∀ κ ∈ acc, fkOk κ) → ∀ κ ∈ ks, fkOk κ := by
  intro d
  induction d with
  | zero => intro acc ts ks t' h; unfold pKinds at h; cases h
  | succ d ih =>
    intro acc ts ks t' h ha
    unfold pKinds at h
    by_cases c : (hd ts).1 = b
    · rw [if_pos c] at h; cases h; exact ha
    · rw [if_neg c] at h
      split at h
      · cases h
      · split at h
        · cases h
        · rename_i q
          refine ih _ _ _ _ h (fun κ hκ => ?_)
          rcases List.mem_append.mp hκ with z | z
          · exact ha κ z
          · simp at z; rw [z]; exact pKind_fk q
theorem pFrame_fk {ts t' : List Tok} {ls ss : List Kd} (h : pFrame ts = .inr ((ls, ss), t')) : ∀ κ ∈ ls ++ ss, fkOk κ := by
  unfold pFrame at h
  split at h
  · cases h
  · rename_i q
    split at h
    · cases h
    · rename_i r
      cases h
      intro κ hκ
      rcases List.mem_append.mp hκ with z | z
      · exact pKinds_fk _ _ _ _ _ q (fun κ hκ => by cases hκ) κ z
      · exact pKinds_fk _ _ _ _ _ r (fun κ hκ => by cases hκ) κ z
theorem pPicks_ne : ∀ d acc ts ls t', pPicks d acc ts = .inr (ls, t') → ls.length ≠ 0 := by
  intro d
  induction d with
  | zero => intro acc ts ls t' h; unfold pPicks at h; cases h
  | succ d ih =>
    intro acc ts ls t' h
    unfold pPicks at h
    by_cases c : acc.length ≠ 0 ∧ (hd ts).1 = 0
    · rw [if_pos c] at h; cases h; exact c.1
    · rw [if_neg c] at h
      split at h
      · cases h
      · split at h
        · cases h
        · exact ih _ _ _ _ h
theorem pNum_nat {ts t2 : List Tok} {v : Int32} {n : Nat} (hn : n < 1000) (h : pNum 0 (Int32.ofNat n) ts = .inr (v, t2)) : ∃ a, v = Int32.ofNat a ∧ a ≤ n := by
  unfold pNum at h
  split at h
  · rename_i c
    cases h
    have h0 : ¬ (hd ts).2.2.1 < 0 := fun q => by
      have := c.2.1
      rw [Int32.le_iff_toInt_le] at this
      rw [Int32.lt_iff_toInt_lt] at q
      omega
    refine ⟨_, (ofNat_tnc h0).symm, ?_⟩
    have h2 := c.2.2
    rw [← ofNat_tnc h0] at h2
    exact (oN_le (tnc_lt _) (by omega)).mp h2
  · cases h
/-- what stands behind an operation is as it must be -/
def opOk (o : Nat) (v : Int32) (ks : List Kd) (κ : Kd) (nl : Nat) : Prop :=
  ((3 ≤ o ∧ o ≤ 7) → ∃ a, v = Int32.ofNat a ∧ a ≤ 19) ∧ (o = 40 → nl ≠ 0) ∧ (isJ o → nl = 1) ∧ (¬ isJ o → o ≠ 40 → nl = 0) ∧ (∀ κ ∈ ks, tyOk κ) ∧ kdOk κ ∧ (isFo o → tyOk κ)
theorem ty0 : kdOk (0, []) := Or.inl rfl
theorem nil_ty : ∀ κ ∈ ([] : List Kd), tyOk κ := fun κ h => by cases h
theorem pOpr_ok {o : Nat} {ts t1 : List Tok} {x : Opr} (h : pOpr o ts = .inr (x, t1)) : opOk o x.1 x.2.2.2.2.2.1 x.2.2.2.2.2.2 x.2.2.1.length := by
  unfold pOpr at h
  by_cases c1 : o = 1
  · rw [if_pos c1] at h
    split at h <;> cases h
    exact ⟨fun q => by omega, fun q => by omega, fun q => by omega, fun _ _ => rfl, nil_ty, ty0, fun q => by omega⟩
  rw [if_neg c1] at h
  by_cases c2 : 3 ≤ o ∧ o ≤ 6
  · rw [if_pos c2] at h
    split at h
    · cases h
    · rename_i q
      cases h
      exact ⟨fun _ => pNum_nat (n := 19) (by omega) q, fun q => by omega, fun q => by omega, fun _ _ => rfl, nil_ty, ty0, fun q => by omega⟩
  rw [if_neg c2] at h
  by_cases c3 : o = 7
  · rw [if_pos c3] at h
    split at h
    · cases h
    · rename_i q
      split at h <;> cases h
      exact ⟨fun _ => pNum_nat (n := 19) (by omega) q, fun q => by omega, fun q => by omega, fun _ _ => rfl, nil_ty, ty0, fun q => by omega⟩
  rw [if_neg c3] at h
  by_cases c4 : isJ o
  · rw [if_pos c4] at h
    split at h <;> cases h
    exact ⟨fun q => by omega, fun q => by omega, fun _ => rfl, fun q => absurd c4 q, nil_ty, ty0, fun q => by omega⟩
  rw [if_neg c4] at h
  by_cases c5 : o = 40
  · rw [if_pos c5] at h
    split at h
    · cases h
    · split at h
      · cases h
      · rename_i q
        cases h
        exact ⟨fun q => by omega, fun _ => pPicks_ne _ _ _ _ _ q, fun q => absurd q c4, fun _ q => absurd c5 q, nil_ty, ty0, fun q => by omega⟩
  rw [if_neg c5] at h
  by_cases c6 : isN o
  · rw [if_pos c6] at h
    split at h <;> cases h
    exact ⟨fun q => by omega, fun q => absurd q c5, fun q => absurd q c4, fun _ _ => rfl, nil_ty, ty0, fun q => by omega⟩
  rw [if_neg c6] at h
  by_cases c7 : isFo o
  · rw [if_pos c7] at h
    unfold pMember at h
    split at h
    · cases h
    · rename_i h0
      cases h
      split at h0
      · cases h0
      · split at h0
        · cases h0
        · split at h0
          · rw [if_neg (by decide)] at h0
            split at h0
            · cases h0
            · rename_i q
              cases h0
              have := pType_ty q
              exact ⟨fun q => by omega, fun q => absurd q c5, fun q => absurd q c4, fun _ _ => rfl, nil_ty, this.kd, fun _ => this⟩
          · cases h0
  rw [if_neg c7] at h
  by_cases c8 : isMo o
  · rw [if_pos c8] at h
    unfold pMember at h
    split at h
    · cases h
    · rename_i h0
      cases h
      split at h0
      · cases h0
      · split at h0
        · cases h0
        · split at h0
          · rw [if_pos rfl] at h0
            split at h0
            · cases h0
            · rename_i q
              cases h0
              have := pSig_ty q
              exact ⟨fun q => by omega, fun q => absurd q c5, fun q => absurd q c4, fun _ _ => rfl, this.1, this.2, fun q => absurd q c7⟩
          · cases h0
  rw [if_neg c8] at h
  cases h
  exact ⟨fun q => by omega, fun q => absurd q c5, fun q => absurd q c4, fun _ _ => rfl, nil_ty, ty0, fun q => absurd q c7⟩
/-! a method -/
def wfI (n : Nat) (i : Ins) : Prop := i.1 < 62 ∧ opOk i.1 (iV i) (iA i) (iR i) (iT i).length ∧ (∀ t ∈ iT i, t < n) ∧ (iA i).length ≤ 6 ∧ ∀ f, iF i = some f → ∀ κ ∈ f.1 ++ f.2, fkOk κ
def wfH (n : Nat) (h : Hnd) : Prop := h.1 < n ∧ h.2.1 ≤ n ∧ h.2.2.1 < n ∧ h.1 < h.2.1
def wfR (x : Mth) : Prop := ∃ s l, x.2.2.2.2.1 = Int32.ofNat s ∧ x.2.2.2.2.2.1 = Int32.ofNat l ∧ s ≤ 20 ∧ l ≤ 20 ∧ (co x ≠ [] → x.2.1.length + (if x.2.2.2.1 &&& 1 = 0 then 1 else 0) ≤ l)
def wfT (x : Mth) : Prop := (∀ κ ∈ x.2.1, tyOk κ) ∧ kdOk x.2.2.1 ∧ x.2.1.length ≤ 6
def wfM (x : Mth) : Prop := wfT x ∧ wfR x ∧ ((co x).length ≤ 80 ∧ ∀ i ∈ co x, wfI (co x).length i) ∧ ((hs x).length ≤ 8 ∧ ∀ h ∈ hs x, wfH (co x).length h) ∧ (co x = [] ↔ ¬ x.2.2.2.1 &&& 8 = 0)
def WF (W : List Cls) : Prop := ∀ c, 21 ≤ c → c < W.length → ∀ m ∈ (gc W c).2.2.2.2.2, wfM m
/-- a method while its lines come -/
def wfP (p : PM) : Prop := (wfT p.1 ∧ (∃ s l, p.1.2.2.2.2.1 = Int32.ofNat s ∧ p.1.2.2.2.2.2.1 = Int32.ofNat l ∧ s ≤ 20 ∧ l ≤ 20 ∧ p.1.2.1.length + (if p.1.2.2.2.1 &&& 1 = 0 then 1 else 0) ≤ l) ∧ p.1.2.2.2.1 &&& 8 = 0) ∧
  (p.2.1.length ≤ 80 ∧ ∀ i ∈ p.2.1, i.1 < 62 ∧ opOk i.1 i.2.1.1 i.2.1.2.2.2.2.2.1 i.2.1.2.2.2.2.2.2 i.2.1.2.2.1.length ∧ i.2.1.2.2.2.2.2.1.length ≤ 6 ∧ ∀ f, i.2.2.1 = some f → ∀ κ ∈ f.1 ++ f.2, fkOk κ) ∧
  p.2.2.1.length ≤ 8 ∧ (∀ l ∈ p.2.2.2.1, l.2.1 ≤ p.2.1.length) ∧ ∀ f, p.2.2.2.2 = some f → ∀ κ ∈ f.1 ++ f.2.1, fkOk κ
theorem lblm_ex {LS : List Lb} {nm : Nm} {k : Nat} (h : lbl LS nm = some k) : ∃ l ∈ LS, l.2.1 = k := by
  induction LS with
  | nil => cases h
  | cons l LS ih =>
    unfold lbl at h
    by_cases c : l.1 = nm
    · rw [if_pos c] at h; cases h; exact ⟨l, List.mem_cons_self, rfl⟩
    · rw [if_neg c] at h
      obtain ⟨z, hz, e⟩ := ih h
      exact ⟨z, List.mem_cons_of_mem _ hz, e⟩
theorem bad9_no {LS : List Lb} {n : Nat} {nm : Nm} {may : Bool} (hL : ∀ l ∈ LS, l.2.1 ≤ n) (h : bad9 LS n nm may = false) : lbN LS nm ≤ n ∧ (may = false → lbN LS nm < n) := by
  unfold bad9 at h
  unfold lbN
  cases e : lbl LS nm with
  | none => rw [e] at h; cases h
  | some k =>
    rw [e] at h
    obtain ⟨l, hl, ek⟩ := lblm_ex e
    have hk : k ≤ n := by rw [← ek]; exact hL l hl
    refine ⟨hk, fun hm => ?_⟩
    rw [hm] at h
    have : ¬ k = n := by simpa using h
    show k < n
    omega
theorem flat_nil {α β : Type} {l : List α} {f : α → List β} (h : l.flatMap f = []) : ∀ a ∈ l, f a = [] := fun a ha => by
  rw [List.flatMap_eq_nil_iff] at h
  exact h a ha
theorem wfP.fin {p : PM} {line : Nat} {m : Mth} (h : wfP p) (he : endM line p = .inr m) : wfM m := by
  unfold endM at he
  split at he
  · cases he
  rename_i e9
  split at he
  · cases he
  rename_i e10
  by_cases c0 : p.2.1.length = 0
  · rw [if_pos c0] at he; cases he
  rw [if_neg c0] at he
  cases he
  rw [minL_none] at e9 e10
  obtain ⟨⟨h1, h2, h3⟩, ⟨h4, h5⟩, h6, h7, h8⟩ := h
  unfold lines9 at e9
  have e9b := (List.append_eq_nil_iff.mp e9).2
  have e9i := (List.append_eq_nil_iff.mp e9b).1
  have e9c := (List.append_eq_nil_iff.mp e9b).2
  have e9h := (List.append_eq_nil_iff.mp e9c).1
  have hl : (co (mthOf p)).length = p.2.1.length := by show (p.2.1.map _).length = _; rw [List.length_map]
  have hne : co (mthOf p) ≠ [] := fun q => c0 (by rw [← hl, q]; rfl)
  refine ⟨h1, ?_, ⟨by rw [hl]; exact h4, fun i hi => ?_⟩, ⟨by show (p.2.2.1.map _).length ≤ 8; rw [List.length_map]; exact h6, fun g hg => ?_⟩, ⟨fun q => absurd q hne, fun q => absurd h3 q⟩⟩
  · obtain ⟨s, l, a, b, c, d, e⟩ := h2
    exact ⟨s, l, a, b, c, d, fun _ => e⟩
  · rw [hl]
    obtain ⟨j, hj, e⟩ := List.mem_map.mp (show i ∈ p.2.1.map (insOf p.2.2.2.1) from hi)
    subst e
    obtain ⟨a1, a2, a3, a4⟩ := h5 j hj
    refine ⟨a1, ?_, fun t ht => ?_, a3, a4⟩
    · show opOk j.1 j.2.1.1 j.2.1.2.2.2.2.2.1 j.2.1.2.2.2.2.2.2 (j.2.1.2.2.1.map (lbN p.2.2.2.1)).length
      rw [List.length_map]; exact a2
    · obtain ⟨nm, hn, e⟩ := List.mem_map.mp (show t ∈ j.2.1.2.2.1.map (lbN p.2.2.2.1) from ht)
      subst e
      have hb := flat_nil e9i j hj
      have hb2 : ¬ (j.2.1.2.2.1.any (fun nm => bad9 p.2.2.2.1 p.2.1.length nm false)) = true := fun q => by
        rw [if_pos q] at hb; cases hb
      have hb3 : bad9 p.2.2.2.1 p.2.1.length nm false = false := by
        cases q : bad9 p.2.2.2.1 p.2.1.length nm false with
        | false => rfl
        | true => exact absurd (List.any_eq_true.mpr ⟨nm, hn, q⟩) hb2
      exact (bad9_no h7 hb3).2 rfl
  · rw [hl]
    obtain ⟨j, hj, e⟩ := List.mem_map.mp (show g ∈ p.2.2.1.map (hndOf p.2.2.2.1) from hg)
    subst e
    have hb := flat_nil e9h j hj
    have hb2 : (bad9 p.2.2.2.1 p.2.1.length j.1 false || (bad9 p.2.2.2.1 p.2.1.length j.2.1 true || bad9 p.2.2.2.1 p.2.1.length j.2.2.1 false)) = false := by
      cases q : (bad9 p.2.2.2.1 p.2.1.length j.1 false || (bad9 p.2.2.2.1 p.2.1.length j.2.1 true || bad9 p.2.2.2.1 p.2.1.length j.2.2.1 false)) with
      | false => rfl
      | true => rw [if_pos q] at hb; cases hb
    rw [Bool.or_eq_false_iff, Bool.or_eq_false_iff] at hb2
    have ht := flat_nil (show p.2.2.1.flatMap (fun h => if lbN p.2.2.2.1 h.2.1 ≤ lbN p.2.2.2.1 h.1 then [h.2.2.2.2] else []) = [] from e10) j hj
    have ht2 : ¬ lbN p.2.2.2.1 j.2.1 ≤ lbN p.2.2.2.1 j.1 := fun q => by
      rw [if_pos q] at ht; cases ht
    exact ⟨(bad9_no h7 hb2.1).2 rfl, (bad9_no h7 hb2.2.1).1, (bad9_no h7 hb2.2.2).2 rfl, by show lbN _ _ < lbN _ _; omega⟩
theorem WF.addM {W : List Cls} {m : Mth} (h : WF W) (hm : wfM m) (h1 : 1 ≤ W.length) : WF (addM W m) := fun c h21 hc x hx => by
  rw [addM_len] at hc
  rw [gc_addM (c := W.length - 1) (by omega)] at hx
  by_cases e : c = W.length - 1
  · rw [if_pos e] at hx
    rcases List.mem_append.mp hx with q | q
    · rw [← e] at q; exact h c h21 hc x q
    · rw [List.mem_singleton.mp q]; exact hm
  · rw [if_neg e] at hx; exact h c h21 hc x hx
theorem WF.addF {W : List Cls} {f : Fld} {d : Nat} (h : WF W) (hd' : d < W.length) : WF (addF W d f) := fun c h21 hc x hx => by
  rw [addF_len] at hc
  rw [gc_addF hd'] at hx
  by_cases e : c = d
  · rw [if_pos e] at hx
    rw [← e] at hx; exact h c h21 hc x hx
  · rw [if_neg e] at hx; exact h c h21 hc x hx
theorem WF.addC {W : List Cls} {k : Cls} (h : WF W) (hk : k.2.2.2.2.2 = []) : WF (W ++ [k]) := fun c h21 hc x hx => by
  rw [List.length_append, List.length_singleton] at hc
  by_cases e : c < W.length
  · refine h c h21 e x ?_
    have : gc (W ++ [k]) c = gc W c := by
      show (W ++ [k]).getD c _ = W.getD c _
      rw [List.getD_eq_getElem?_getD, List.getD_eq_getElem?_getD, List.getElem?_append_left e]
    rw [this] at hx; exact hx
  · have e2 : c = W.length := by omega
    have : gc (W ++ [k]) c = k := by
      show (W ++ [k]).getD c _ = k
      rw [List.getD_eq_getElem?_getD, e2]; simp
    rw [this, hk] at hx; cases hx
def wfS (st : PSt) : Prop := WF st.2.1 ∧ 21 ≤ st.2.1.length ∧ (1 ≤ st.1 → 22 ≤ st.2.1.length) ∧ (st.1 = 2 → wfT st.2.2.1 ∧ st.2.2.1.2.2.2.1 &&& 8 = 0) ∧ (3 ≤ st.1 → wfP st.2.2)
theorem rulM_6 {br : Int32} {c : Cls} {bits : Int32} {own : Nm} {ks : List Kd} {κ : Kd} (h : rulM br c bits own ks κ = 99) : ks.length ≤ 6 := by
  unfold rulM at h
  repeat' split at h
  all_goals first
    | (exfalso; omega)
    | skip
  rename_i q
  have : ¬ 6 < ks.length := fun z => q (by rw [Bool.or_eq_true]; exact Or.inr (decide_eq_true z))
  omega
theorem pMethod_ty {ts t' : List Tok} {bits : Int32} {own : Nm} {ks : List Kd} {κ : Kd} (h : pMethod ts = .inr ((bits, own, ks, κ), t')) : (∀ κ ∈ ks, tyOk κ) ∧ kdOk κ := by
  unfold pMethod at h
  split at h
  rename_i b t1 _
  split at h
  · cases h
  · rename_i q
    cases h
    unfold pMethodT at q
    split at q
    · split at q
      · cases q
      · rename_i r
        cases q
        unfold pSigE at r
        split at r
        · cases r
        · rename_i s
          split at r
          · cases r; exact pSig_ty s
          · cases r
    · cases q
theorem bLine_wf {br : Int32} {W : List Cls} {l : List Tok} {st : PSt} (h : WF W) (hl : 22 ≤ W.length) (hb : bLine br W l = .inr st) : wfS st := by
  unfold bLine at hb
  split at hb
  · split at hb
    · cases hb
    · split at hb
      · cases hb
        exact ⟨h.addF (by omega), by show 21 ≤ (addF W _ _).length; rw [addF_len]; omega, fun _ => by show 22 ≤ (addF W _ _).length; rw [addF_len]; exact hl, fun q => absurd q (by show ¬ (1 = 2); omega), fun q => absurd q (by show ¬ (3 ≤ 1); omega)⟩
      · cases hb
  split at hb
  · split at hb
    · cases hb
    · rename_i hq
      have ht := pMethod_ty hq
      split at hb
      · rename_i h99
        have h6 := rulM_6 h99
        split at hb
        · rename_i h8
          cases hb
          exact ⟨h, by show 21 ≤ W.length; omega, fun _ => hl, fun _ => ⟨⟨ht.1, ht.2, h6⟩, h8⟩, fun q => absurd q (by show ¬ (3 ≤ 2); omega)⟩
        · rename_i h8
          cases hb
          refine ⟨h.addM ⟨⟨ht.1, ht.2, h6⟩, ⟨0, 0, rfl, rfl, by omega, by omega, fun q => absurd rfl q⟩, ⟨by show (0 : Nat) ≤ 80; omega, fun i hi => by cases hi⟩, ⟨by show (0 : Nat) ≤ 8; omega, fun i hi => by cases hi⟩, ⟨fun _ => h8, fun _ => rfl⟩⟩ (by omega), ?_, fun _ => ?_, fun q => absurd q (by show ¬ (1 = 2); omega), fun q => absurd q (by show ¬ (3 ≤ 1); omega)⟩
          · show 21 ≤ (addM W _).length; rw [addM_len]; omega
          · show 22 ≤ (addM W _).length; rw [addM_len]; omega
      · cases hb
  split at hb
  · split at hb
    · cases hb
      exact ⟨h, by show 21 ≤ W.length; omega, fun q => absurd q (by show ¬ (1 ≤ 0); omega), fun q => absurd q (by show ¬ (0 = 2); omega), fun q => absurd q (by show ¬ (3 ≤ 0); omega)⟩
    · cases hb
  · cases hb
theorem stp_wf {br : Int32} {st st' : PSt} {l : List Tok} (h : wfS st) (hs : stp br st l = .inr st') : wfS st' := by
  obtain ⟨h1, h2, h3, h4, h5⟩ := h
  unfold stp at hs
  by_cases c0 : st.1 = 0
  · rw [if_pos c0] at hs
    unfold cLine at hs
    split at hs
    · cases hs
    · split at hs
      · cases hs
        exact ⟨h1.addC rfl, by show 21 ≤ (st.2.1 ++ _).length; rw [List.length_append]; omega, fun _ => by show 22 ≤ (st.2.1 ++ _).length; rw [List.length_append, List.length_singleton]; omega, fun q => absurd q (by show ¬ (1 = 2); omega), fun q => absurd q (by show ¬ (3 ≤ 1); omega)⟩
      · cases hs
  rw [if_neg c0] at hs
  have h22 := h3 (by omega)
  by_cases c1 : st.1 = 1
  · rw [if_pos c1] at hs
    exact bLine_wf h1 h22 hs
  rw [if_neg c1] at hs
  by_cases c2 : st.1 = 2
  · rw [if_pos c2] at hs
    unfold rLine at hs
    obtain ⟨t1, t2⟩ := h4 c2
    split at hs
    · cases hs
    · rename_i a b _ hq
      by_cases hlt : b < Int32.ofNat (st.2.2.1.2.1.length + (if st.2.2.1.2.2.2.1 &&& 1 = 0 then 1 else 0))
      · rw [if_pos hlt] at hs; cases hs
      · rw [if_neg hlt] at hs
        cases hs
        refine ⟨h1, h2, fun _ => h22, fun q => absurd q (by show ¬ (3 = 2); omega), fun _ => ?_⟩
        show wfP ((st.2.2.1.1, st.2.2.1.2.1, st.2.2.1.2.2.1, st.2.2.1.2.2.2.1, a, b, [], []), [], [], [], none)
        refine ⟨⟨t1, ?_, t2⟩, ⟨Nat.zero_le _, fun i hi => absurd hi List.not_mem_nil⟩, Nat.zero_le _, fun j hj => absurd hj List.not_mem_nil, fun f hf => by cases hf⟩
        unfold pRoom at hq
        split at hq
        · split at hq
          · cases hq
          · rename_i e1
            split at hq
            · cases hq
            · rename_i e2
              split at hq
              · cases hq
                obtain ⟨s, es, hs⟩ := pNum_nat (n := 20) (by omega) e1
                obtain ⟨l', el, hl⟩ := pNum_nat (n := 20) (by omega) e2
                refine ⟨s, l', es, el, hs, hl, ?_⟩
                rw [el] at hlt
                have h6 := t1.2.2
                have := fun q => hlt ((oN_lt (a := l') (b := st.2.2.1.2.1.length + (if st.2.2.1.2.2.2.1 &&& 1 = 0 then 1 else 0)) (by omega) (by split <;> omega)).mpr q)
                exact Nat.le_of_not_lt this
              · cases hq
        · cases hq
  rw [if_neg c2] at hs
  have hP := h5 (by omega)
  unfold kLine at hs
  split at hs
  · split at hs
    · cases hs
    · rename_i m he
      exact bLine_wf (h1.addM (hP.fin he) (by omega)) (by rw [addM_len]; exact h22) hs
  obtain ⟨p1, ⟨p2, p3⟩, p4, p5, p6⟩ := hP
  split at hs
  · split at hs
    · cases hs
    · split at hs
      · cases hs
      · rename_i hq
        cases hs
        exact ⟨h1, h2, fun _ => h22, fun q => absurd q (by show ¬ (3 = 2); omega), fun _ => ⟨p1, ⟨p2, p3⟩, p4, p5, fun f hf => by cases hf; exact pFrame_fk hq⟩⟩
  split at hs
  · split at hs
    · cases hs
    · split at hs
      · cases hs
      · rename_i h8
        cases hs
        exact ⟨h1, h2, fun _ => h22, fun q => absurd q (by show ¬ (3 = 2); omega), fun _ => ⟨p1, ⟨p2, p3⟩, by show (st.2.2.2.2.1 ++ _).length ≤ 8; rw [List.length_append, List.length_singleton]; omega, p5, p6⟩⟩
  unfold iLine at hs
  split at hs
  rename_i ls t1 _
  have hlab : ∀ n, st.2.2.2.1.length ≤ n → ∀ l' ∈ st.2.2.2.2.2.1 ++ ls.map (fun nm => (nm, st.2.2.2.1.length, (hd l).2.2.2)), l'.2.1 ≤ n := fun n hn l' hl => by
    rcases List.mem_append.mp hl with q | q
    · exact Nat.le_trans (p5 l' q) hn
    · obtain ⟨nm, -, e⟩ := List.mem_map.mp q
      rw [← e]; exact hn
  split at hs
  · cases hs
    exact ⟨h1, h2, fun _ => h22, fun q => absurd q (by show ¬ (3 = 2); omega), fun _ => ⟨p1, ⟨p2, p3⟩, p4, hlab _ (Nat.le_refl _), p6⟩⟩
  · split at hs
    · cases hs
    · rename_i o x t2 hq
      split at hs
      · cases hs
      · rename_i h80
        cases hs
        refine ⟨h1, h2, fun _ => h22, fun q => absurd q (by show ¬ (3 = 2); omega), fun _ => ⟨p1, ⟨?_, fun i hi => ?_⟩, p4, hlab _ ?_, fun f hf => by cases hf⟩⟩
        · show (st.2.2.2.1 ++ _).length ≤ 80; rw [List.length_append, List.length_singleton]; omega
        · rcases List.mem_append.mp (show i ∈ st.2.2.2.1 ++ _ from hi) with q | q
          · exact p3 i q
          · rw [List.mem_singleton.mp q]
            unfold pInstr at hq
            split at hq
            · rename_i h62
              split at hq
              · cases hq
              · rename_i e1
                split at hq
                · cases hq
                  refine ⟨h62, pOpr_ok e1, by show x.2.2.2.2.2.1.length ≤ 6; omega, fun f hf => ?_⟩
                  obtain ⟨g, hg, e⟩ := Option.map_eq_some_iff.mp hf
                  rw [← e]; exact p6 g hg
                · cases hq
            · cases hq
        · show _ ≤ (st.2.2.2.1 ++ _).length; rw [List.length_append]; omega
theorem runL_wf {br : Int32} {n : Nat} : ∀ {ls : List (List Tok)} {st : PSt} {W' : List Cls}, wfS st → runL br n st ls = .inr W' → WF W' ∧ 21 ≤ W'.length
  | [], st, W', h, e => by
    unfold runL at e
    split at e
    · cases e; exact ⟨h.1, h.2.1⟩
    · cases e
  | l :: ls, st, W', h, e => by
    unfold runL at e
    split at e
    · cases e
    · rename_i hq
      exact runL_wf (stp_wf h hq) e
theorem WF.run {br : Int32} {n : Nat} {ls : List (List Tok)} {W W' : List Cls} (h : WF W) (h21 : 21 ≤ W.length) (e : runL br n (0, W, noM) ls = .inr W') : WF W' ∧ 21 ≤ W'.length :=
  runL_wf (st := (0, W, noM)) ⟨h, h21, fun q => absurd q (by show ¬ (1 ≤ 0); omega), fun q => absurd q (by show ¬ (0 = 2); omega), fun q => absurd q (by show ¬ (3 ≤ 0); omega)⟩ e
