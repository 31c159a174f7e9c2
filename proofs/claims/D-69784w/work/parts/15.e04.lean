/-! B: linking: what the spec keeps -/
def KpL (s s' : LkS) : Prop := ∀ e, s.1 e ≠ 0 → s'.1 e = s.1 e
def Far (W : List Cls) (c : Nat) (s s' : LkS) : Prop := ∀ e, ¬ Reach (edge true W) c e → s'.1 e = s.1 e
theorem KpL.trans {s s1 s2 : LkS} (h : KpL s s1) (h1 : KpL s1 s2) : KpL s s2 := fun e he => (h1 e (by rw [h e he]; exact he)).trans (h e he)
theorem Far.trans {W : List Cls} {c : Nat} {s s1 s2 : LkS} (h : Far W c s s1) (h1 : Far W c s1 s2) : Far W c s s2 := fun e he => (h1 e he).trans (h e he)
theorem Far.of {W : List Cls} {c d : Nat} {s s1 : LkS} (h : Far W d s s1) (he : edge true W c d) : Far W c s s1 := fun e hn => h e (fun z => z.elim fun n q => hn ⟨n + 1, d, he, q⟩)
theorem edge_par {W : List Cls} {c p : Nat} (h : fnd W (gc W c).2.1 = some p) : edge true W c p := ⟨0, Nat.zero_le _, h⟩
theorem edge_face {W : List Cls} {c e : Nat} {f : Nm} (hf : f ∈ (gc W c).2.2.1) (h : fnd W f = some e) : edge true W c e := by
  obtain ⟨i, hi, he⟩ := List.mem_iff_getElem.mp hf
  refine ⟨i + 1, hi, ?_⟩
  unfold dirW
  rw [if_neg (by omega)]
  show fnd W ((gc W c).2.2.1.getD (i + 1 - 1) []) = _
  rw [Nat.add_sub_cancel, List.getD_eq_getElem?_getD, List.getElem?_eq_getElem hi, he]
  exact h
section
variable {br : Int32} {W : List Cls} {K : LkS → Nat → Int32 × LkS} {c : Nat}
theorem lkFs_kp (hK : ∀ s d, KpL s (K s d).2) : ∀ fs s, KpL s (lkFs K W fs s).2
  | [], s => fun _ _ => rfl
  | f :: fs, s => by
    unfold lkFs
    split
    · exact fun _ _ => rfl
    · split
      · exact (hK s _).trans (lkFs_kp hK fs _)
      · exact hK s _
theorem lkFs_far (hK : ∀ s d, Far W d s (K s d).2) : ∀ fs s, (∀ f ∈ fs, ∀ d, fnd W f = some d → edge true W c d) → Far W c s (lkFs K W fs s).2
  | [], s, _ => fun _ _ => rfl
  | f :: fs, s, h => by
    unfold lkFs
    split
    · exact fun _ _ => rfl
    · rename_i d ed
      have hd := h f (List.mem_cons_self ..) d ed
      split
      · exact ((hK s _).of hd).trans (lkFs_far hK fs _ (fun g hg => h g (List.mem_cons_of_mem _ hg)))
      · exact (hK s _).of hd
theorem lkEnd_st {s : LkS} : (lkEnd br W c s).2.1 = s.1 := by
  unfold lkEnd
  split
  · rfl
  · split <;> rfl
theorem askF_kp (hK : ∀ s d, KpL s (K s d).2) (s : LkS) : KpL s (askF br W K s c).2 := by
  unfold askF
  split
  · exact fun _ _ => rfl
  split
  · exact fun _ _ => rfl
  split
  · exact fun _ _ => rfl
  split
  · exact fun _ _ => rfl
  rename_i p _ _ _ _
  split
  · have := lkFs_kp (W := W) hK (gc W c).2.2.1 (K s p).2
    split
    · rename_i e; rw [e] at this; exact (hK s _).trans this
    · rename_i e; rw [e] at this
      exact fun x hx => by rw [lkEnd_st]; exact (hK s _).trans this x hx
  · exact hK s _
theorem askF_far (hK : ∀ s d, Far W d s (K s d).2) (s : LkS) : Far W c s (askF br W K s c).2 := by
  unfold askF
  split
  · exact fun _ _ => rfl
  split
  · exact fun _ _ => rfl
  split
  · exact fun _ _ => rfl
  split
  · exact fun _ _ => rfl
  rename_i p hp _ _ _
  have ep := edge_par hp
  split
  · have := lkFs_far (c := c) hK (gc W c).2.2.1 (K s p).2 (fun f hf d hd => edge_face hf hd)
    split
    · rename_i e; rw [e] at this; exact ((hK s _).of ep).trans this
    · rename_i e; rw [e] at this
      exact fun x hx => by rw [lkEnd_st]; exact ((hK s _).of ep).trans this x hx
  · exact (hK s _).of ep
/-- asking leaves the class's own link -/
theorem askF_self (hK : ∀ s d, Far W d s (K s d).2) (s : LkS) : (askF br W K s c).2.1 c = s.1 c := by
  by_cases hr : ring W c
  · unfold askF; rw [if_pos (ringB_iff.mpr hr)]
  unfold askF
  rw [if_neg (fun z => hr (ringB_iff.mp z))]
  have far : ∀ {d s s1}, edge true W c d → Far W d s s1 → s1.1 c = s.1 c := fun he hf => hf c (fun z => hr ⟨_, he, z⟩)
  have fs : ∀ l s, (∀ f ∈ l, f ∈ (gc W c).2.2.1) → (lkFs K W l s).2.1 c = s.1 c := by
    intro l
    induction l with
    | nil => intro s _; rfl
    | cons f l ih =>
      intro s hl
      unfold lkFs
      split
      · rfl
      · rename_i d ed
        have he := edge_face (hl f (List.mem_cons_self ..)) ed
        split
        · rw [ih _ (fun g hg => hl g (List.mem_cons_of_mem _ hg))]; exact far he (hK s _)
        · exact far he (hK s _)
  split
  · rfl
  split
  · rfl
  split
  · rfl
  rename_i p hp _ _ _
  have ep := edge_par hp
  split
  · have := fs (gc W c).2.2.1 (K s p).2 (fun f hf => hf)
    split
    · rename_i e; rw [e] at this; exact this.trans (far ep (hK s _))
    · rename_i e; rw [e] at this
      rw [lkEnd_st]; exact this.trans (far ep (hK s _))
  · exact far ep (hK s _)
end
section
variable {br : Int32} {W : List Cls}
theorem lkN_kp : ∀ n s c, KpL s (lkN br W n s c).2
  | 0, s, c => fun _ _ => rfl
  | n + 1, s, c => by
    unfold lkN
    by_cases h : s.1 c = 0
    · rw [if_pos h]
      intro e he
      show LSm _ c _ e = _
      unfold LSm
      rw [if_neg (fun (z : e = c) => he (z ▸ h))]
      exact askF_kp (lkN_kp n) s e he
    · rw [if_neg h]; exact fun _ _ => rfl
theorem lkN_far : ∀ n s c, Far W c s (lkN br W n s c).2
  | 0, s, c => fun _ _ => rfl
  | n + 1, s, c => by
    unfold lkN
    by_cases h : s.1 c = 0
    · rw [if_pos h]
      intro e he
      show LSm _ c _ e = _
      unfold LSm
      rw [if_neg (fun (z : e = c) => he (z ▸ Reach.rf _ _))]
      exact askF_far (lkN_far n) s e he
    · rw [if_neg h]; exact fun _ _ => rfl
theorem lkN_own {n : Nat} {s : LkS} {c : Nat} : (lkN br W (n + 1) s c).2.1 c = (lkN br W (n + 1) s c).1 := by
  unfold lkN
  by_cases h : s.1 c = 0
  · rw [if_pos h]; show LSm _ c _ c = _; unfold LSm; rw [if_pos rfl]
  · rw [if_neg h]
/-- faces that are linked all -/
theorem lkFs_none {n : Nat} : ∀ fs s, (lkFs (lkN br W (n + 1)) W fs s).1 = none → ∀ f ∈ fs, ∃ e, fnd W f = some e ∧ (lkFs (lkN br W (n + 1)) W fs s).2.1 e = 1
  | [], s, _ => fun f hf => absurd hf List.not_mem_nil
  | f :: fs, s, h => by
    unfold lkFs at h ⊢
    cases ef : fnd W f with
    | none => rw [ef] at h; cases h
    | some d =>
      rw [ef] at h
      by_cases c1 : (lkN br W (n + 1) s d).1 = 1
      · simp only [if_pos c1] at h ⊢
        intro g hg
        rcases List.mem_cons.mp hg with z | z
        · refine ⟨d, by rw [z]; exact ef, ?_⟩
          have := lkFs_kp (W := W) (K := lkN br W (n + 1)) (lkN_kp _) fs (lkN br W (n + 1) s d).2 d (by rw [lkN_own, c1]; decide)
          rw [this, lkN_own, c1]
        · exact lkFs_none fs _ h g z
      · simp only [if_neg c1] at h
        cases h
theorem lkFs_inv {K : LkS → Nat → Int32 × LkS} {c : Nat} (hK : ∀ s d, edge true W c d → LInv W s.1 → LInv W (K s d).2.1) : ∀ fs s, (∀ f ∈ fs, f ∈ (gc W c).2.2.1) → LInv W s.1 → LInv W (lkFs K W fs s).2.1
  | [], s, _, h => h
  | f :: fs, s, hf, h => by
    unfold lkFs
    split
    · exact h
    · rename_i d ed
      have := hK s d (edge_face (hf f (List.mem_cons_self ..)) ed) h
      split
      · exact lkFs_inv hK fs _ (fun g hg => hf g (List.mem_cons_of_mem _ hg)) this
      · exact this
theorem lkFs_some {K : LkS → Nat → Int32 × LkS} {r : Int32} : ∀ fs s, (lkFs K W fs s).1 = some r → r ≠ 1
  | [], s, h => by cases h
  | f :: fs, s, h => by
    unfold lkFs at h
    split at h
    · cases h; decide
    · split at h
      · exact lkFs_some fs _ h
      · rename_i c1; cases h; exact c1
/-- asking: what holds of links holds behind it; and 1 is said only where parent and faces are linked -/
theorem askF_inv {n c : Nat} (hK : ∀ s d, edge true W c d → LInv W s.1 → LInv W (lkN br W (n + 1) s d).2.1) (s : LkS) (h : LInv W s.1) : LInv W (askF br W (lkN br W (n + 1)) s c).2.1 ∧ ((askF br W (lkN br W (n + 1)) s c).1 = 1 → ¬ ring W c ∧ (∃ p, fnd W (gc W c).2.1 = some p ∧ (askF br W (lkN br W (n + 1)) s c).2.1 p = 1) ∧ ∀ f ∈ (gc W c).2.2.1, ∃ e, fnd W f = some e ∧ (askF br W (lkN br W (n + 1)) s c).2.1 e = 1) := by
  unfold askF
  by_cases hr : ring W c
  · rw [if_pos (ringB_iff.mpr hr)]; exact ⟨h, fun z => absurd z (show ¬ (2416 : Int32) = 1 by decide)⟩
  rw [if_neg (fun z => hr (ringB_iff.mp z))]
  cases hp : fnd W (gc W c).2.1 with
  | none => exact ⟨h, fun z => absurd z (show ¬ (2011 : Int32) = 1 by decide)⟩
  | some p =>
    by_cases c3 : (brk br 3 && decide (¬ (gc W p).2.2.2.1 &&& 5 = 0)) = true
    · simp only [if_pos c3]
      exact ⟨h, fun z => absurd z (show ¬ (2115 : Int32) = 1 by decide)⟩
    simp only [if_neg c3]
    cases hb : badF W (gc W c).2.2.1 with
    | some r =>
      refine ⟨h, fun z => absurd z (fun z => ?_)⟩
      have : ∀ l, badF W l = some r → r = 2211 ∨ r = 2315 := by
        intro l
        induction l with
        | nil => intro q; cases q
        | cons f l ih =>
          intro q
          unfold badF at q
          split at q
          · cases q; exact Or.inl rfl
          · split at q
            · exact ih q
            · cases q; exact Or.inr rfl
      replace z : r = 1 := z
      rcases this _ hb with q | q <;> rw [q] at z <;> exact absurd z (by decide)
    | none =>
      have ep := edge_par hp
      have h1 := hK s p ep h
      by_cases c1 : (lkN br W (n + 1) s p).1 = 1
      · simp only [if_pos c1]
        have h2 := lkFs_inv (W := W) (c := c) hK (gc W c).2.2.1 (lkN br W (n + 1) s p).2 (fun f hf => hf) h1
        have h3 := lkFs_none (W := W) (br := br) (n := n) (gc W c).2.2.1 (lkN br W (n + 1) s p).2
        have h5 := fun r => lkFs_some (W := W) (K := lkN br W (n + 1)) (r := r) (gc W c).2.2.1 (lkN br W (n + 1) s p).2
        have h4 := lkFs_kp (W := W) (K := lkN br W (n + 1)) (lkN_kp _) (gc W c).2.2.1 (lkN br W (n + 1) s p).2 p (by rw [lkN_own, c1]; decide)
        rw [lkN_own, c1] at h4
        generalize lkFs (lkN br W (n + 1)) W (gc W c).2.2.1 (lkN br W (n + 1) s p).2 = t at h2 h3 h4 h5
        obtain ⟨t1, t2⟩ := t
        cases t1 with
        | some r =>
          refine ⟨h2, fun z => absurd z (h5 r rfl)⟩
        | none =>
          show LInv W (lkEnd br W c t2).2.1 ∧ ((lkEnd br W c t2).1 = 1 → _ ∧ (∃ p_1, _ ∧ (lkEnd br W c t2).2.1 p_1 = 1) ∧ ∀ f ∈ _, ∃ e, _ ∧ (lkEnd br W c t2).2.1 e = 1)
          rw [lkEnd_st]
          exact ⟨h2, fun _ => ⟨hr, ⟨p, rfl, h4⟩, h3 rfl⟩⟩
      · simp only [if_neg c1]
        exact ⟨h1, fun z => absurd z c1⟩
theorem LInv.set {L : Nat → Int32} {c : Nat} {r : Int32} (h : LInv W L) (h0 : L c = 0) (hr : r = 1 → ¬ ring W c ∧ (∃ p, fnd W (gc W c).2.1 = some p ∧ L p = 1) ∧ ∀ f ∈ (gc W c).2.2.1, ∃ e, fnd W f = some e ∧ L e = 1) : LInv W (LSm L c r) := by
  obtain ⟨⟨a, b, d, e, g⟩, k⟩ := h
  have up : ∀ p, L p = 1 → LSm L c r p = 1 := fun p hp => by
    unfold LSm
    rw [if_neg (fun (z : p = c) => absurd (h0.symm.trans (z ▸ hp)) (by decide))]
    exact hp
  have wd : ∀ d, (¬ ring W d ∧ (∃ p, fnd W (gc W d).2.1 = some p ∧ L p = 1) ∧ ∀ f ∈ (gc W d).2.2.1, ∃ e, fnd W f = some e ∧ L e = 1) → (¬ ring W d ∧ (∃ p, fnd W (gc W d).2.1 = some p ∧ LSm L c r p = 1) ∧ ∀ f ∈ (gc W d).2.2.1, ∃ e, fnd W f = some e ∧ LSm L c r e = 1) := fun d ⟨x, ⟨p, y, y'⟩, z⟩ => ⟨x, ⟨p, y, up p y'⟩, fun f hf => (z f hf).elim fun e q => ⟨e, q.1, up e q.2⟩⟩
  refine ⟨⟨a, b, d, e, fun x hx => up x (g x hx)⟩, fun x hx h1 => ?_⟩
  by_cases ex : x = c
  · unfold LSm at h1
    rw [if_pos ex] at h1
    rw [ex]
    exact Or.inr (wd c (hr h1))
  · unfold LSm at h1
    rw [if_neg ex] at h1
    rcases k x hx h1 with z | z
    · exact Or.inl z
    · exact Or.inr (wd x z)
theorem lkN_inv : ∀ n s c, c < W.length → rk W c < n → LInv W s.1 → LInv W (lkN br W n s c).2.1
  | 0, s, c, _, h, _ => absurd h (by omega)
  | n + 1, s, c, hc, hn, h => by
    unfold lkN
    by_cases h0 : s.1 c = 0
    · rw [if_pos h0]
      show LInv W (LSm _ c _)
      have hs := askF_self (br := br) (c := c) (W := W) (lkN_far (br := br) n) s
      rw [h0] at hs
      by_cases hr : ring W c
      · have e : askF br W (lkN br W n) s c = (2416, s) := by unfold askF; rw [if_pos (ringB_iff.mpr hr)]
        rw [e]
        exact h.set h0 (fun z => absurd z (show ¬ (2416 : Int32) = 1 by decide))
      · have hp := rk_pos hc
        obtain ⟨m, em⟩ : ∃ m, n = m + 1 := ⟨n - 1, by omega⟩
        subst em
        obtain ⟨a, b⟩ := askF_inv (br := br) (c := c) (n := m) (fun s d hd hi => lkN_inv (m + 1) s d (edge_lt hc hd) (by have := rk_lt hc hd hr; omega) hi) s h
        exact a.set hs b
    · rw [if_neg h0]; exact h
end
