/-! B: methods' heads in the twin -/
theorem kt_inj {A : List Nm} {a b : Kd} (ha : kdOk a) (hb : kdOk b) (ka : kok A a) (kb : kok A b) (hA : A.length ≤ 200000) : kt A a = kt A b ↔ a = b := by
  refine ⟨fun h => ?_, fun h => by rw [h]⟩
  have big : ∀ {κ : Kd}, κ.1 = 2 → kok A κ → kt A κ = Int32.ofNat (A.idxOf κ.2 + 16) ∧ A.idxOf κ.2 < A.length := fun {κ} h1 h2 => by
    refine ⟨by unfold kt; rw [if_pos h1], List.idxOf_lt_length_iff.mpr (h2 h1)⟩
  have sm : ∀ {κ : Kd}, (κ = (0, []) ∨ κ = (1, []) ∨ κ = (-4, [])) → ∀ j, 16 ≤ j → j < 2000000 → kt A κ ≠ Int32.ofNat j := fun {κ} h1 j j1 j2 q => by
    rcases h1 with e | e | e
    · subst e; exact absurd ((oN_inj (a := 1) (b := j) (by omega) (by omega)).mp q) (by omega)
    · subst e; exact absurd ((oN_inj (a := 2) (b := j) (by omega) (by omega)).mp q) (by omega)
    · subst e; exact absurd ((oN_inj (a := 0) (b := j) (by omega) (by omega)).mp q) (by omega)
  have cs : ∀ {κ : Kd}, kdOk κ → κ.1 ≠ 2 → (κ = (0, []) ∨ κ = (1, []) ∨ κ = (-4, [])) := fun {κ} h h2 => by
    rcases h with q | q | q | q
    · exact Or.inl q
    · exact Or.inr (Or.inl q)
    · exact Or.inr (Or.inr q)
    · exact absurd q h2
  by_cases a2 : a.1 = 2
  · obtain ⟨a3, a4⟩ := big a2 ka
    by_cases b2' : b.1 = 2
    · obtain ⟨b3, b4⟩ := big b2' kb
      rw [a3, b3] at h
      have := (oN_inj (by omega) (by omega)).mp h
      have e1 : A[A.idxOf a.2]? = some a.2 := by rw [List.getElem?_eq_getElem a4, List.getElem_idxOf a4]
      have e2 : A[A.idxOf b.2]? = some b.2 := by rw [List.getElem?_eq_getElem b4, List.getElem_idxOf b4]
      rw [show A.idxOf a.2 = A.idxOf b.2 by omega, e2] at e1
      exact Prod.ext (a2.trans b2'.symm) (Option.some.inj e1).symm
    · rw [a3] at h
      exact absurd h.symm (sm (cs hb b2') _ (by omega) (by omega))
  · have ha' := cs ha a2
    by_cases b2' : b.1 = 2
    · obtain ⟨b3, b4⟩ := big b2' kb
      rw [b3] at h
      exact absurd h (sm ha' _ (by omega) (by omega))
    · have hb' := cs hb b2'
      have d1 : ¬ (1 : Int32) = 2 := by decide
      have d2 : ¬ (1 : Int32) = 0 := by decide
      have d3 : ¬ (2 : Int32) = 0 := by decide
      rcases ha' with e | e | e <;> rcases hb' with e' | e' | e' <;> (subst e e')
      · rfl
      · exact absurd h d1
      · exact absurd h d2
      · exact absurd h.symm d1
      · rfl
      · exact absurd h d3
      · exact absurd h.symm d2
      · exact absurd h.symm d3
      · rfl
theorem sg_inj {A : List Nm} {ks ks' : List Kd} {κ κ' : Kd} (h1 : ∀ κ ∈ ks, kok A κ ∧ kdOk κ) (h2 : ∀ κ ∈ ks', kok A κ ∧ kdOk κ) (h3 : kok A κ ∧ kdOk κ) (h4 : kok A κ' ∧ kdOk κ') (hA : A.length ≤ 200000) : sg A ks κ = sg A ks' κ' ↔ ks = ks' ∧ κ = κ' := by
  refine ⟨fun h => ?_, fun h => by rw [h.1, h.2]⟩
  have e1 : ks.map (kt A) = ks'.map (kt A) := congrArg Prod.fst h
  have e2 : kt A κ = kt A κ' := congrArg Prod.snd h
  have hl : ks.length = ks'.length := by have := congrArg List.length e1; simpa using this
  refine ⟨list_gk hl (fun j hj => ?_), (kt_inj h3.2 h4.2 h3.1 h4.1 hA).mp e2⟩
  have hj' : j < ks'.length := by omega
  have := congrArg (fun l => gi l j) e1
  rw [gi_map hj, gi_map hj'] at this
  exact (kt_inj (h1 _ (gk_mem hj)).2 (h2 _ (gk_mem hj')).2 (h1 _ (gk_mem hj)).1 (h2 _ (gk_mem hj')).1 hA).mp this
theorem idxS_inj {S : List Sg} {a b : Sg} (ha : a ∈ S) (hb : b ∈ S) (hl : S.length ≤ 100000) : Int32.ofNat (S.idxOf a) = Int32.ofNat (S.idxOf b) ↔ a = b := by
  have h1 := List.idxOf_lt_length_iff.mpr ha
  have h2 := List.idxOf_lt_length_iff.mpr hb
  refine ⟨fun h => ?_, fun h => by rw [h]⟩
  have := (oN_inj (by omega) (by omega)).mp h
  have e1 : S[S.idxOf a]? = some a := by rw [List.getElem?_eq_getElem h1, List.getElem_idxOf h1]
  have e2 : S[S.idxOf b]? = some b := by rw [List.getElem?_eq_getElem h2, List.getElem_idxOf h2]
  rw [this, e2] at e1
  exact (Option.some.inj e1).symm
/-- a method's head, as the twin holds it -/
def tHd (A : List Nm) (S : List Sg) (w m : Nat) (x : Mth) (M : Mem) : Prop := (mI M 144 w m = nc A x.1 ∧ x.1 ∈ A) ∧ (mI M 145 w m = Int32.ofNat (S.idxOf (sg A x.2.1 x.2.2.1)) ∧ sg A x.2.1 x.2.2.1 ∈ S) ∧ ((∀ κ ∈ x.2.1, kok A κ ∧ kdOk κ) ∧ (kok A x.2.2.1 ∧ kdOk x.2.2.1) ∧ x.2.1.length ≤ 6) ∧ mI M 146 w m = x.2.2.2.1 ∧ mI M 147 w m = x.2.2.2.2.1 ∧ mI M 148 w m = x.2.2.2.2.2.1
/-- methods' heads of a world; e = 1 while one is not finished -/
def tMh (A : List Nm) (S : List Sg) (W : List Cls) (w e : Nat) (M : Mem) : Prop := (∀ f, 144 ≤ f → f ≤ 151 → mL M f w = 612) ∧ ∀ c, c < W.length → (mI M 136 w c = Int32.ofNat ((gc W c).2.2.2.2.2.length + if c + 1 = W.length then e else 0) ∧ (gc W c).2.2.2.2.2.length ≤ 12) ∧ ∀ k, k < (gc W c).2.2.2.2.2.length → tHd A S w (12 * c + k) (gmt (gc W c) k) M
theorem idxS_pre {S S' : List Sg} (h : S <+: S') {x : Sg} (hx : x ∈ S) : S'.idxOf x = S.idxOf x := by
  obtain ⟨T, rfl⟩ := h
  rw [List.idxOf_append, if_pos hx]
theorem tHd.pre {A : List Nm} {S S' : List Sg} {w m : Nat} {x : Mth} {M : Mem} (h : tHd A S w m x M) (hs : S <+: S') : tHd A S' w m x M := ⟨h.1, ⟨by rw [idxS_pre hs h.2.1.2]; exact h.2.1.1, hs.subset h.2.1.2⟩, h.2.2⟩
theorem kt_map {A A' : List Nm} (hp : A <+: A') {ks : List Kd} (h : ∀ κ ∈ ks, kok A κ) : ks.map (kt A') = ks.map (kt A) := List.map_congr_left (fun κ hκ => kt_pre hp (h κ hκ))
theorem tHd.preA {A A' : List Nm} {S : List Sg} {w m : Nat} {x : Mth} {M : Mem} (h : tHd A S w m x M) (hp : A <+: A') : tHd A' S w m x M := by
  have e : sg A' x.2.1 x.2.2.1 = sg A x.2.1 x.2.2.1 := by unfold sg; rw [kt_map hp (fun κ hκ => (h.2.2.1.1 κ hκ).1), kt_pre hp h.2.2.1.2.1.1]
  exact ⟨⟨h.1.1.trans (nc_pre hp h.1.2).symm, hp.subset h.1.2⟩, by rw [e]; exact h.2.1, ⟨fun κ hκ => ⟨kok_pre hp (h.2.2.1.1 κ hκ).1, (h.2.2.1.1 κ hκ).2⟩, ⟨kok_pre hp h.2.2.1.2.1.1, h.2.2.1.2.1.2⟩, h.2.2.1.2.2⟩, h.2.2.2⟩
theorem tMh.pre {A : List Nm} {S S' : List Sg} {W : List Cls} {w e : Nat} {M : Mem} (h : tMh A S W w e M) (hs : S <+: S') : tMh A S' W w e M := ⟨h.1, fun c hc => ⟨(h.2 c hc).1, fun k hk => ((h.2 c hc).2 k hk).pre hs⟩⟩
theorem tMh.preA {A A' : List Nm} {S : List Sg} {W : List Cls} {w e : Nat} {M : Mem} (h : tMh A S W w e M) (hp : A <+: A') : tMh A' S W w e M := ⟨h.1, fun c hc => ⟨(h.2 c hc).1, fun k hk => ((h.2 c hc).2 k hk).preA hp⟩⟩
theorem tMh.of {A : List Nm} {S : List Sg} {W : List Cls} {w e : Nat} {M M' : Mem} (h : tMh A S W w e M) (e1 : ∀ f, f = 136 ∨ (144 ≤ f ∧ f ≤ 148) → ∀ k, mI M' f w k = mI M f w k) (l : ∀ f, 144 ≤ f → f ≤ 151 → mL M' f w = mL M f w) : tMh A S W w e M' := by
  refine ⟨fun f a b => (l f a b).trans (h.1 f a b), fun c hc => ⟨by rw [e1 136 (by omega)]; exact (h.2 c hc).1, fun k hk => ?_⟩⟩
  obtain ⟨a, b, d, e, f, g⟩ := (h.2 c hc).2 k hk
  exact ⟨⟨(e1 144 (by omega) _).trans a.1, a.2⟩, ⟨(e1 145 (by omega) _).trans b.1, b.2⟩, d, (e1 146 (by omega) _).trans e, (e1 147 (by omega) _).trans f, (e1 148 (by omega) _).trans g⟩
def mhOk (S : Nat) : Bool := [136, 144, 145, 146, 147, 148].all (fun f => !S.testBit f) && [144, 145, 146, 147, 148, 149, 150, 151].all (fun f => !S.testBit (5000 + f))
theorem tMh.fr {A : List Nm} {S : List Sg} {W : List Cls} {w e : Nat} {M M' : Mem} {F : Nat} (h : tMh A S W w e M) (hf : Fr F M M') (hS : mhOk F = true := by rfl) : tMh A S W w e M' := by
  unfold mhOk at hS
  rw [Bool.and_eq_true, List.all_eq_true, List.all_eq_true] at hS
  refine h.of (fun f q k => hf.Ia (Nat.ble_eq.mpr (by omega)) ?_ w k) (fun f a b => hf.L ?_ w)
  · have := hS.1 f (by simp only [List.mem_cons, List.not_mem_nil, or_false]; omega)
    simpa using this
  · have := hS.2 f (by simp only [List.mem_cons, List.not_mem_nil, or_false]; omega)
    simpa using this
/-- while a method's line is asked: words, world, the least rule, heads, signatures -/
def B3 (G XX : List Sl) (A : List Nm) (S : List Sg) (W : List Cls) (w c : Nat) (br : Int32) (L t : List Tok) (l : Nat) (M0 M : Mem) : Prop := (TQ A L t M ∧ Cx1 A W w br M ∧ mI M 11 0 51 = Int32.ofNat l ∧ GF G XX M0 M ∧ tMh A S W w 0 M ∧ mI M 11 0 53 = Int32.ofNat c ∧ c < W.length) ∧ LoT w c M0 M ∧ TU A S M ∧ (mI M 11 0 38 = Int32.ofNat (S.idxOf ([], 0)) ∧ (([], 0) : Sg) ∈ S) ∧ ∀ f, 149 ≤ f → f ≤ 155 → ∀ i k, mI M f i k = mI M0 f i k
theorem TU.s11 {A : List Nm} {S : List Sg} {G : List Sl} {M : Mem} {k : Nat} {v : Int32} (h : TU A S M) (hk : k = 43 ∨ 50 < k) : TU A S (sI M 11 0 k v) := by
  refine ⟨h.1.of (by rw [mI_sI, if_neg (fun q => by omega)]) rfl (fun _ => rfl) (fun _ => rfl) (fun _ => rfl) (fun _ => rfl) rfl rfl rfl, h.2.of (by rw [mI_sI, if_neg (fun q => by omega)]) (by rw [mI_sI, if_neg (fun q => by omega)]) rfl (fun _ => rfl) (fun s hs => ?_)⟩
  simp only [X5, List.mem_cons, List.not_mem_nil, or_false] at hs
  rcases hs with e | e | e | e | e <;> (subst e; exact ⟨fun _ => rfl, rfl⟩)
theorem B3.asks {G XX : List Sl} {A : List Nm} {S : List Sg} {W : List Cls} {w c : Nat} {br : Int32} {L t : List Tok} {l rule : Nat} {M0 M : Mem} {b : Bool} {Q : Mem → Prop} (h : B3 G XX A S W w c br L t l M0 M) (hG : Ga G) (hl : l < 1000) (hr : rule < 1000) (hQ : ∀ M', B3 G XX A S W w c br L t (lst l rule b) M0 M' → Q M') : w_Model_asks 0 (Int32.ofNat rule) (b2 b) Q M := by
  obtain ⟨⟨h1, h2, h3, h4, h5, h6, h7⟩, h8, h9, h10, h11⟩ := h
  refine ct_asks h3 hl hr (fun M' e1 e2 => hQ M' ?_)
  rcases e2 with q | q
  · subst q; exact ⟨⟨h1, h2, e1, h4, h5, h6, h7⟩, h8, h9, h10, h11⟩
  · subst q
    refine ⟨⟨h1.of (fun k hk => by rw [mI_sI, if_neg (fun q => by omega)]) (fun _ => rfl) (fun _ => rfl) (fun _ => rfl) rfl rfl rfl, h2.s11, e1, h4.of (fun s hs => rfl) (fun s hs i j => by have := hG.ob s hs; rw [mI_sI, if_neg (fun q => by omega)]) (fun s hs i => rfl) rfl rfl, h5.of (fun f q k => by rw [mI_sI, if_neg (fun q => by omega)]) (fun f _ _ => rfl), by rw [mI_sI, if_neg (fun q => absurd q.2.2 (by decide))]; exact h6, h7⟩, h8.wo, h9.s11 (G := G) (Or.inr (by omega)), by rw [mI_sI, if_neg (fun q => absurd q.2.2 (by decide))]; exact h10, fun f a b i k => by rw [mI_sI, if_neg (fun q => by omega)]; exact h11 f a b i k⟩
theorem pFlags_bits4 {w1 w2 w3 w4 : Nm} : ∀ d (bits : Int32) ts bits' ts', pFlags (flg w1 w2 w3 (some w4)) d bits ts = (bits', ts') → (∃ j, j < 16 ∧ bits = Int32.ofNat j) → ∃ j, j < 16 ∧ bits' = Int32.ofNat j := by
  intro d
  induction d with
  | zero => intro bits ts bits' ts' h hb; unfold pFlags at h; cases h; exact hb
  | succ d ih =>
    intro bits ts bits' ts' h hb
    unfold pFlags at h
    split at h
    · refine ih _ _ _ _ h ?_
      have hf : flg w1 w2 w3 (some w4) (hd ts).2.1 = 1 ∨ flg w1 w2 w3 (some w4) (hd ts).2.1 = 2 ∨ flg w1 w2 w3 (some w4) (hd ts).2.1 = 4 ∨ flg w1 w2 w3 (some w4) (hd ts).2.1 = 8 ∨ flg w1 w2 w3 (some w4) (hd ts).2.1 = 0 := by
        unfold flg
        repeat' split
        all_goals simp_all
      obtain ⟨j, j1, j2⟩ := hb
      have key : ∀ j : Fin 16, ∀ f ∈ ([1, 2, 4, 8, 0] : List Int32), ∃ i : Fin 16, Int32.ofNat j.val ||| f = Int32.ofNat i.val := by decide
      have hm : flg w1 w2 w3 (some w4) (hd ts).2.1 ∈ ([1, 2, 4, 8, 0] : List Int32) := by
        simp only [List.mem_cons, List.not_mem_nil, or_false]; exact hf
      obtain ⟨i, hi⟩ := key ⟨j, j1⟩ _ hm
      exact ⟨i.val, i.isLt, by rw [j2]; exact hi⟩
    · cases h; exact hb
theorem lst_finM (a b c d e1 e2 f : Bool) : lst (lst (lst (lst (lst (lst (lst 99 3 a) 4 b) 5 c) 6 d) 7 e1) 7 e2) 12 f = if a then 3 else if b then 4 else if c then 5 else if d then 6 else if e1 || e2 then 7 else if f then 12 else 99 := by
  cases a <;> cases b <;> cases c <;> cases d <;> cases e1 <;> cases e2 <;> cases f <;> rfl
theorem bits1 {bits : Int32} (h : ∃ j, j < 16 ∧ bits = Int32.ofNat j) : decide (¬ bits = 1) = (decide (bits &&& 1 = 0) || decide (¬ bits &&& 14 = 0)) := by
  obtain ⟨j, j1, j2⟩ := h
  have key : ∀ j : Fin 16, decide (¬ Int32.ofNat j.val = 1) = (decide (Int32.ofNat j.val &&& 1 = 0) || decide (¬ Int32.ofNat j.val &&& 14 = 0)) := by decide
  rw [j2]; exact key ⟨j, j1⟩
