/-! B: words are taken in a method's line of the twin -/
theorem pCls_hd {ts t2 : List Tok} {nm : Nm} (h : pCls ts = .inr (nm, t2)) : (hd ts).1 = 2 := by
  unfold pCls at h
  split at h
  · rename_i c; exact c.1
  · cases h
theorem JM.num {G : List Sl} {US : UST} {A : List Nm} {S : List Sg} {W : List Cls} {w c : Nat} {br : Int32} {q0 nl0 nq nl nf nk : Nat} {p : PM} {NL : List Nine} {z : Nat × Nat × Nat × Nat × Nat × Nat} {L ts : List Tok} {M0 M : Mem} {lo hi : Int32} {Q : Int32 → Mem → Prop} {X : Mem → Prop} (h : JM G US A S W w c br q0 nl0 nq nl nf nk p NL z L ts M0 M) (hx : Gx G w) (hz : lz L) (hne : ts ≠ [])
    (hQ : ∀ v t2 M', pNum lo hi ts = .inr (v, t2) →  t2 ≠ [] → JM G US A S W w c br q0 nl0 nq nl nf nk p NL z L t2 M0 M' → Q (v) M') (hX : ∀ e M', pNum lo hi ts = .inl e → ThT e M' → JE G US A w z M0 M' → X M') : w_Model_numberIn 0 lo hi Q X M := by
  refine mf_w_Model_numberIn (Q := fun u M' => ∃ v t2, pNum lo hi ts = .inr (v, t2) ∧  TQ A L t2 M' ∧ u = v) (X := fun M' => ∃ e, pNum lo hi ts = .inl e ∧ ThT e M') (fun u M2 hf2 hp2 => ?_) (fun M2 hf2 hp2 => ?_) (ct_numberIn h.1 hne (fun v t2 M' a b => ⟨v, t2, a, b, rfl⟩) (fun e M' a b => ⟨e, a, b⟩))
  · obtain ⟨v, t2, a,  hq, e⟩ := hp2
    rw [e]
    exact hQ v t2 M2 a  (by rw [(pNum_tail a).1]; exact tl_ne h.1 hz hne (by rw [(pNum_tail a).2]; decide)) (h.fr hx hf2 hq)
  · obtain ⟨e, a, b⟩ := hp2
    exact hX e M2 a b (h.je.fr hx hf2)
theorem JM.cls {G : List Sl} {US : UST} {A : List Nm} {S : List Sg} {W : List Cls} {w c : Nat} {br : Int32} {q0 nl0 nq nl nf nk : Nat} {p : PM} {NL : List Nine} {z : Nat × Nat × Nat × Nat × Nat × Nat} {L ts : List Tok} {M0 M : Mem}  {Q : Int32 → Mem → Prop} {X : Mem → Prop} (h : JM G US A S W w c br q0 nl0 nq nl nf nk p NL z L ts M0 M) (hx : Gx G w) (hz : lz L) (hne : ts ≠ [])
    (hQ : ∀ v t2 M', pCls ts = .inr (v, t2) → v ∈ A → t2 ≠ [] → JM G US A S W w c br q0 nl0 nq nl nf nk p NL z L t2 M0 M' → Q (nc A v) M') (hX : ∀ e M', pCls ts = .inl e → ThT e M' → JE G US A w z M0 M' → X M') : w_Model_className 0 Q X M := by
  refine mf_w_Model_className (Q := fun u M' => ∃ v t2, pCls ts = .inr (v, t2) ∧ v ∈ A ∧ TQ A L t2 M' ∧ u = nc A v) (X := fun M' => ∃ e, pCls ts = .inl e ∧ ThT e M') (fun u M2 hf2 hp2 => ?_) (fun M2 hf2 hp2 => ?_) (ct_className h.1 hne (fun v t2 M' a b c => ⟨v, t2, a, b, c, rfl⟩) (fun e M' a b => ⟨e, a, b⟩))
  · obtain ⟨v, t2, a, b, hq, e⟩ := hp2
    rw [e]
    exact hQ v t2 M2 a b (by rw [pCls_tail a]; exact tl_ne h.1 hz hne (by have := pCls_hd a; omega)) (h.fr hx hf2 hq)
  · obtain ⟨e, a, b⟩ := hp2
    exact hX e M2 a b (h.je.fr hx hf2)
theorem JM.typ {G : List Sl} {US : UST} {A : List Nm} {S : List Sg} {W : List Cls} {w c : Nat} {br : Int32} {q0 nl0 nq nl nf nk : Nat} {p : PM} {NL : List Nine} {z : Nat × Nat × Nat × Nat × Nat × Nat} {L ts : List Tok} {M0 M : Mem}  {Q : Int32 → Mem → Prop} {X : Mem → Prop} (h : JM G US A S W w c br q0 nl0 nq nl nf nk p NL z L ts M0 M) (hx : Gx G w) (hz : lz L) (hne : ts ≠ [])
    (hQ : ∀ v t2 M', pType ts = .inr (v, t2) → kok A v → t2 ≠ [] → JM G US A S W w c br q0 nl0 nq nl nf nk p NL z L t2 M0 M' → Q (kt A v) M') (hX : ∀ e M', pType ts = .inl e → ThT e M' → JE G US A w z M0 M' → X M') : w_Model_type 0 Q X M := by
  refine mf_w_Model_type (Q := fun u M' => ∃ v t2, pType ts = .inr (v, t2) ∧ kok A v ∧ TQ A L t2 M' ∧ u = kt A v) (X := fun M' => ∃ e, pType ts = .inl e ∧ ThT e M') (fun u M2 hf2 hp2 => ?_) (fun M2 hf2 hp2 => ?_) (ct_type h.1 hne (fun v t2 M' a b c => ⟨v, t2, a, b, c, rfl⟩) (fun e M' a b => ⟨e, a, b⟩))
  · obtain ⟨v, t2, a, b, hq, e⟩ := hp2
    rw [e]
    exact hQ v t2 M2 a b (by rw [pType_tail a]; exact tl_ne h.1 hz hne (by rw [pType_ne a]; decide)) (h.fr hx hf2 hq)
  · obtain ⟨e, a, b⟩ := hp2
    exact hX e M2 a b (h.je.fr hx hf2)
theorem JM.name {G : List Sl} {US : UST} {A : List Nm} {S : List Sg} {W : List Cls} {w c : Nat} {br : Int32} {q0 nl0 nq nl nf nk : Nat} {p : PM} {NL : List Nine} {z : Nat × Nat × Nat × Nat × Nat × Nat} {L ts : List Tok} {M0 M : Mem}  {Q : Int32 → Mem → Prop} {X : Mem → Prop} (h : JM G US A S W w c br q0 nl0 nq nl nf nk p NL z L ts M0 M) (hx : Gx G w) (hz : lz L) (hne : ts ≠ [])
    (hQ : ∀ v t2 M', pName ts = .inr (v, t2) → v ∈ A → t2 ≠ [] → JM G US A S W w c br q0 nl0 nq nl nf nk p NL z L t2 M0 M' → Q (nc A v) M') (hX : ∀ e M', pName ts = .inl e → ThT e M' → JE G US A w z M0 M' → X M') : w_Model_plainName 0 Q X M := by
  refine mf_w_Model_plainName (Q := fun u M' => ∃ v t2, pName ts = .inr (v, t2) ∧ v ∈ A ∧ TQ A L t2 M' ∧ u = nc A v) (X := fun M' => ∃ e, pName ts = .inl e ∧ ThT e M') (fun u M2 hf2 hp2 => ?_) (fun M2 hf2 hp2 => ?_) (ct_plainName h.1 hne (fun v t2 M' a b c => ⟨v, t2, a, b, c, rfl⟩) (fun e M' a b => ⟨e, a, b⟩))
  · obtain ⟨v, t2, a, b, hq, e⟩ := hp2
    rw [e]
    exact hQ v t2 M2 a b (by rw [(pName_tail a).1]; exact tl_ne h.1 hz hne (by rw [(pName_tail a).2]; decide)) (h.fr hx hf2 hq)
  · obtain ⟨e, a, b⟩ := hp2
    exact hX e M2 a b (h.je.fr hx hf2)
theorem JM.need {G : List Sl} {US : UST} {A : List Nm} {S : List Sg} {W : List Cls} {w c : Nat} {br : Int32} {q0 nl0 nq nl nf nk : Nat} {p : PM} {NL : List Nine} {z : Nat × Nat × Nat × Nat × Nat × Nat} {L ts : List Tok} {M0 M : Mem} {b : Nat} {Q X : Mem → Prop} (h : JM G US A S W w c br q0 nl0 nq nl nf nk p NL z L ts M0 M) (hx : Gx G w) (hz : lz L) (hne : ts ≠ []) (hb : b < 100)
    (hQ : ∀ M', (hd ts).1 = b → (b ≠ 0 → ts.tail ≠ []) → JM G US A S W w c br q0 nl0 nq nl nf nk p NL z L ts.tail M0 M' → Q M') (hX : ∀ M', (hd ts).1 ≠ b → ThT (er ts) M' → JE G US A w z M0 M' → X M') : w_Model_need 0 (Int32.ofNat b) Q X M := by
  refine mf_w_Model_need (Q := fun M' => (hd ts).1 = b ∧ TQ A L ts.tail M') (X := fun M' => (hd ts).1 ≠ b ∧ ThT (er ts) M') (fun M2 hf2 hp2 => ?_) (fun M2 hf2 hp2 => ?_) (ct_need h.1 hne hb (fun M' a b => ⟨a, b⟩) (fun M' a b => ⟨a, b⟩))
  · exact hQ M2 hp2.1 (fun q => tl_ne h.1 hz hne (by rw [hp2.1]; exact q)) (h.fr hx hf2 hp2.2)
  · exact hX M2 hp2.1 hp2.2 (h.je.fr hx hf2)
theorem JM.takes {G : List Sl} {US : UST} {A : List Nm} {S : List Sg} {W : List Cls} {w c : Nat} {br : Int32} {q0 nl0 nq nl nf nk : Nat} {p : PM} {NL : List Nine} {z : Nat × Nat × Nat × Nat × Nat × Nat} {L ts : List Tok} {M0 M : Mem} {nm : Nm} {Q : Int32 → Mem → Prop} (h : JM G US A S W w c br q0 nl0 nq nl nf nk p NL z L ts M0 M) (hx : Gx G w) (hz : lz L) (hne : ts ≠ []) (hm : nm ∈ A)
    (hQ1 : ∀ M', isWd nm ts = true → ts.tail ≠ [] → JM G US A S W w c br q0 nl0 nq nl nf nk p NL z L ts.tail M0 M' → Q 1 M') (hQ0 : ∀ M', isWd nm ts = false → JM G US A S W w c br q0 nl0 nq nl nf nk p NL z L ts M0 M' → Q 0 M') : w_Model_takes 0 (nc A nm) Q M := by
  refine mf_w_Model_takes (Q := fun u M' => (u = 1 ∧ isWd nm ts = true ∧ TQ A L ts.tail M') ∨ (u = 0 ∧ isWd nm ts = false ∧ TQ A L ts M')) (fun u M2 hf2 hp2 => ?_) (ct_takes h.1 hne hm (fun M' a b => Or.inl ⟨rfl, a, b⟩) (fun M' a b => Or.inr ⟨rfl, a, b⟩))
  rcases hp2 with ⟨e, a, b⟩ | ⟨e, a, b⟩
  · subst e
    exact hQ1 M2 a (tl_ne h.1 hz hne (by rw [(of_decide_eq_true a).1]; decide)) (h.fr hx hf2 b)
  · subst e; exact hQ0 M2 a (h.fr hx hf2 b)
theorem JM.sig {G : List Sl} {US : UST} {A : List Nm} {S : List Sg} {W : List Cls} {w c : Nat} {br : Int32} {q0 nl0 nq nl nf nk : Nat} {p : PM} {NL : List Nine} {z : Nat × Nat × Nat × Nat × Nat × Nat} {L ts : List Tok} {M0 M : Mem} {Q : Int32 → Mem → Prop} {X : Mem → Prop} (h : JM G US A S W w c br q0 nl0 nq nl nf nk p NL z L ts M0 M) (hx : Gx G w) (hz : lz L) (hUL : UL US L) (hLl : L.length ≤ 5000) (hne : ts ≠ [])
    (hQ : ∀ ks κ t2 S' M', pSig ts = .inr ((ks, κ), t2) → S <+: S' → sg A ks κ ∈ S' → (∀ κ ∈ ks, kok A κ ∧ kdOk κ) → kok A κ → kdOk κ → t2 ≠ [] → (∃ i, mR M' 11 0 31 = some (300, i) ∧ S'.idxOf (sg A ks κ) < mL M' 300 i ∧ mL M' 300 i < 1000000 ∧ mI M' 300 i (S'.idxOf (sg A ks κ)) = Int32.ofNat ks.length) → JM G US A S' W w c br q0 nl0 nq nl nf nk p NL z L t2 M0 M' → Q (Int32.ofNat (S'.idxOf (sg A ks κ))) M')
    (hX : ∀ e M', pSig ts = .inl e → ThT e M' → JE G US A w z M0 M' → X M') : w_Model_wholeSignature 0 Q X M := by
  obtain ⟨g1, g2, g3, g4, g5, g6⟩ := id h
  obtain ⟨hU, hSU, hrow, h38⟩ := id g4
  have len := hSU.len hU.2.2.2.1
  have hw := hx.2.2.2.1
  have dW : ∀ s ∈ XW w, s ∉ X6 := fun s hs q => by
    simp only [List.mem_cons, List.not_mem_nil, or_false] at hs q
    rcases hs with e | e | e | e | e | e | e | e | e | e <;> rcases q with q | q | q | q | q | q <;> (rw [e] at q; cases q)
  have dL : ∀ s ∈ XL, s ∉ X6 := fun s hs q => by
    simp only [List.mem_cons, List.not_mem_nil, or_false] at hs q
    rcases hs with e | e | e | e | e <;> rcases q with q | q | q | q | q | q <;> (rw [e] at q; exact absurd q (by decide))
  have hT : ∀ s ∈ X6, s ∈ XT w := fun s hs => by
    simp only [List.mem_cons, List.not_mem_nil, or_false] at hs ⊢
    rcases hs with e | e | e | e | e | e <;> simp [e]
  have hXT2 : ∀ (M' : Mem), GF G X6 M M' → ∀ s ∈ XL, (∀ k, rd M' s k = rd M s k) ∧ rl M' s = rl M s := fun M' hg s hs => ⟨(hg.2.1 s (hx.2.2.2.2.1 s hs) (dL s hs)).1, (hg.2.1 s (hx.2.2.2.2.1 s hs) (dL s hs)).2.1⟩
  refine mf_w_Model_wholeSignature (Q := fun v M' => ∃ ks κ t2, pSig ts = .inr ((ks, κ), t2) ∧ (∀ κ ∈ ks, kok A κ) ∧ kok A κ ∧ TQ A L t2 M' ∧ TU A (ins S (sg A ks κ)) M' ∧ GF G X6 M M' ∧ (6 ≤ rl M' sTr ∧ rl M' sTr ≤ 20000) ∧ v = Int32.ofNat (S.idxOf (sg A ks κ))) (X := fun M' => ∃ e, pSig ts = .inl e ∧ ThT e M' ∧ TU A S M' ∧ GF G X6 M M' ∧ (6 ≤ rl M' sTr ∧ rl M' sTr ≤ 20000)) (fun v M3 hf3 hp3 => ?_) (fun M3 hf3 hp3 => ?_) (ct_wholeSignature hx.1 hx.2.1 hx.2.2.1 hz g5.1.1 g1 hne hrow hU len.1 len.2 hLl (fun ks κ t2 M' a b c d e f g => ⟨ks, κ, t2, a, b, c, d, e, f, g, rfl⟩) (fun e M' a b c d f => ⟨e, a, b, c, d, f⟩))
  · obtain ⟨ks, κ, t2, a, b, d, hq3, hU3, f, g, e3⟩ := hp3
    subst e3
    have hpre : S <+: ins S (sg A ks κ) := ins_pre _ _
    obtain ⟨kd1, kd2, kd3, hne3⟩ := pSig_kd a hz g1.suf
    have hSU3 : SU US A (ins S (sg A ks κ)) := hSU.add (hUL _ ks κ t2 g1.suf a) b d
    have h383 : mI M3 11 0 38 = Int32.ofNat ((ins S (sg A ks κ)).idxOf ([], 0)) := by rw [idxS_pre hpre h38.2]; exact (hf3.I (f := 11) (k := 38) rfl 0).trans h38.1
    rw [← ins_idx S (sg A ks κ)]
    have hix := List.idxOf_lt_length_iff.mpr (ins_mem S (sg A ks κ))
    have hgs : gs1 (ins S (sg A ks κ)) ((ins S (sg A ks κ)).idxOf (sg A ks κ)) = sg A ks κ := by
      show (ins S (sg A ks κ)).getD _ _ = _
      rw [List.getD_eq_getElem?_getD, List.getElem?_eq_getElem hix, List.getElem_idxOf]; rfl
    refine hQ ks κ t2 _ M3 a hpre (ins_mem _ _) (fun κ hκ => ⟨b κ hκ, kd1 κ hκ⟩) d kd2 hne3 ⟨rdI M3 sC, (f.1 sC hx.2.1.2.1).1.1, Nat.lt_of_lt_of_le hix hU3.2.2.1.2.1, ?_, ?_⟩ ⟨hq3, (g2.pre (List.prefix_refl _) g1.1.2.2.1 hpre).gf hf3 f hw dW, ⟨(g3.1.pre (List.prefix_refl _) hpre (Nat.le_refl _) (Nat.le_refl _) (Nat.le_refl _)).gf hf3 f hw dW, g3.2.1.of (hf3.I (f := 11) (k := 60) rfl 0) (hXT2 M3 f), g3.2.2.of (hf3.I (f := 11) (k := 64) rfl 0) (hXT2 M3 f)⟩, ⟨hU3, hSU3, g, h383, hpre.subset h38.2⟩, g5.gf hf3 f hw dW hT, (hf3.I (f := 11) (k := 51) rfl 0).trans g6⟩
    · have := hU3.2.2.1.2.2.2.2.2.2.1
      have e : rl M3 sC = mL M3 300 (rdI M3 sC) := rfl
      have := hU3.2.1.2.2.1
      omega
    · have := (hU3.2.2.2.2.1 _ hix).1.2.1
      rw [hgs] at this
      have e : (sg A ks κ).1.length = ks.length := by simp [sg]
      rw [e] at this; exact this
  · obtain ⟨e, a, b, d, f, g⟩ := hp3
    refine hX e M3 a b ⟨S, ⟨d, hSU, g, (hf3.I (f := 11) (k := 38) rfl 0).trans h38.1, h38.2⟩, g5.gf hf3 f hw dW hT, (tw_fr (w := w) hf3 rfl).2.2.trans g2.1.1.2.1, (XLb_of g3.1.2.2.1.1 g3.2.1 g3.2.2).gf hf3 f hx.2.2.2.2.1 dL⟩
