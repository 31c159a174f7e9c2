/-! HOW LONG A TEXT IS: lines -/
theorem pFlags_s {f : Nm → Int32} : ∀ (d : Nat) (b : Int32) (ts : List Tok), okS ts → (pFlags f d b ts).2.length ≤ ts.length ∧ okS (pFlags f d b ts).2
  | 0, b, ts, h => ⟨Nat.le_refl _, h⟩
  | d + 1, b, ts, h => by
    unfold pFlags
    split
    · have ih := pFlags_s (f := f) d (b ||| f (hd ts).2.1) ts.tail h.tail
      exact ⟨Nat.le_trans ih.1 tail_le, ih.2⟩
    · exact ⟨Nat.le_refl _, h⟩
theorem or7 : ∀ b ∈ ([0, 1, 2, 3, 4, 5, 6, 7] : List Int32), ∀ f ∈ ([1, 2, 4] : List Int32), b ||| f ∈ ([0, 1, 2, 3, 4, 5, 6, 7] : List Int32) := by decide
theorem and8 : ∀ b ∈ ([0, 1, 2, 3, 4, 5, 6, 7] : List Int32), b &&& 8 = 0 := by decide
theorem flg_3 {w1 w2 w3 nm : Nm} (h : flg w1 w2 w3 none nm ≠ 0) : flg w1 w2 w3 none nm ∈ ([1, 2, 4] : List Int32) := by
  unfold flg at h ⊢
  by_cases c1 : nm = w1
  · rw [if_pos c1]; decide
  by_cases c2 : nm = w2
  · rw [if_neg c1, if_pos c2]; decide
  by_cases c3 : nm = w3
  · rw [if_neg c1, if_neg c2, if_pos c3]; decide
  · rw [if_neg c1, if_neg c2, if_neg c3, if_neg (by simp)] at h
    exact absurd rfl h
theorem pFlags_7 {w1 w2 w3 : Nm} : ∀ (d : Nat) (b : Int32) (ts : List Tok), b ∈ ([0, 1, 2, 3, 4, 5, 6, 7] : List Int32) → (pFlags (flg w1 w2 w3 none) d b ts).1 ∈ ([0, 1, 2, 3, 4, 5, 6, 7] : List Int32)
  | 0, b, ts, h => h
  | d + 1, b, ts, h => by
    unfold pFlags
    split
    · rename_i c
      exact pFlags_7 d _ _ (or7 b h _ (flg_3 c.2.1))
    · exact h
theorem pFaces_s : ∀ (d : Nat) (acc : List Nm) (ts : List Tok) (fs : List Nm) (t' : List Tok), okS ts → (∀ f ∈ acc, f.length ≤ 12) → pFaces d acc ts = .inr (fs, t') → fs.length * 2 + t'.length ≤ acc.length * 2 + ts.length ∧ (∀ f ∈ fs, f.length ≤ 12) ∧ 1 ≤ t'.length
  | 0, acc, ts, fs, t', ho, ha, h => by cases h
  | d + 1, acc, ts, fs, t', ho, ha, h => by
    unfold pFaces at h
    split at h
    · rename_i c
      cases h
      exact ⟨Nat.le_refl _, ha, hd0_len c⟩
    split at h
    · cases h
    rename_i u t1 e1
    obtain ⟨a1, a2⟩ := pSign_s (by decide) e1
    have o1 : okS t1 := by rw [a1]; exact ho.tail
    split at h
    · cases h
    rename_i nm t2 e2
    obtain ⟨b1, b2, b3⟩ := pCls_s o1 e2
    have ih := pFaces_s d (acc ++ [nm]) t2 fs t' (by rw [b1]; exact o1.tail) (fun f hf => by
      rcases List.mem_append.1 hf with z | z
      · exact ha f z
      · rw [List.mem_singleton.1 z]; exact b3) h
    rw [List.length_append, List.length_singleton] at ih
    exact ⟨by omega, ih.2⟩
theorem txFc_le {c : Cls} (h : ∀ f ∈ c.2.2.1, f.length ≤ 12) : ∀ k, k ≤ c.2.2.1.length → (txFc c k).length ≤ 14 * k
  | 0, _ => Nat.le_refl _
  | k + 1, hk => by
    have ih := txFc_le h k (by omega)
    show (txFc c k ++ ([44, 32] ++ gf c k)).length ≤ _
    have := h (gf c k) (getD_mem (by omega))
    simp only [List.length_append, List.length_cons, List.length_nil]
    omega
theorem pClass_s {l t' : List Tok} {bits : Int32} {own par : Nm} {fs : List Nm} (ho : okS l) (h : pClass l = .inr ((bits, own, par, fs), t')) : bits &&& 8 = 0 ∧ par ≠ [] ∧ costC (own, par, fs, bits, [], []) ≤ 20 * l.length := by
  unfold pClass at h
  have h7 := pFlags_7 (w1 := nFinal) (w2 := nAbstract) (w3 := nFace) (l.length + 1) 0 l (by decide)
  obtain ⟨hf1, hf2⟩ := pFlags_s (f := flg nFinal nAbstract nFace none) (l.length + 1) 0 l ho
  generalize pFlags (flg nFinal nAbstract nFace none) (l.length + 1) 0 l = y at h h7 hf1 hf2
  obtain ⟨b, t1⟩ := y
  dsimp only at h h7 hf1 hf2
  split at h
  · cases h
  rename_i own' par' fs' t5 e
  cases h
  unfold pClassT at e
  split at e
  · rename_i c0
    have z1 := hd_ne (l := t1) (by rw [isWd_k c0]; decide)
    split at e
    · cases e
    rename_i own1 t2 e1
    obtain ⟨a1, a2, a3⟩ := pCls_s hf2.tail e1
    have o2 : okS t2 := by rw [a1]; exact hf2.tail.tail
    split at e
    · cases e
    rename_i u t3 e2
    obtain ⟨b1, b2⟩ := pSign_s (by decide) e2
    have o3 : okS t3 := by rw [b1]; exact o2.tail
    split at e
    · cases e
    rename_i par1 t4 e3
    obtain ⟨c1, c2, c3⟩ := pCls_s o3 e3
    have hpar : par1 ≠ [] := by
      obtain ⟨k2, ek⟩ := pCls_mem e3
      rw [← ek]; exact o3.h2 k2
    have o4 : okS t4 := by rw [c1]; exact o3.tail
    split at e
    · cases e
    rename_i fs1 t6 e4
    cases e
    obtain ⟨d1, d2, d3⟩ := pFaces_s _ _ _ _ _ o4 (by simp) e4
    rw [List.length_nil] at d1
    refine ⟨and8 _ h7, hpar, ?_⟩
    unfold costC
    have hfc := txFc_le (c := (own, par, fs, bits, [], [])) d2 fs.length (Nat.le_refl _)
    have e26 : (stW 26).length = 6 := by decide +kernel
    have l1 : (wA 69).length = 5 := by decide +kernel
    have l2 : (wA 70).length = 8 := by decide +kernel
    have l3 : (wA 71).length = 4 := by decide +kernel
    have hh : (txHe (own, par, fs, bits, [], [])).length ≤ 28 + own.length + par.length := by
      unfold txHe
      simp only [List.length_append, List.length_cons, List.length_nil, e26]
      have f1 := fl1_le (b := bits) (c := 1) (n := wA 69)
      have f2 := fl1_le (b := bits) (c := 2) (n := wA 70)
      have f3 := fl1_le (b := bits) (c := 4) (n := wA 71)
      omega
    simp only [List.map_nil, List.sum_nil]
    show (txHe (own, par, fs, bits, [], [])).length + (txFc (own, par, fs, bits, [], []) fs.length).length + 5 + 0 + 0 ≤ _
    omega
  · cases e
theorem pField_s {l t' : List Tok} {bits v : Int32} {own : Nm} {κ : Kd} {has : Bool} (ho : okS l) (h : pField l = .inr ((bits, own, κ, v, has), t')) : bits &&& 8 = 0 ∧ (txFd (own, κ, bits, v, has)).length ≤ 20 * l.length + 20 := by
  unfold pField at h
  have h7 := pFlags_7 (w1 := nStatic) (w2 := nFinal) (w3 := nPrivate) (l.length + 1) 0 l (by decide)
  obtain ⟨hf1, hf2⟩ := pFlags_s (f := flg nStatic nFinal nPrivate none) (l.length + 1) 0 l ho
  generalize pFlags (flg nStatic nFinal nPrivate none) (l.length + 1) 0 l = y at h h7 hf1 hf2
  obtain ⟨b, t1⟩ := y
  dsimp only at h h7 hf1 hf2
  split at h
  · cases h
  rename_i own' κ' v' has' t5 e
  cases h
  have hd := txFd_le (x := (own, κ, bits, v, has))
  unfold pFieldT at e
  split at e
  · cases e
  rename_i own1 t2 e1
  obtain ⟨a1, a2, a3⟩ := pName_s hf2 e1
  have o2 : okS t2 := by rw [a1]; exact hf2.tail
  split at e
  · cases e
  rename_i κ1 t3 e2
  obtain ⟨b1, b2, b3⟩ := pType_s o2 e2
  have b3 := kdW_n b3
  refine ⟨and8 _ h7, ?_⟩
  split at e
  · rename_i c1
    have z1 := hd_ne (l := t3) (by rw [c1]; decide)
    split at e
    · cases e
    rename_i v1 t4 e3
    obtain ⟨c1, c2⟩ := pNum_s e3
    split at e
    · rename_i c5
      cases e
      have := hd0_len c5
      rw [if_pos rfl] at hd
      have hd : (txFd (own, κ, bits, v, true)).length ≤ 39 + own.length + (kdW κ).length + 16 := hd
      omega
    · cases e
  · split at e
    · rename_i c5
      cases e
      have := hd0_len c5
      rw [if_neg (by simp)] at hd
      have hd : (txFd (own, κ, bits, 0, false)).length ≤ 39 + own.length + (kdW κ).length + 0 := hd
      omega
    · cases e
theorem pMethod_s {l t' : List Tok} {bits : Int32} {own : Nm} {ks : List Kd} {κ : Kd} (ho : okS l) (h : pMethod l = .inr ((bits, own, ks, κ), t')) (s r : Int32) (C : List Ins) (H : List Hnd) : (txMh (own, ks, κ, bits, s, r, C, H)).length + 35 ≤ 20 * l.length + 20 := by
  unfold pMethod at h
  obtain ⟨hf1, hf2⟩ := pFlags_s (f := flg nStatic nFinal nPrivate (some nAbstract)) (l.length + 1) 0 l ho
  generalize pFlags (flg nStatic nFinal nPrivate (some nAbstract)) (l.length + 1) 0 l = y at h hf1 hf2
  obtain ⟨b, t1⟩ := y
  dsimp only at h hf1 hf2
  split at h
  · cases h
  rename_i own' ks' κ' t5 e
  cases h
  have hd := txMh_le (x := (own, ks, κ, bits, s, r, C, H))
  have hd : (txMh (own, ks, κ, bits, s, r, C, H)).length ≤ 39 + own.length + mK ks + (kdW κ).length + 3 := hd
  unfold pMethodT at e
  split at e
  · rename_i c
    have z1 := hd_ne (l := t1) (by rcases c with z | z <;> omega)
    split at e
    · cases e
    rename_i ks1 κ1 t3 e1
    cases e
    unfold pSigE at e1
    split at e1
    · cases e1
    rename_i v2 t2 e2
    obtain ⟨ks3, κ3⟩ := v2
    split at e1
    · rename_i c0
      cases e1
      obtain ⟨a1, a2, a3⟩ := pSig_s hf2.tail e2
      have := hd0_len c0
      have := hf2.h1
      omega
    · cases e1
  · cases e
/-- classes of one's own, and how long they are -/
def prC (c : Cls) : Prop := (∀ f ∈ c.2.2.2.2.1, f.2.2.1 &&& 8 = 0) ∧ c.2.1 ≠ [] ∧ c.2.2.2.1 &&& 8 = 0
def PrS (w0 b : Nat) (st : PSt) : Prop := (∀ i, 21 ≤ i → i < st.2.1.length → prC (gc st.2.1 i) ∧ (i < w0 → costC (gc st.2.1 i) ≤ LPg) ∧ (w0 ≤ i → costC (gc st.2.1 i) ≤ 20 * b)) ∧ (21 ≤ w0 ∧ w0 ≤ st.2.1.length) ∧ (1 ≤ st.1 → w0 + 1 ≤ st.2.1.length) ∧ (2 ≤ st.1 → costC (gc st.2.1 (st.2.1.length - 1)) + muP st.2.2 ≤ 20 * b) ∧ ∀ h ∈ st.2.2.2.2.1, h.2.2.2.1.length ≤ 12
theorem PrS.up {w0 b b' : Nat} {st : PSt} (h : PrS w0 b st) (hb : b ≤ b') : PrS w0 b' st := ⟨fun i h1 h2 => ⟨(h.1 i h1 h2).1, (h.1 i h1 h2).2.1, fun z => Nat.le_trans ((h.1 i h1 h2).2.2 z) (by omega)⟩, h.2.1, h.2.2.1, fun z => Nat.le_trans (h.2.2.2.1 z) (by omega), h.2.2.2.2⟩
theorem PrS.aM {w0 b b' k : Nat} {W : List Cls} {p q : PM} {m : Mth} (h : PrS w0 b (k, W, p)) (h1 : w0 + 1 ≤ W.length) (hm : costC (gc W (W.length - 1)) + (txM m).length ≤ 20 * b') (hb : b ≤ b') (hq : q.2.2.1 = []) : PrS w0 b' (1, addM W m, q) := by
  have h := h.up hb
  obtain ⟨a1, a2, -, -, -⟩ := h
  have a2 : 21 ≤ w0 ∧ w0 ≤ W.length := a2
  refine ⟨fun i h21 hi => ?_, ⟨a2.1, by show w0 ≤ (addM W m).length; rw [addM_len]; omega⟩, fun _ => by show w0 + 1 ≤ (addM W m).length; rw [addM_len]; omega, fun z => absurd z (by show ¬ 2 ≤ 1; omega), fun z hz => ?_⟩
  · have hi : i < (addM W m).length := hi
    rw [addM_len] at hi
    show prC (gc (addM W m) i) ∧ (i < w0 → costC (gc (addM W m) i) ≤ LPg) ∧ (w0 ≤ i → costC (gc (addM W m) i) ≤ 20 * b')
    rw [gc_addM (c := W.length - 1) (by omega)]
    obtain ⟨b1, b2', b3⟩ := a1 i h21 hi
    have b1 : prC (gc W i) := b1
    by_cases e : i = W.length - 1
    · rw [if_pos e]
      rw [e] at b1
      refine ⟨⟨b1.1, b1.2.1, b1.2.2⟩, fun z => absurd z (by omega), fun _ => ?_⟩
      rw [cost_M]
      exact hm
    · rw [if_neg e]
      exact ⟨b1, b2', b3⟩
  · have hz : z ∈ q.2.2.1 := hz
    rw [hq] at hz; cases hz
theorem PrS.aF {w0 b b' k : Nat} {W : List Cls} {p : PM} {f : Fld} (h : PrS w0 b (k, W, p)) (h1 : w0 + 1 ≤ W.length) (h8 : f.2.2.1 &&& 8 = 0) (hm : costC (gc W (W.length - 1)) + (txFd f).length ≤ 20 * b') (hb : b ≤ b') : PrS w0 b' (1, addF W (W.length - 1) f, noM) := by
  have h := h.up hb
  obtain ⟨a1, a2, -, -, -⟩ := h
  have a2 : 21 ≤ w0 ∧ w0 ≤ W.length := a2
  refine ⟨fun i h21 hi => ?_, ⟨a2.1, by show w0 ≤ (addF W (W.length - 1) f).length; rw [addF_len]; omega⟩, fun _ => by show w0 + 1 ≤ (addF W (W.length - 1) f).length; rw [addF_len]; omega, fun z => absurd z (by show ¬ 2 ≤ 1; omega), fun z hz => by cases hz⟩
  have hi : i < (addF W (W.length - 1) f).length := hi
  rw [addF_len] at hi
  show prC (gc (addF W (W.length - 1) f) i) ∧ (i < w0 → costC (gc (addF W (W.length - 1) f) i) ≤ LPg) ∧ (w0 ≤ i → costC (gc (addF W (W.length - 1) f) i) ≤ 20 * b')
  rw [gc_addF (show W.length - 1 < W.length by omega)]
  obtain ⟨b1, b2', b3⟩ := a1 i h21 hi
  have b1 : prC (gc W i) := b1
  by_cases e : i = W.length - 1
  · rw [if_pos e]
    rw [e] at b1
    refine ⟨⟨fun z hz => ?_, b1.2.1, b1.2.2⟩, fun z => absurd z (by omega), fun _ => ?_⟩
    · rcases List.mem_append.1 hz with q | q
      · exact b1.1 z q
      · rw [List.mem_singleton.1 q]; exact h8
    · rw [cost_F]
      exact hm
  · rw [if_neg e]
    exact ⟨b1, b2', b3⟩
theorem bLine_pr {br : Int32} {w0 b : Nat} {W : List Cls} {q : PM} {l : List Tok} {st : PSt} (h : PrS w0 b (1, W, q)) (ho : okS l) (hb : bLine br W l = .inr st) : PrS w0 (b + l.length) st := by
  have h1 : w0 + 1 ≤ W.length := h.2.2.1 (Nat.le_refl _)
  have h21 : 21 ≤ w0 := h.2.1.1
  have hc : costC (gc W (W.length - 1)) ≤ 20 * b := (h.1 (W.length - 1) (by omega) (by show W.length - 1 < W.length; omega)).2.2 (by omega)
  unfold bLine at hb
  by_cases c1 : isWd nField l = true
  · rw [if_pos c1] at hb
    have z1 := hd_ne (l := l) (by rw [isWd_k c1]; decide)
    split at hb
    · cases hb
    rename_i bits own κ v has t e
    obtain ⟨f1, f2⟩ := pField_s ho.tail e
    split at hb
    · cases hb
      exact h.aF h1 f1 (by omega) (by omega)
    · cases hb
  rw [if_neg c1] at hb
  by_cases c2 : isWd nMethod l = true
  · rw [if_pos c2] at hb
    have z1 := hd_ne (l := l) (by rw [isWd_k c2]; decide)
    split at hb
    · cases hb
    rename_i bits own ks κ t e
    have hm := pMethod_s ho.tail e 0 0 [] []
    split at hb
    · split at hb
      · cases hb
        refine ⟨fun i x1 x2 => ?_, h.2.1, fun _ => h1, fun _ => ?_, fun z hz => by cases hz⟩
        · exact (h.up (b' := b + l.length) (by omega)).1 i x1 x2
        · show costC (gc W (W.length - 1)) + ((txMh (own, ks, κ, bits, 0, 0, [], [])).length + 35 + 0 + 68 * 0 + 18 * 0 + 0) ≤ _
          omega
      · rename_i c8
        cases hb
        refine h.aM h1 ?_ (by omega) rfl
        have : (txM (own, ks, κ, bits, 0, 0, [], [])).length = (txMh (own, ks, κ, bits, 0, 0, [], [])).length := by
          unfold txM
          rw [if_neg c8, List.append_nil]
        omega
    · cases hb
  rw [if_neg c2] at hb
  by_cases c3 : isWd nEnd l = true
  · rw [if_pos c3] at hb
    split at hb
    · cases hb
      refine ⟨(h.up (b' := b + l.length) (by omega)).1, h.2.1, fun z => absurd z (by show ¬ 1 ≤ 0; omega), fun z => absurd z (by show ¬ 2 ≤ 0; omega), fun z hz => by cases hz⟩
    · cases hb
  · rw [if_neg c3] at hb; cases hb
theorem cLine_pr {br : Int32} {w0 b : Nat} {W : List Cls} {q : PM} {l : List Tok} {st : PSt} (h : PrS w0 b (0, W, q)) (ho : okS l) (hb : cLine br W l = .inr st) : PrS w0 (b + l.length) st := by
  have hw : 21 ≤ w0 ∧ w0 ≤ W.length := h.2.1
  unfold cLine at hb
  split at hb
  · cases hb
  rename_i bits own par fs t e
  obtain ⟨c1, c2, c3⟩ := pClass_s ho e
  split at hb
  · cases hb
    have el : (W ++ [(own, par, fs, bits, [], [])] : List Cls).length = W.length + 1 := by rw [List.length_append]; rfl
    refine ⟨fun i h21 hi => ?_, ⟨hw.1, ?_⟩, fun _ => ?_, fun z => absurd z (by show ¬ 2 ≤ 1; omega), fun z hz => by cases hz⟩
    · have hi : i < (W ++ [(own, par, fs, bits, [], [])] : List Cls).length := hi
      rw [el] at hi
      by_cases e2 : i < W.length
      · have eg : gc (W ++ [(own, par, fs, bits, [], [])]) i = gc W i := by
          show (W ++ [_]).getD i _ = W.getD i _
          rw [List.getD_eq_getElem?_getD, List.getD_eq_getElem?_getD, List.getElem?_append_left e2]
        show prC (gc (W ++ [(own, par, fs, bits, [], [])]) i) ∧ (i < w0 → costC (gc (W ++ [(own, par, fs, bits, [], [])]) i) ≤ LPg) ∧ (w0 ≤ i → costC (gc (W ++ [(own, par, fs, bits, [], [])]) i) ≤ 20 * (b + l.length))
        rw [eg]
        exact (h.up (b' := b + l.length) (by omega)).1 i h21 e2
      · have e3 : i = W.length := by omega
        have eg : gc (W ++ [(own, par, fs, bits, [], [])]) i = (own, par, fs, bits, [], []) := by
          show (W ++ [_]).getD i _ = _
          rw [e3, List.getD_eq_getElem?_getD, List.getElem?_append_right (Nat.le_refl _), Nat.sub_self]; rfl
        show prC (gc (W ++ [(own, par, fs, bits, [], [])]) i) ∧ (i < w0 → costC (gc (W ++ [(own, par, fs, bits, [], [])]) i) ≤ LPg) ∧ (w0 ≤ i → costC (gc (W ++ [(own, par, fs, bits, [], [])]) i) ≤ 20 * (b + l.length))
        rw [eg]
        exact ⟨⟨fun f hf => (by cases hf), c2, c1⟩, fun z => absurd z (by omega), fun _ => by omega⟩
    · show w0 ≤ (W ++ [(own, par, fs, bits, [], [])] : List Cls).length
      rw [el]; omega
    · show w0 + 1 ≤ (W ++ [(own, par, fs, bits, [], [])] : List Cls).length
      rw [el]; omega
  · cases hb
/-- a step that leaves classes alone -/
theorem PrS.to {w0 b b' k k' : Nat} {W : List Cls} {p p' : PM} (h : PrS w0 b (k, W, p)) (hk : 2 ≤ k) (hm : muP p' + 20 * b ≤ muP p + 20 * b') (hb : b ≤ b') (hh : ∀ h ∈ p'.2.2.1, h.2.2.2.1.length ≤ 12) : PrS w0 b' (k', W, p') := by
  refine ⟨(h.up hb).1, h.2.1, fun _ => h.2.2.1 (by show 1 ≤ k; omega), fun _ => ?_, hh⟩
  have := h.2.2.2.1 hk
  show costC (gc W (W.length - 1)) + muP p' ≤ 20 * b'
  have h2 : costC (gc W (W.length - 1)) + muP p ≤ 20 * b := this
  omega
theorem rLine_pr {w0 b : Nat} {W : List Cls} {p : PM} {l : List Tok} {st : PSt} (h : PrS w0 b (2, W, p)) (hb : rLine W p l = .inr st) : PrS w0 (b + l.length) st := by
  unfold rLine at hb
  split at hb
  · cases hb
  rename_i a r t e
  by_cases c : r < Int32.ofNat (p.1.2.1.length + (if p.1.2.2.2.1 &&& 1 = 0 then 1 else 0))
  · rw [if_pos c] at hb; cases hb
  · rw [if_neg c] at hb; cases hb
    refine h.to (Nat.le_refl _) ?_ (by omega) (fun z hz => by cases hz)
    unfold muP
    show (txMh p.1).length + 35 + 0 + 68 * 0 + 18 * 0 + 0 + 20 * b ≤ _
    omega
theorem iLine_pr {w0 b kk : Nat} {W : List Cls} {p : PM} {l : List Tok} {st : PSt} (h : PrS w0 b (kk, W, p)) (hkk : 2 ≤ kk) (ho : okS l) (hb : iLine W p l = .inr st) : PrS w0 (b + l.length) st := by
  have hh : ∀ h ∈ p.2.2.1, h.2.2.2.1.length ≤ 12 := h.2.2.2.2
  unfold iLine at hb
  obtain ⟨hs1, hs2⟩ := pLabels_s (l.length + 1) [] l ho
  generalize pLabels (l.length + 1) [] l = y at hb hs1 hs2
  obtain ⟨ls, t1⟩ := y
  dsimp only at hb hs1 hs2
  rw [List.length_nil] at hs1
  split at hb
  · cases hb
    refine h.to hkk ?_ (by omega) hh
    unfold muP
    show (txMh p.1).length + 35 + (p.2.1.map cPI).sum + 68 * p.2.2.1.length + 18 * (p.2.2.2.1 ++ ls.map (fun nm => (nm, p.2.1.length, (hd l).2.2.2))).length + cFp p.2.2.2.2 + 20 * b ≤ _
    rw [List.length_append, List.length_map]
    omega
  · split at hb
    · cases hb
    rename_i o x t2 e
    obtain ⟨f1, f2⟩ := pInstr_s hs2 e
    split at hb
    · cases hb
    · cases hb
      refine h.to hkk ?_ (by omega) hh
      unfold muP
      show (txMh p.1).length + 35 + ((p.2.1 ++ [(o, x, p.2.2.2.2.map (fun f => (f.1, f.2.1)), (hd l).2.2.2)]).map cPI).sum + 68 * p.2.2.1.length + 18 * (p.2.2.2.1 ++ ls.map (fun nm => (nm, p.2.1.length, (hd l).2.2.2))).length + 0 + 20 * b ≤ _
      rw [List.length_append, List.length_map, List.map_append, List.sum_append]
      simp only [List.map_cons, List.map_nil, List.sum_cons, List.sum_nil]
      have h12 := wA_12 o (by omega)
      have ec : cPI (o, x, p.2.2.2.2.map (fun f => (f.1, f.2.1)), (hd l).2.2.2) = cFp p.2.2.2.2 + 3 + (wA o).length + cO o x := by
        unfold cPI
        show cFo (p.2.2.2.2.map (fun f => (f.1, f.2.1))) + 3 + (wA o).length + cO o x = _
        cases p.2.2.2.2 <;> rfl
      rw [ec]
      omega
theorem kLine_pr {br : Int32} {w0 b kk : Nat} {W : List Cls} {p : PM} {l : List Tok} {st : PSt} (h : PrS w0 b (kk, W, p)) (hkk : 2 ≤ kk) (ho : okS l) (hb : kLine br W p l = .inr st) : PrS w0 (b + l.length) st := by
  have hh : ∀ h ∈ p.2.2.1, h.2.2.2.1.length ≤ 12 := h.2.2.2.2
  have hw : w0 + 1 ≤ W.length := h.2.2.1 (by show 1 ≤ kk; omega)
  have hmu : costC (gc W (W.length - 1)) + muP p ≤ 20 * b := h.2.2.2.1 hkk
  unfold kLine at hb
  split at hb
  · split at hb
    · cases hb
    rename_i m e
    have := txM_mu hh e
    have h2 : PrS w0 b (1, addM W m, noM) := h.aM hw (by omega) (Nat.le_refl _) rfl
    exact bLine_pr h2 ho hb
  split at hb
  · rename_i c
    rw [Bool.and_eq_true] at c
    have z1 := hd_ne (l := l) (by rw [isWd_k c.1]; decide)
    split at hb
    · cases hb
    rename_i cn
    split at hb
    · cases hb
    rename_i ls ss t e
    cases hb
    have f1 := pFrame_s ho.tail e
    refine h.to hkk ?_ (by omega) hh
    unfold muP
    show (txMh p.1).length + 35 + (p.2.1.map cPI).sum + 68 * p.2.2.1.length + 18 * p.2.2.2.1.length + (mK ls + mK ss + 9) + 20 * b ≤ _
    omega
  split at hb
  · rename_i c
    rw [Bool.and_eq_true] at c
    have z1 := hd_ne (l := l) (by rw [isWd_k c.1]; decide)
    split at hb
    · cases hb
    rename_i a b' g k t e
    obtain ⟨f1, f2⟩ := pHandler_s ho.tail e
    split at hb
    · cases hb
    · cases hb
      refine h.to hkk ?_ (by omega) (fun z hz => ?_)
      · unfold muP
        show (txMh p.1).length + 35 + (p.2.1.map cPI).sum + 68 * (p.2.2.1 ++ [(a, b', g, k, (hd l).2.2.2)]).length + 18 * p.2.2.2.1.length + cFp p.2.2.2.2 + 20 * b ≤ _
        rw [List.length_append, List.length_singleton]
        omega
      · rcases List.mem_append.1 hz with y | y
        · exact hh z y
        · rw [List.mem_singleton.1 y]; exact f2
  · exact iLine_pr h hkk ho hb
theorem stp_pr {br : Int32} {w0 b : Nat} {st st' : PSt} {l : List Tok} (h : PrS w0 b st) (ho : okS l) (hb : stp br st l = .inr st') : PrS w0 (b + l.length) st' := by
  obtain ⟨k, W, p⟩ := st
  unfold stp at hb
  dsimp only at hb
  by_cases c0 : k = 0
  · rw [if_pos c0] at hb; subst c0
    exact cLine_pr h ho hb
  by_cases c1 : k = 1
  · rw [if_neg c0, if_pos c1] at hb; subst c1
    exact bLine_pr h ho hb
  by_cases c2 : k = 2
  · rw [if_neg c0, if_neg c1, if_pos c2] at hb; subst c2
    exact rLine_pr h hb
  · rw [if_neg c0, if_neg c1, if_neg c2] at hb
    exact kLine_pr h (by omega) ho hb
theorem runL_pr {br : Int32} {n w0 : Nat} : ∀ {ls : List (List Tok)} {b : Nat} {st : PSt} {W' : List Cls}, PrS w0 b st → (∀ l ∈ ls, okS l) → runL br n st ls = .inr W' → ∃ p, PrS w0 (b + (ls.map List.length).sum) (0, W', p)
  | [], b, st, W', h, ho, e => by
    obtain ⟨k, W, p⟩ := st
    unfold runL at e
    split at e
    · rename_i c
      cases e
      have c : k = 0 := c
      subst c
      exact ⟨p, h⟩
    · cases e
  | l :: ls, b, st, W', h, ho, e => by
    unfold runL at e
    split at e
    · cases e
    rename_i st' e1
    have h1 := stp_pr h (ho l (List.mem_cons_self ..)) e1
    obtain ⟨p, h2⟩ := runL_pr h1 (fun x hx => ho x (List.mem_cons_of_mem _ hx)) e
    refine ⟨p, ?_⟩
    rw [List.map_cons, List.sum_cons, ← Nat.add_assoc]
    exact h2
/-- classes out of a text can be written -/
theorem PrW.run {br : Int32} {n m : Nat} {ls : List (List Tok)} {W W' : List Cls} (h : PrW W) (h21 : 21 ≤ W.length) (hw : WC W') (ho : ∀ l ∈ ls, okS l) (hm : (ls.map List.length).sum ≤ 1298) (e : runL br n (0, W, noM) ls = .inr W') : PrW W' := by
  have h0 : PrS W.length 0 (0, W, noM) := by
    refine ⟨fun i a1 a2 => ?_, ⟨h21, Nat.le_refl _⟩, fun z => absurd z (by show ¬ 1 ≤ 0; omega), fun z => absurd z (by show ¬ 2 ≤ 0; omega), fun z hz => by cases hz⟩
    have a2 : i < W.length := a2
    obtain ⟨b1, ⟨b2', b3⟩, b4⟩ := h i a1 a2
    refine ⟨⟨fun f hf => ?_, b2', b3⟩, fun _ => by rw [← txC_len]; exact b4, fun z => absurd z (by omega)⟩
    obtain ⟨j, hj, ej⟩ := List.mem_iff_getElem.1 hf
    have := (b1 j hj).2
    have e2 : gfl (gc W i) j = f := by
      show (gc W i).2.2.2.2.1.getD j _ = f
      rw [List.getD_eq_getElem?_getD, List.getElem?_eq_getElem hj, ← ej]; rfl
    rw [e2] at this
    exact this
  obtain ⟨p, hp⟩ := runL_pr h0 ho e
  rw [Nat.zero_add] at hp
  intro i a1 a2
  obtain ⟨c1, c2, c3⟩ := hp.1 i a1 a2
  refine ⟨fun f hf => ⟨((hw.at a2).1.1 _ (getD_mem hf)).1, c1.1 _ (getD_mem hf)⟩, ⟨c1.2.1, c1.2.2⟩, ?_⟩
  rw [txC_len]
  by_cases z : i < W.length
  · exact c2 z
  · have := c3 (by omega)
    show _ ≤ 25970
    have this : costC (gc W' i) ≤ 20 * (ls.map List.length).sum := this
    show costC (gc W' i) ≤ 25970
    omega
