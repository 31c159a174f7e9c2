/-! B: a class's line in the works: words and rules -/
abbrev FC : Nat := F_Reader_className ||| F_Reader_sign
def PC (Inv : List Nm → Mem → Prop) : Prop := ∀ A A' M M', Inv A M → A <+: A' → A'.length < 41200 → Fr FC M M' → Inv A' M'
theorem h_className {Inv : List Nm → Mem → Prop} (hI : PC Inv) {B : List Nm} {r n : Nat} {p : Nat → Int32} {to : Nat} {A : List Nm} {ts : List Tok} {Q : Int32 → Mem → Prop} {X : Mem → Prop} {M : Mem} (hR : RS B r n p to A ts M) (hi : Inv A M)
    (hQ : ∀ A' nm ts' M', pCls ts = .inr (nm, ts') → A <+: A' → nm ∈ A → RS B r n p to A' ts' M' → Inv A' M' → Q (nc A nm) M') (hX : ∀ A' e M', pCls ts = .inl e → A <+: A' → Thr B A' e M' → Inv A' M' → X M') : w_Reader_className 0 Q X M :=
  mf_w_Reader_className (Q := fun v M' => Fr F_Reader_className M M' → Q v M') (X := fun M' => Fr F_Reader_className M M' → X M') (fun _ _ hf hp => hp hf) (fun _ hf hp => hp hf) (c_className hR (fun A' nm ts' M' a b c d hf => hQ A' nm ts' M' a b c d (hI A A' M M' hi b d.1.len (hf.sub (by rfl)))) (fun A' e M' a b c hf => hX A' e M' a b c (hI A A' M M' hi b c.1.len (hf.sub (by rfl)))))
theorem h_sign {Inv : List Nm → Mem → Prop} (hI : PC Inv) {B : List Nm} {r n : Nat} {p : Nat → Int32} {to : Nat} {A : List Nm} {ts : List Tok} {Q X : Mem → Prop} {M : Mem} {b : Nat} (hR : RS B r n p to A ts M) (hi : Inv A M) (hb : 5 ≤ b) (hb2 : b < 100)
    (hQ : ∀ A' M', (hd ts).1 = b → A <+: A' → RS B r n p to A' ts.tail M' → Inv A' M' → Q M') (hX : ∀ A' M', (hd ts).1 ≠ b → A <+: A' → Thr B A' (er ts) M' → Inv A' M' → X M') : w_Reader_sign 0 (Int32.ofNat b) Q X M :=
  mf_w_Reader_sign (Q := fun M' => Fr F_Reader_sign M M' → Q M') (X := fun M' => Fr F_Reader_sign M M' → X M') (fun _ hf hp => hp hf) (fun _ hf hp => hp hf) (c_sign hR hb hb2 (fun A' ts' M' a b' d hf => by
    unfold pSign at a
    by_cases q : (hd ts).1 = b
    · rw [if_pos q] at a; cases a
      exact hQ A' M' q b' d (hI A A' M M' hi b' d.1.len (hf.sub (by rfl)))
    · rw [if_neg q] at a; cases a) (fun A' e M' a b' c hf => by
    unfold pSign at a
    by_cases q : (hd ts).1 = b
    · rw [if_pos q] at a; cases a
    · rw [if_neg q] at a; cases a
      exact hX A' M' q b' c (hI A A' M M' hi b' c.1.len (hf.sub (by rfl)))))
theorem FC_wk {M M' : Mem} (h : Fr FC M M') : Wk M M' := ⟨h.sub (by rfl), fun i k _ => h.Ia rfl rfl i k⟩
/-- names in the reader's list -/
def NL (A : List Nm) (ns : List Nm) (M : Mem) : Prop := mI M 3 0 18 = Int32.ofNat ns.length ∧ mL M 211 0 = 3100 ∧ ∀ i, i < ns.length → mI M 211 0 i = nc A (gnm ns i) ∧ gnm ns i ∈ A
theorem NL.pre {A A' : List Nm} {ns : List Nm} {M : Mem} (h : NL A ns M) (hp : A <+: A') : NL A' ns M := ⟨h.1, h.2.1, fun i hi => ⟨(h.2.2 i hi).1.trans (nc_pre hp (h.2.2 i hi).2).symm, hp.subset (h.2.2 i hi).2⟩⟩
theorem NL.fr {A : List Nm} {ns : List Nm} {M M' : Mem} {S : Nat} (h : NL A ns M) (hf : Fr S M M') (s1 : S.testBit (cd 3 18) = false := by rfl) (s2 : S.testBit 211 = false := by rfl) (s3 : S.testBit 5211 = false := by rfl) : NL A ns M' :=
  ⟨(hf.I s1 0).trans h.1, (hf.L (f := 211) s3 0).trans h.2.1, fun i hi => by rw [hf.Ia (f := 211) rfl s2]; exact h.2.2 i hi⟩
theorem NL.add {A : List Nm} {ns : List Nm} {nm : Nm} {M : Mem} (h : NL A ns M) (hm : nm ∈ A) : NL A (ns ++ [nm]) (sI (sI M 211 0 ns.length (nc A nm)) 3 0 18 (Int32.ofNat (ns.length + 1))) := by
  have hl : (ns ++ [nm]).length = ns.length + 1 := by simp
  refine ⟨by rw [hl, mI_sI, if_pos ⟨rfl, rfl, rfl⟩], h.2.1, fun i hi => ?_⟩
  rw [hl] at hi
  have e : mI (sI (sI M 211 0 ns.length (nc A nm)) 3 0 18 (Int32.ofNat (ns.length + 1))) 211 0 i = if i = ns.length then nc A nm else mI M 211 0 i := by simp [mI_sI]
  rw [e]
  by_cases c : i = ns.length
  · have : gnm (ns ++ [nm]) i = nm := by rw [c]; simp [List.getD_eq_getElem?_getD]
    rw [if_pos c, this]; exact ⟨rfl, hm⟩
  · have : gnm (ns ++ [nm]) i = gnm ns i := by simp [List.getD_eq_getElem?_getD, List.getElem?_append_left (show i < ns.length by omega)]
    rw [if_neg c, this]; exact h.2.2 i (by omega)
theorem pFlags_bits {w1 w2 w3 : Nm} : ∀ d (bits : Int32) ts bits' ts', pFlags (flg w1 w2 w3 none) d bits ts = (bits', ts') → (bits = 0 ∨ bits = 1 ∨ bits = 2 ∨ bits = 3 ∨ bits = 4 ∨ bits = 5 ∨ bits = 6 ∨ bits = 7) → (bits' = 0 ∨ bits' = 1 ∨ bits' = 2 ∨ bits' = 3 ∨ bits' = 4 ∨ bits' = 5 ∨ bits' = 6 ∨ bits' = 7) := by
  intro d
  induction d with
  | zero => intro bits ts bits' ts' h hb; unfold pFlags at h; cases h; exact hb
  | succ d ih =>
    intro bits ts bits' ts' h hb
    unfold pFlags at h
    split at h
    · refine ih _ _ _ _ h ?_
      have hf : flg w1 w2 w3 none (hd ts).2.1 = 1 ∨ flg w1 w2 w3 none (hd ts).2.1 = 2 ∨ flg w1 w2 w3 none (hd ts).2.1 = 4 ∨ flg w1 w2 w3 none (hd ts).2.1 = 0 := by
        unfold flg
        repeat' split
        all_goals simp_all
      rcases hf with e | e | e | e <;> rw [e] <;> rcases hb with z | z | z | z | z | z | z | z <;> rw [z] <;> decide
    · cases h; exact hb
theorem pCls_ne {B : List Nm} {r n : Nat} {p : Nat → Int32} {to : Nat} {A : List Nm} {ts t2 : List Tok} {nm : Nm} {M : Mem} (hR : RS B r n p to A ts M) (h : pCls ts = .inr (nm, t2)) : nm ≠ [] := by
  unfold pCls at h
  by_cases c : (hd ts).1 = 2 ∧ (hd ts).2.1 ∉ noCls
  · rw [if_pos c] at h; cases h
    exact (hR.hd.2.1.2.2.1 c.1).2.1
  · rw [if_neg c] at h; cases h
theorem wfC_eq {bits : Int32} {par : Nm} (hb : bits = 0 ∨ bits = 1 ∨ bits = 2 ∨ bits = 3 ∨ bits = 4 ∨ bits = 5 ∨ bits = 6 ∨ bits = 7) : wfC bits par = ((decide (¬ bits &&& 1 = 0) && decide (¬ bits = 1)) || (decide (¬ bits &&& 4 = 0) && (decide (¬ bits &&& 2 = 0) || decide (par ≠ nThing)))) := by
  unfold wfC
  rcases hb with z | z | z | z | z | z | z | z <;> rw [z] <;> by_cases c : par = nThing <;> simp [c] <;> decide
theorem gnm_mem {ns : List Nm} {i : Nat} (h : i < ns.length) : gnm ns i ∈ ns := by
  show ns.getD i _ ∈ ns
  rw [List.getD_eq_getElem?_getD, List.getElem?_eq_getElem h]; exact List.getElem_mem h
theorem mem_gnm {ns : List Nm} {x : Nm} (h : x ∈ ns) : ∃ i, i < ns.length ∧ gnm ns i = x := by
  obtain ⟨i, hi, e⟩ := List.mem_iff_getElem.mp h
  exact ⟨i, hi, by show ns.getD i _ = x; rw [List.getD_eq_getElem?_getD, List.getElem?_eq_getElem hi]; exact e⟩
/-- no name is told twice -/
theorem c_dup {A : List Nm} {own par : Nm} {fs : List Nm} {v1 : Int32} {Q : Int32 → Mem → Prop} {X : Mem → Prop} {M : Mem} (hL : NL A (par :: fs) M) (hA : A.length < 1000000) (ho : own ∈ A) (hl : fs.length < 3000)
    (hX : (decide (par = own) || dupL own par [] fs) = true → w_Works_refuse 0 (11 : Int32) (mI M 3 0 2) (fun i M' => i = 0 ∧ X M') M)
    (hQ : (decide (par = own) || dupL own par [] fs) = false → ∀ d, w_Reader_aClass_L223 0 Q X (d + 1) v1 (nc A own) (Int32.ofNat (fs.length + 1)) M) : w_Reader_aClass_j220 0 Q X v1 (nc A own) M := by
  have hlen : (par :: fs).length = fs.length + 1 := rfl
  have h18 : mI M 3 0 18 = Int32.ofNat (fs.length + 1) := hL.1
  have g0 : gnm (par :: fs) 0 = par := rfl
  have gs : ∀ i, gnm (par :: fs) (i + 1) = gnm fs i := fun i => rfl
  have dtk : ∀ k, k < fs.length → dupL own par [] (fs.take (k + 1)) = (dupL own par [] (fs.take k) || (decide (gnm fs k = own ∨ gnm fs k = par) || decide (gnm fs k ∈ fs.take k))) := fun k hk => by
    have : fs.take (k + 1) = fs.take k ++ [gnm fs k] := by
      rw [List.take_add_one, List.getElem?_eq_getElem hk]
      show _ ++ [_] = _ ++ [fs.getD k _]
      rw [List.getD_eq_getElem?_getD, List.getElem?_eq_getElem hk]; rfl
    rw [this, dupL_app]; rfl
  have dsub : ∀ k, k ≤ fs.length → dupL own par [] (fs.take k) = true → dupL own par [] fs = true := fun k hk h => by
    have : ∀ j, k + j ≤ fs.length → dupL own par [] (fs.take (k + j)) = true := fun j => by
      induction j with
      | zero => intro _; exact h
      | succ j ih => intro hj; rw [← Nat.add_assoc, dtk (k + j) (by omega), ih (by omega)]; rfl
    have := this (fs.length - k) (by omega)
    rw [show k + (fs.length - k) = fs.length by omega, List.take_length] at this; exact this
  -- what is so of the first k
  have main : ∀ d k, fs.length + 1 - k < d → k ≤ fs.length + 1 → (1 ≤ k → (decide (par = own) || dupL own par [] (fs.take (k - 1))) = false) → w_Reader_aClass_L223 0 Q X d v1 (nc A own) (Int32.ofNat k) M := by
    intro d
    induction d with
    | zero => intro k h; omega
    | succ d ih =>
      intro k hd hk hno
      by_cases ek : k = fs.length + 1
      · rw [ek]
        refine hQ ?_ d
        have := hno (by omega)
        rw [ek, Nat.add_sub_cancel, List.take_length] at this; exact this
      unfold w_Reader_aClass_L223
      rw [h18]
      have vk : vp_in (Int32.ofNat k) (mL M 211 0) := by rw [hL.2.1]; exact (vp_oN (by omega)).mpr (by omega)
      obtain ⟨lk, mk'⟩ := hL.2.2 k (by rw [hlen]; omega)
      refine itn (nle_oN (by omega) (by omega)) ⟨vk, ?_⟩
      rw [oN_tnc (by omega), lk]
      -- the names ahead
      have inner : ∀ e i (t : Bool), k - i < e → i ≤ k → (t = true ↔ (gnm (par :: fs) k = own ∨ ∃ j, j < i ∧ gnm (par :: fs) j = gnm (par :: fs) k)) → w_Reader_aClass_L253 0 Q X (w_Reader_aClass_L223 0 Q X d) e v1 (nc A own) (Int32.ofNat k) (b2 t) (Int32.ofNat i) M := by
        intro e
        induction e with
        | zero => intro i t h; omega
        | succ e ihe =>
          intro i t he hi ht
          unfold w_Reader_aClass_L253
          by_cases ei : i = k
          · refine itp (le_oN (by omega) (by omega)) ?_
            rw [ei] at ht
            cases t with
            | false =>
              refine itp rfl ?_
              rw [lit32 1, oN_add]
              refine ih (k + 1) (by omega) (by omega) (fun _ => ?_)
              have hn : ¬ (gnm (par :: fs) k = own ∨ ∃ j, j < k ∧ gnm (par :: fs) j = gnm (par :: fs) k) := fun z => by have := ht.mpr z; cases this
              rw [Nat.add_sub_cancel]
              cases k with
              | zero =>
                rw [decide_eq_false (p := par = own) (fun z => hn (Or.inl z))]; rfl
              | succ k' =>
                have h1 := hno (by omega)
                rw [Nat.add_sub_cancel] at h1
                rw [Bool.or_eq_false_iff] at h1
                rw [h1.1, dtk k' (by omega), h1.2, Bool.false_or, Bool.false_or]
                rw [gs] at hn
                rw [Bool.or_eq_false_iff]
                refine ⟨decide_eq_false (fun z => ?_), decide_eq_false (fun z => ?_)⟩
                · rcases z with z | z
                  · exact hn (Or.inl z)
                  · exact hn (Or.inr ⟨0, by omega, z.symm⟩)
                · obtain ⟨i', a1, a2⟩ := mem_gnm z
                  rw [List.length_take] at a1
                  have : gnm (fs.take k') i' = gnm fs i' := by
                    show (fs.take k').getD i' _ = fs.getD i' _
                    rw [List.getD_eq_getElem?_getD, List.getD_eq_getElem?_getD, List.getElem?_take, if_pos (by omega)]
                  rw [this] at a2
                  exact hn (Or.inr ⟨i' + 1, by omega, a2⟩)
            | true =>
              refine itn (by decide) (hX ?_)
              have hy := ht.mp rfl
              cases k with
              | zero =>
                rcases hy with z | ⟨j, j1, -⟩
                · rw [decide_eq_true (show par = own from z)]; rfl
                · omega
              | succ k' =>
                have h1 := hno (by omega)
                rw [Nat.add_sub_cancel] at h1
                rw [Bool.or_eq_false_iff] at h1
                rw [gs] at hy
                have : dupL own par [] (fs.take (k' + 1)) = true := by
                  rw [dtk k' (by omega), Bool.or_eq_true, Bool.or_eq_true]
                  refine Or.inr ?_
                  rcases hy with z | ⟨j, j1, j2⟩
                  · exact Or.inl (decide_eq_true (Or.inl z))
                  · cases j with
                    | zero => exact Or.inl (decide_eq_true (Or.inr (show gnm fs k' = par from j2.symm)))
                    | succ j =>
                      rw [gs] at j2
                      refine Or.inr (decide_eq_true ?_)
                      have e1 : gnm (fs.take k') j = gnm fs j := by
                        show (fs.take k').getD j _ = fs.getD j _
                        rw [List.getD_eq_getElem?_getD, List.getD_eq_getElem?_getD, List.getElem?_take, if_pos (by omega)]
                      rw [← j2, ← e1]; exact gnm_mem (by rw [List.length_take]; omega)
                rw [dsub (k' + 1) (by omega) this, Bool.or_true]
          · obtain ⟨li, mi⟩ := hL.2.2 i (by rw [hlen]; omega)
            refine itn (nle_oN (by omega) (by omega)) ⟨by rw [hL.2.1]; exact (vp_oN (by omega)).mpr (by omega), vk, ?_⟩
            rw [oN_tnc (by omega), oN_tnc (by omega), li, lk]
            by_cases ce : gnm (par :: fs) i = gnm (par :: fs) k
            · refine itp (by rw [ce]) ?_
              unfold w_Reader_aClass_j284
              rw [lit32 1, oN_add]
              have : b2 t ||| Int32.ofNat 1 = b2 true := by cases t <;> decide
              rw [this]
              exact ihe (i + 1) true (by omega) (by omega) ⟨fun _ => Or.inr ⟨i, by omega, ce⟩, fun _ => rfl⟩
            · refine itn (fun q => ce ((nc_inj (by omega) mi mk').mp q)) ?_
              unfold w_Reader_aClass_j284
              rw [lit32 1, oN_add]
              have : b2 t ||| (0 : Int32) = b2 t := by cases t <;> decide
              rw [this]
              refine ihe (i + 1) t (by omega) (by omega) (ht.trans ⟨fun z => z.imp id (fun ⟨j, j1, j2⟩ => ⟨j, by omega, j2⟩), fun z => z.imp id (fun ⟨j, j1, j2⟩ => ⟨j, ?_, j2⟩)⟩)
              rcases Nat.lt_or_ge j i with q | q
              · exact q
              · have : j = i := by omega
                rw [this] at j2; exact absurd j2 ce
      by_cases co : gnm (par :: fs) k = own
      · refine itp (by rw [co]) ?_
        unfold w_Reader_aClass_j248
        exact ⟨_, inner (k + 1) 0 true (by omega) (by omega) ⟨fun _ => Or.inl co, fun _ => rfl⟩⟩
      · refine itn (fun q => co ((nc_inj (by omega) mk' ho).mp q)) ?_
        unfold w_Reader_aClass_j248
        exact ⟨_, inner (k + 1) 0 false (by omega) (by omega) ⟨fun z => Bool.noConfusion z, fun z => z.elim (fun z => absurd z co) (fun ⟨j, j1, _⟩ => absurd j1 (Nat.not_lt_zero j))⟩⟩
  unfold w_Reader_aClass_j220
  exact ⟨_, main (fs.length + 2) 0 (by omega) (by omega) (fun z => by omega)⟩
