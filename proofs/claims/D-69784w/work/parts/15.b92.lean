theorem JM.nine {G : List Sl} {US : UST} {A : List Nm} {S : List Sg} {W : List Cls} {w c : Nat} {br : Int32} {q0 nl0 nq nl nf nk : Nat} {p : PM} {NL NL' : List Nine} {z : Nat × Nat × Nat × Nat × Nat × Nat} {L ts ts' : List Tok} {M0 M M' : Mem} {F : Nat} (h : JM G US A S W w c br q0 nl0 nq nl nf nk p NL z L ts M0 M) (hx : Gx G w) (hf : Fr F M M') (hq : TQ A L ts' M') (hg : GF G [sNn, sNp, sNm] M M') (hn : tNi A NL' M') (hP : pOk F = true := by rfl) (h60 : F.testBit (cd 11 60) = false := by rfl) (h51 : F.testBit (cd 11 51) = false := by rfl) (h1 : F.testBit (cd 11 4) = false := by rfl) (h2 : F.testBit 105 = false := by rfl) (h3 : F.testBit (5000 + 105) = false := by rfl) (h4 : F.testBit (cd 11 36) = false := by rfl) (h5 : F.testBit (cd 11 37) = false := by rfl) (h6 : F.testBit 106 = false := by rfl) (h7 : F.testBit (5000 + 106) = false := by rfl) (h8 : F.testBit (cd 11 38) = false := by rfl) : JM G US A S W w c br q0 nl0 nq nl nf nk p NL' z L ts' M0 M' := by
  obtain ⟨g1, g2, g3, g4, g5, g6⟩ := h
  have hw := hx.2.2.2.1
  have dW : ∀ s ∈ XW w, s ∉ [sNn, sNp, sNm] := fun s hs q => by
    simp only [List.mem_cons, List.not_mem_nil, or_false] at hs q
    rcases hs with e | e | e | e | e | e | e | e | e | e <;> rcases q with q | q | q <;> (rw [e] at q; cases q)
  obtain ⟨-, -, -, m4, m5⟩ := XL_in hx.2.2.2.2.1
  have r4 := hg.2.1 sLn m4 (by decide)
  have r5 := hg.2.1 sLa m5 (by decide)
  refine ⟨hq, g2.gf hf hg hw dW (pOk.t hP), ⟨g3.1.gf hf hg hw dW hP, ?_, hn⟩, g4.gf hf hg hx ?_ h1 h2 h3 h4 h5 h6 h7 h8, g5.gf hf hg hw dW ?_ (tOk.l (pOk.t hP)), (hf.I h51 0).trans g6⟩
  · obtain ⟨a, b, d, e⟩ := g3.2.1
    refine ⟨(hf.I h60 0).trans a, by rw [r4.2.1, r5.2.1]; exact b, by rw [r4.2.1, r5.2.1]; exact d, fun i hi => ?_⟩
    rw [r4.1, r5.1]; exact e i hi
  · intro s hs q
    simp only [List.mem_cons, List.not_mem_nil, or_false] at hs q
    rcases hs with e | e | e | e | e | e | e | e | e <;> rcases q with q | q | q <;> (rw [e] at q; exact absurd q (by decide))
  · intro s hs
    simp only [List.mem_cons, List.not_mem_nil, or_false] at hs ⊢
    rcases hs with e | e | e <;> simp [e]
/-- the place of a line's first word -/
theorem TQ.pl {A : List Nm} {L ts : List Tok} {M : Mem} (h : TQ A L ts M) (hL : L ≠ []) : mI M 108 0 0 = Int32.ofNat (hd L).2.2.2 ∧ 0 < mL M 108 0 := by
  obtain ⟨⟨⟨a, b, c⟩, -⟩, -⟩ := h
  have hl : 0 < L.length := List.length_pos_iff.mpr hL
  refine ⟨?_, by rw [b.2.2]; omega⟩
  have := (c 0 hl).2.1
  rw [this]
  cases L with
  | nil => exact absurd rfl hL
  | cons x l => rfl
theorem JM.addNine {G : List Sl} {US : UST} {A : List Nm} {S : List Sg} {W : List Cls} {w c : Nat} {br : Int32} {q0 nl0 nq nl nf nk : Nat} {p : PM} {NL : List Nine} {z : Nat × Nat × Nat × Nat × Nat × Nat} {L ts : List Tok} {M0 M : Mem} {x : Nine} {Q : Mem → Prop} (h : JM G US A S W w c br q0 nl0 nq nl nf nk p NL z L ts M0 M) (hx : Gx G w) (hL : L ≠ []) (hlen : NL.length ≤ 3900) (hp : x.2.2.2.1 = (hd L).2.2.2) (hm : x.1 = 1 → x.2.1 ∈ A) (hx2 : x.1 ≤ 2 ∧ x.2.2.1 ≤ 80) (hQ : ∀ M', JM G US A S W w c br q0 nl0 nq nl nf nk p (NL ++ [x]) z L ts M0 M' → (∀ k, rd M' (sLi w) k = rd M (sLi w) k) → Q M') : w_Model_addNine 0 (nv A x) (b2 x.2.2.2.2) Q M :=
  mf_w_Model_addNine (Q := fun M' => tNi A (NL ++ [x]) M' ∧ GF G [sNn, sNp, sNm] M M') (fun M' hf hp' => hQ M' (h.nine hx hf (h.1.fr hf) hp'.2 hp'.1) (hp'.2.2.1 (sLi w) (hx.2.2.2.1 _ (by simp)) (by simp)).1) (ct_addNine hx.1 hx.2.2.2.2.1 h.2.2.2.2.1.1.1 h.2.2.1.2.2 hlen (by rw [hp]; exact h.1.pl hL) hm hx2 (fun M' a b => ⟨a, b⟩))
theorem ct_labelOf {G : List Sl} {A : List Nm} {LS : List Lb} {nm : Nm} {Q : Int32 → Mem → Prop} {M : Mem} (hl : Gl G) (hTG : TG G M) (h : tLb A LS M) (hA : A.length ≤ 200000) (hm : nm ∈ A) (hQ : Q (match lbl LS nm with | some k => Int32.ofNat k | none => -2) M) : w_Model_labelOf 0 (nc A nm) Q M := by
  obtain ⟨a, b, c, d⟩ := h
  obtain ⟨-, -, -, m4, m5⟩ := XL_in hl
  have lbs : ∀ (l : List Lb) k, (∀ j, j < k → (glb l j).1 ≠ nm) → k < l.length → (glb l k).1 = nm → lbl l nm = some (glb l k).2.1 := by
    intro l
    induction l with
    | nil => intro k _ h; exact absurd h (Nat.not_lt_zero k)
    | cons x l ih =>
      intro k h1 h2 h3
      unfold lbl
      cases k with
      | zero => rw [if_pos (show x.1 = nm from h3)]; rfl
      | succ k =>
        rw [if_neg (show ¬ x.1 = nm from h1 0 (by omega))]
        exact ih k (fun j hj => h1 (j + 1) (by omega)) (by simpa using h2) h3
  have lbn : ∀ (l : List Lb), (∀ j, j < l.length → (glb l j).1 ≠ nm) → lbl l nm = none := by
    intro l
    induction l with
    | nil => intro _; rfl
    | cons x l ih =>
      intro h1
      unfold lbl
      rw [if_neg (show ¬ x.1 = nm from h1 0 (by simp))]
      exact ih (fun j hj => h1 (j + 1) (by simpa using hj))
  have main : ∀ e k, LS.length - k < e → k ≤ LS.length → (∀ j, j < k → (glb LS j).1 ≠ nm) → w_Model_labelOf_L2 0 Q e (nc A nm) (Int32.ofNat k) M := by
    intro e
    induction e with
    | zero => intro k h; omega
    | succ e ih =>
      intro k he hk hno
      unfold w_Model_labelOf_L2
      rw [a]
      by_cases ek : k = LS.length
      · refine itp (le_oN (by omega) (by omega)) ?_
        rw [lbn LS (fun j hj => hno j (by omega))] at hQ; exact hQ
      · refine itn (nle_oN (by omega) (by omega)) ⟨rdI M sLn, (hTG sLn m4).1.1, ?_⟩
        have el1 : mL M 300 (rdI M sLn) = rl M sLn := rfl
        have el2 : mL M 300 (rdI M sLa) = rl M sLa := rfl
        obtain ⟨⟨d1, d2⟩, d3, d4⟩ := d k (by omega)
        have er1 : mI M 300 (rdI M sLn) k = nc A (glb LS k).1 := d1
        have er2 : mI M 300 (rdI M sLa) k = Int32.ofNat (glb LS k).2.1 := d3
        rw [oN_tnc (k := k) (by omega), el1, er1]
        refine ⟨(vp_oN (by omega)).mpr (by omega), ?_⟩
        by_cases ce : (glb LS k).1 = nm
        · refine itp (by rw [ce]) ⟨rdI M sLa, (hTG sLa m5).1.1, ?_⟩
          rw [el2, er2]
          refine ⟨(vp_oN (by omega)).mpr (by omega), ?_⟩
          rw [lbs LS k hno (by omega) ce] at hQ; exact hQ
        · refine itn (fun q => ce ((nc_inj (by omega) d2 hm).mp q)) ?_
          rw [lit32 1, oN_add]
          refine ih (k + 1) (by omega) (by omega) (fun j hj => ?_)
          by_cases ej : j = k
          · rw [ej]; exact ce
          · exact hno j (by omega)
  unfold w_Model_labelOf
  exact ⟨LS.length + 1, main _ 0 (by omega) (by omega) (fun j hj => by omega)⟩
theorem JM.usedLabel {G : List Sl} {US : UST} {A : List Nm} {S : List Sg} {W : List Cls} {w c : Nat} {br : Int32} {q0 nl0 nq nl nf nk : Nat} {p : PM} {NL : List Nine} {z : Nat × Nat × Nat × Nat × Nat × Nat} {L ts : List Tok} {M0 M : Mem} {Q : Int32 → Mem → Prop} {X : Mem → Prop} (h : JM G US A S W w c br q0 nl0 nq nl nf nk p NL z L ts M0 M) (hx : Gx G w) (hz : lz L) (hne : ts ≠ []) (hlen : NL.length ≤ 3900)
    (hQ : ∀ nm t2 M', pName ts = .inr (nm, t2) → nm ∈ A → t2 ≠ [] → JM G US A S W w c br q0 nl0 nq nl nf nk p (NL ++ [(1, nm, 0, (hd L).2.2.2, false)]) z L t2 M0 M' → (∀ k, rd M' (sLi w) k = rd M (sLi w) k) → Q (nc A nm) M')
    (hX : ∀ e M', pName ts = .inl e → ThT e M' → JE G US A w z M0 M' → X M') : w_Model_usedLabel 0 Q X M := by
  have hL : L ≠ [] := by obtain ⟨i, z, e, -⟩ := hz; rw [e]; simp
  unfold w_Model_usedLabel
  refine mf_w_Model_plainName (Q := fun v M' => ∃ nm t2, pName ts = .inr (nm, t2) ∧ nm ∈ A ∧ TQ A L t2 M' ∧ v = nc A nm) (X := fun M' => ∃ e, pName ts = .inl e ∧ ThT e M') (fun v M2 hf2 hp2 => ?_) (fun M2 hf2 hp2 => ?_) (ct_plainName h.1 hne (fun nm t2 M' a b c => ⟨nm, t2, a, b, c, rfl⟩) (fun e M' a b => ⟨e, a, b⟩))
  · obtain ⟨nm, t2, a, b, hq, e⟩ := hp2
    subst e
    have h2 := h.fr hx hf2 hq
    have hne2 : t2 ≠ [] := by rw [(pName_tail a).1]; exact tl_ne h.1 hz hne (by rw [(pName_tail a).2]; decide)
    have e1 : nc A nm = nv A (1, nm, 0, (hd L).2.2.2, false) := rfl
    have := h2.addNine (x := (1, nm, 0, (hd L).2.2.2, false)) (Q := fun M' => Q (nc A nm) M') hx hL hlen rfl (fun _ => b) ⟨Nat.le_of_ble_eq_true rfl, Nat.le_of_ble_eq_true rfl⟩ (fun M' h' r' => hQ nm t2 M' a b hne2 h' (fun k => (r' k).trans ((rd_fr hf2 hx.1 rfl (hx.2.2.2.1 (sLi w) (by simp))).1 k)))
    exact this
  · obtain ⟨e, a, b⟩ := hp2
    exact hX e M2 a b (h.je.fr hx hf2)
