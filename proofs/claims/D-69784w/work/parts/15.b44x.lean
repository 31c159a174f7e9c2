/-! B: a field's line in the twin -/
/-- the flags in front: up to the first word that is none, or was told -/
theorem ct_fieldFlags {A : List Nm} {L ts : List Tok} {Q X : Mem → Prop} {M : Mem} (hz : lz L) (h : TQ A L ts M) (hne : ts ≠ [])
    (hQ : ∀ bits t1 M' n, pFlags (flg nStatic nFinal nPrivate none) (ts.length + 1) 0 ts = (bits, t1) → TQ A L t1 M' → t1 ≠ [] → Fr F_Model_takes M M' → w_Model_fieldLine_L4 0 Q X (n + 1) bits 0 M') : w_Model_fieldLine 0 Q X M := by
  have kf := fun (M' : Mem) (hq : TKs A M') => (⟨hq (29, nStatic) (by simp [kF]), hq (10, nFinal) (by simp [kF]), hq (15, nPrivate) (by simp [kF])⟩ : (mI M' 11 0 29 = nc A nStatic ∧ nStatic ∈ A) ∧ (mI M' 11 0 10 = nc A nFinal ∧ nFinal ∈ A) ∧ (mI M' 11 0 15 = nc A nPrivate ∧ nPrivate ∈ A))
  have main : ∀ d bits t M1, t.length < d → TQ A L t M1 → t ≠ [] → Fr F_Model_takes M M1 → pFlags (flg nStatic nFinal nPrivate none) (ts.length + 1) 0 ts = pFlags (flg nStatic nFinal nPrivate none) d bits t → w_Model_fieldLine_L4 0 Q X (d + 2) bits 1 M1 := by
    intro d
    induction d with
    | zero => intro bits t M1 h; omega
    | succ d ih =>
      intro bits t M1 hlt hq hne1 hfr hp
      obtain ⟨k10, k11, k12⟩ := kf M1 hq.1.2.1
      unfold w_Model_fieldLine_L4
      refine itn (by decide) ?_
      rw [k10.1]
      -- one word looked at
      have j54 : ∀ s0 : Int32, (s0 = if (hd t).1 = 2 then flg nStatic nFinal nPrivate none (hd t).2.1 else 0) → w_Model_fieldLine_j54 0 Q X (w_Model_fieldLine_L4 0 Q X (d + 2)) bits s0 M1 := by
        intro s0 hs
        have stop : ¬ ((hd t).1 = 2 ∧ flg nStatic nFinal nPrivate none (hd t).2.1 ≠ 0 ∧ bits &&& flg nStatic nFinal nPrivate none (hd t).2.1 = 0) → w_Model_fieldLine_j69 0 Q X (w_Model_fieldLine_L4 0 Q X (d + 2)) bits s0 M1 := fun hc => by
          unfold w_Model_fieldLine_j69 w_Model_fieldLine_j70
          refine itp rfl ?_
          unfold w_Model_fieldLine_j81
          refine itp rfl ?_
          unfold w_Model_fieldLine_j97
          have e0 : (bits ||| 0) = bits := Int32.or_zero
          rw [e0]
          refine hQ bits t _ (d + 1) (hp.trans ?_) hq.same hne1 (Fr.wI rfl hfr)
          show (if _ then _ else _) = _
          rw [if_neg hc]
        unfold w_Model_fieldLine_j54
        by_cases c0 : s0 = 0
        · refine itp c0 (stop (fun q => q.2.1 ?_))
          rw [if_pos q.1] at hs; rw [← hs]; exact c0
        · refine itn c0 ?_
          have c2 : (hd t).1 = 2 := Classical.byContradiction (fun q => c0 (by rw [hs, if_neg q]))
          rw [if_pos c2] at hs
          by_cases c1 : bits &&& s0 = 0
          · refine itp c1 ?_
            unfold w_Model_fieldLine_j70
            refine itn (by decide) ?_
            unfold w_Model_fieldLine_j81
            refine itn (by decide) ?_
            unfold w_Model_fieldLine_j97
            refine ih (bits ||| s0) t.tail _ (by have := tail_lt hne1; omega) (hq.next hne1) (tl_ne hq hz hne1 (by omega)) (Fr.wI rfl hfr) (hp.trans ?_)
            show (if _ then _ else _) = _
            rw [← hs, if_pos ⟨c2, c0, c1⟩]
          · exact itn c1 (stop (fun q => c1 (by rw [hs]; exact q.2.2)))
      refine ct_isWord hq hne1 k10.2 ?_
      cases c1 : isWd nStatic t with
      | true =>
        have q := of_decide_eq_true c1
        exact itn (by decide) (j54 1 (by rw [if_pos q.1]; unfold flg; rw [if_pos q.2]))
      | false =>
        refine itp (by decide) ?_
        rw [k11.1]
        refine ct_isWord hq hne1 k11.2 ?_
        have n1 : (hd t).1 = 2 → (hd t).2.1 ≠ nStatic := fun a b => of_decide_eq_false c1 ⟨a, b⟩
        cases c2 : isWd nFinal t with
        | true =>
          have q := of_decide_eq_true c2
          exact itn (by decide) (j54 2 (by rw [if_pos q.1]; unfold flg; rw [if_neg (n1 q.1), if_pos q.2]))
        | false =>
          refine itp (by decide) ?_
          rw [k12.1]
          refine ct_isWord hq hne1 k12.2 ?_
          have n2 : (hd t).1 = 2 → (hd t).2.1 ≠ nFinal := fun a b => of_decide_eq_false c2 ⟨a, b⟩
          cases c3 : isWd nPrivate t with
          | true =>
            have q := of_decide_eq_true c3
            exact itn (by decide) (j54 4 (by rw [if_pos q.1]; unfold flg; rw [if_neg (n1 q.1), if_neg (n2 q.1), if_pos q.2]))
          | false =>
            have n3 : (hd t).1 = 2 → (hd t).2.1 ≠ nPrivate := fun a b => of_decide_eq_false c3 ⟨a, b⟩
            refine itp (by decide) (j54 0 ?_)
            by_cases e : (hd t).1 = 2
            · rw [if_pos e]; unfold flg; rw [if_neg (n1 e), if_neg (n2 e), if_neg (n3 e), if_neg (by simp)]
            · rw [if_neg e]
  unfold w_Model_fieldLine
  exact ⟨ts.length + 3, main (ts.length + 1) 0 ts M (by omega) h hne (Fr.rf _ _) rfl⟩
abbrev i32min : Int32 := -2147483648
abbrev i32max : Int32 := 2147483647
/-- behind the flags: name, type, what it begins with -/
def pFieldT (ts : List Tok) : Rz (Nm × Kd × Int32 × Bool) := match pName ts with
  | .inl e => .inl e
  | .inr (own, t1) => match pType t1 with
    | .inl e => .inl e
    | .inr (κ, t2) => if (hd t2).1 = 61 then (match pNum i32min i32max t2.tail with
        | .inl e => .inl e
        | .inr (v, t3) => if (hd t3).1 = 0 then .inr ((own, κ, v, true), t3) else .inl (er t3))
      else if (hd t2).1 = 0 then .inr ((own, κ, 0, false), t2) else .inl (er t2)
/-- a field's line, behind the word field -/
def pField (ts : List Tok) : Rz (Int32 × Nm × Kd × Int32 × Bool) := match pFlags (flg nStatic nFinal nPrivate none) (ts.length + 1) 0 ts with
  | (bits, t1) => match pFieldT t1 with
    | .inl e => .inl e
    | .inr ((own, κ, v, has), t5) => .inr ((bits, own, κ, v, has), t5)
/-- the first rule that it breaks, or 99 -/
def rulF (br : Int32) (c : Cls) (bits : Int32) (own : Nm) (κ : Kd) (has : Bool) : Nat :=
  if c.2.2.2.2.1.any (fun f => decide (f.1 = own)) then 3 else if decide (¬ c.2.2.2.1 &&& 4 = 0) && (brk br 1 && decide (¬ bits &&& 3 = 3)) then 5 else if decide (c.2.2.2.2.1.length = 8) then 12 else if has && (decide (bits &&& 1 = 0) || decide (κ ≠ (0, []))) then 14 else 99
abbrev gfl (c : Cls) (k : Nat) : Fld := c.2.2.2.2.1.getD k ([], (0, []), 0, 0, false)
/-- fields, as the twin holds them -/
def tFl (A : List Nm) (W : List Cls) (w : Nat) (M : Mem) : Prop := (mL M 139 w = 408 ∧ mL M 140 w = 408 ∧ mL M 141 w = 408 ∧ mL M 142 w = 408 ∧ mL M 523 w = 408 ∧ mL M 143 w = 408) ∧ ∀ c, c < W.length → (mI M 135 w c = Int32.ofNat (gc W c).2.2.2.2.1.length ∧ (gc W c).2.2.2.2.1.length ≤ 8) ∧ ∀ k, k < (gc W c).2.2.2.2.1.length →
  (mI M 139 w (8 * c + k) = nc A (gfl (gc W c) k).1 ∧ (gfl (gc W c) k).1 ∈ A) ∧ (mI M 140 w (8 * c + k) = kt A (gfl (gc W c) k).2.1 ∧ kok A (gfl (gc W c) k).2.1) ∧ mI M 141 w (8 * c + k) = (gfl (gc W c) k).2.2.1 ∧ mI M 142 w (8 * c + k) = (gfl (gc W c) k).2.2.2.1 ∧ mI M 523 w (8 * c + k) = b2 (gfl (gc W c) k).2.2.2.2
theorem lst_fin4 (a b c d : Bool) : lst (lst (lst (lst 99 3 a) 5 b) 12 c) 14 d = if a then 3 else if b then 5 else if c then 12 else if d then 14 else 99 := by
  cases a <;> cases b <;> cases c <;> cases d <;> rfl

def addF (W : List Cls) (c : Nat) (f : Fld) : List Cls := W.set c ((gc W c).1, (gc W c).2.1, (gc W c).2.2.1, (gc W c).2.2.2.1, (gc W c).2.2.2.2.1 ++ [f], (gc W c).2.2.2.2.2)
theorem addF_len (W : List Cls) (c : Nat) (f : Fld) : (addF W c f).length = W.length := by simp [addF]
theorem gc_addF {W : List Cls} {c j : Nat} {f : Fld} (hc : c < W.length) : gc (addF W c f) j = if j = c then ((gc W c).1, (gc W c).2.1, (gc W c).2.2.1, (gc W c).2.2.2.1, (gc W c).2.2.2.2.1 ++ [f], (gc W c).2.2.2.2.2) else gc W j := by
  unfold addF
  by_cases e : j = c
  · rw [if_pos e, e]
    show (List.set _ _ _).getD c _ = _
    rw [List.getD_eq_getElem?_getD, List.getElem?_set]
    simp [hc]
  · rw [if_neg e]
    show (List.set _ _ _).getD j _ = W.getD j _
    rw [List.getD_eq_getElem?_getD, List.getElem?_set, if_neg (fun q => e q.symm), List.getD_eq_getElem?_getD]
theorem gc_addF1 {W : List Cls} {c j : Nat} {f : Fld} (hc : c < W.length) : (gc (addF W c f) j).1 = (gc W j).1 ∧ (gc (addF W c f) j).2.1 = (gc W j).2.1 ∧ (gc (addF W c f) j).2.2.1 = (gc W j).2.2.1 ∧ (gc (addF W c f) j).2.2.2.1 = (gc W j).2.2.2.1 := by
  rw [gc_addF hc]
  by_cases e : j = c
  · rw [if_pos e, e]; exact ⟨rfl, rfl, rfl, rfl⟩
  · rw [if_neg e]; exact ⟨rfl, rfl, rfl, rfl⟩
theorem tCl.setF {A : List Nm} {W : List Cls} {w c : Nat} {f : Fld} {M : Mem} (h : tCl A W w M) (hc : c < W.length) : tCl A (addF W c f) w M := by
  obtain ⟨⟨x, x5⟩, y, y5⟩ := h
  refine ⟨⟨by rw [addF_len]; exact x, fun j hj => ?_⟩, y, fun j hj => ?_⟩
  · rw [addF_len] at hj
    rw [(gc_addF1 hc).1]; exact x5 j hj
  · rw [addF_len] at hj
    obtain ⟨e1, e2, e3, e4⟩ := gc_addF1 (f := f) (j := j) hc
    rw [e1, e2, e4]
    have := y5 j hj
    refine ⟨this.1, ?_, this.2.2⟩
    unfold gf
    rw [e3]; exact this.2.1
/-- while a field's line is taken -/
def B2o (G : List Sl) (A : List Nm) (W : List Cls) (w c : Nat) (br : Int32) (L t : List Tok) (l : Nat) (M0 M : Mem) : Prop := TQ A L t M ∧ Cx1 A W w br M ∧ mI M 11 0 51 = Int32.ofNat l ∧ GF G [] M0 M ∧ tFl A W w M ∧ mI M 11 0 53 = Int32.ofNat c ∧ c < W.length ∧ ∀ k, mI M 143 w k = mI M0 143 w k
def fOk (S : Nat) : Bool := !S.testBit 135 && (!S.testBit 139 && (!S.testBit 140 && (!S.testBit 141 && (!S.testBit 142 && (!S.testBit 523 && (!S.testBit 5139 && (!S.testBit 5140 && (!S.testBit 5141 && (!S.testBit 5142 && (!S.testBit 5523 && !S.testBit 5143))))))))))
theorem tFl.fr {A : List Nm} {W : List Cls} {w : Nat} {M M' : Mem} {S : Nat} (h : tFl A W w M) (hf : Fr S M M') (hS : fOk S = true := by rfl) : tFl A W w M' := by
  unfold fOk at hS
  simp only [Bool.and_eq_true, Bool.not_eq_true'] at hS
  obtain ⟨s0, s1, s2, s3, s4, s5, s6, s7, s8, s9, s10, s11⟩ := hS
  obtain ⟨⟨a1, a2, a3, a4, a5, a6⟩, b⟩ := h
  refine ⟨⟨(hf.L s6 w).trans a1, (hf.L s7 w).trans a2, (hf.L s8 w).trans a3, (hf.L s9 w).trans a4, (hf.L s10 w).trans a5, (hf.L s11 w).trans a6⟩, fun c hc => ⟨⟨(hf.Ia rfl s0 w c).trans (b c hc).1.1, (b c hc).1.2⟩, fun k hk => ?_⟩⟩
  rw [hf.Ia rfl s1, hf.Ia rfl s2, hf.Ia rfl s3, hf.Ia rfl s4, hf.Ia rfl s5]
  exact (b c hc).2 k hk
theorem B2o.step {G : List Sl} {A : List Nm} {W : List Cls} {w c : Nat} {br : Int32} {L t t' : List Tok} {l : Nat} {M0 M M' : Mem} {S : Nat} (h : B2o G A W w c br L t l M0 M) (hG : Ga G) (hf : Fr S M M') (hq : TQ A L t' M') (h1 : sOk S = true := by rfl) (h2 : wOk S = true := by rfl) (h3 : S.testBit (cd 11 51) = false := by rfl) (h4 : fOk S = true := by rfl) (h5 : S.testBit (cd 11 53) = false := by rfl) (h7 : S.testBit 143 = false := by rfl) : B2o G A W w c br L t' l M0 M' := by
  obtain ⟨a, b, c, d, e, f, g⟩ := h
  exact ⟨hq, b.fr hf h2, (hf.I h3 0).trans c, d.fr hf hG h1, e.fr hf h4, (hf.I h5 0).trans f, g.1, fun k => (hf.Ia rfl h7 w k).trans (g.2 k)⟩
theorem B2o.s11 {G : List Sl} {A : List Nm} {W : List Cls} {w c : Nat} {br : Int32} {L t t' : List Tok} {l l' : Nat} {M0 M : Mem} {k : Nat} {v : Int32} (h : B2o G A W w c br L t l M0 M) (hG : Ga G) (hk : k ≠ 53) (hq : TQ A L t' (sI M 11 0 k v)) (hl : mI (sI M 11 0 k v) 11 0 51 = Int32.ofNat l') : B2o G A W w c br L t' l' M0 (sI M 11 0 k v) :=
  ⟨hq, h.2.1.s11, hl, h.2.2.2.1.of (fun s hs => rfl) (fun s hs i j => by have := hG.ob s hs; rw [mI_sI, if_neg (fun q => by omega)]) (fun s hs i => rfl) rfl rfl, h.2.2.2.2.1, by rw [mI_sI, if_neg (fun q => hk q.2.2.symm)]; exact h.2.2.2.2.2.1, h.2.2.2.2.2.2.1, fun j => by rw [mI_sI, if_neg (fun q => absurd q.1 (by decide))]; exact h.2.2.2.2.2.2.2 j⟩
def B2 (G : List Sl) (A : List Nm) (W : List Cls) (w c : Nat) (br : Int32) (L t : List Tok) (l : Nat) (M0 M : Mem) : Prop := B2o G A W w c br L t l M0 M ∧ LoT w c M0 M
theorem B2.step {G : List Sl} {A : List Nm} {W : List Cls} {w c : Nat} {br : Int32} {L t t' : List Tok} {l : Nat} {M0 M M' : Mem} {S : Nat} (h : B2 G A W w c br L t l M0 M) (hG : Ga G) (hf : Fr S M M') (hq : TQ A L t' M') (h1 : sOk S = true := by rfl) (h2 : wOk S = true := by rfl) (h3 : S.testBit (cd 11 51) = false := by rfl) (h4 : fOk S = true := by rfl) (h5 : S.testBit (cd 11 53) = false := by rfl) (h6 : lOk S = true := by rfl) (h7 : S.testBit 143 = false := by rfl) : B2 G A W w c br L t' l M0 M' := ⟨h.1.step hG hf hq h1 h2 h3 h4 h5 h7, h.2.fr hf h6⟩
theorem B2.s11 {G : List Sl} {A : List Nm} {W : List Cls} {w c : Nat} {br : Int32} {L t t' : List Tok} {l l' : Nat} {M0 M : Mem} {k : Nat} {v : Int32} (h : B2 G A W w c br L t l M0 M) (hG : Ga G) (hk : k ≠ 53) (hq : TQ A L t' (sI M 11 0 k v)) (hl : mI (sI M 11 0 k v) 11 0 51 = Int32.ofNat l') : B2 G A W w c br L t' l' M0 (sI M 11 0 k v) := ⟨h.1.s11 hG hk hq hl, h.2.wo⟩
theorem B2.asks {G : List Sl} {A : List Nm} {W : List Cls} {w c : Nat} {br : Int32} {L t : List Tok} {l rule : Nat} {M0 M : Mem} {b : Bool} {Q : Mem → Prop} (h : B2 G A W w c br L t l M0 M) (hG : Ga G) (hl : l < 1000) (hr : rule < 1000) (hQ : ∀ M', B2 G A W w c br L t (lst l rule b) M0 M' → Q M') : w_Model_asks 0 (Int32.ofNat rule) (b2 b) Q M := by
  refine ct_asks h.1.2.2.1 hl hr (fun M' e1 e2 => hQ M' ?_)
  rcases e2 with q | q
  · subst q; exact ⟨⟨h.1.1, h.1.2.1, e1, h.1.2.2.2⟩, h.2⟩
  · subst q
    exact h.s11 hG (by omega) (h.1.1.of (fun k hk => by rw [mI_sI, if_neg (fun q => by omega)]) (fun _ => rfl) (fun _ => rfl) (fun _ => rfl) rfl rfl rfl) e1
theorem tFl.setF {A : List Nm} {W : List Cls} {w c : Nat} {own : Nm} {κ : Kd} {bits v : Int32} {has : Bool} {M M' : Mem} (h : tFl A W w M) (hc : c < W.length) (hn : (gc W c).2.2.2.2.1.length < 8) (ho : own ∈ A) (hk : kok A κ)
    (e135 : ∀ k, mI M' 135 w k = if k = c then Int32.ofNat ((gc W c).2.2.2.2.1.length + 1) else mI M 135 w k) (e139 : ∀ k, mI M' 139 w k = if k = 8 * c + (gc W c).2.2.2.2.1.length then nc A own else mI M 139 w k) (e140 : ∀ k, mI M' 140 w k = if k = 8 * c + (gc W c).2.2.2.2.1.length then kt A κ else mI M 140 w k) (e141 : ∀ k, mI M' 141 w k = if k = 8 * c + (gc W c).2.2.2.2.1.length then bits else mI M 141 w k)
    (e142 : ∀ k, mI M' 142 w k = if k = 8 * c + (gc W c).2.2.2.2.1.length then v else mI M 142 w k) (e523 : ∀ k, mI M' 523 w k = if k = 8 * c + (gc W c).2.2.2.2.1.length then b2 has else mI M 523 w k) (lm : ∀ f, mL M' f w = mL M f w) : tFl A (addF W c (own, κ, bits, v, has)) w M' := by
  obtain ⟨⟨a1, a2, a3, a4, a5, a6⟩, b⟩ := h
  refine ⟨⟨(lm _).trans a1, (lm _).trans a2, (lm _).trans a3, (lm _).trans a4, (lm _).trans a5, (lm _).trans a6⟩, fun j hj => ?_⟩
  rw [addF_len] at hj
  rw [gc_addF hc]
  obtain ⟨⟨p1, p2⟩, p3⟩ := b j hj
  by_cases ej : j = c
  · rw [if_pos ej]
    subst ej
    have ll : ((gc W j).2.2.2.2.1 ++ [(own, κ, bits, v, has)]).length = (gc W j).2.2.2.2.1.length + 1 := by simp
    refine ⟨⟨by rw [e135, if_pos rfl]; exact congrArg Int32.ofNat ll.symm, by show _ ≤ 8; rw [ll]; omega⟩, fun k hk' => ?_⟩
    have hk2 : k < (gc W j).2.2.2.2.1.length + 1 := by rw [← ll]; exact hk'
    rw [e139, e140, e141, e142, e523]
    by_cases ek : k = (gc W j).2.2.2.2.1.length
    · have e0 : 8 * j + k = 8 * j + (gc W j).2.2.2.2.1.length := by omega
      rw [if_pos e0, if_pos e0, if_pos e0, if_pos e0, if_pos e0]
      have : gfl ((gc W j).1, (gc W j).2.1, (gc W j).2.2.1, (gc W j).2.2.2.1, (gc W j).2.2.2.2.1 ++ [(own, κ, bits, v, has)], (gc W j).2.2.2.2.2) k = (own, κ, bits, v, has) := by
        rw [ek]; simp [gfl, List.getD_eq_getElem?_getD]
      rw [this]
      exact ⟨⟨rfl, ho⟩, ⟨rfl, hk⟩, rfl, rfl, rfl⟩
    · have e0 : ¬ 8 * j + k = 8 * j + (gc W j).2.2.2.2.1.length := by omega
      rw [if_neg e0, if_neg e0, if_neg e0, if_neg e0, if_neg e0]
      have : gfl ((gc W j).1, (gc W j).2.1, (gc W j).2.2.1, (gc W j).2.2.2.1, (gc W j).2.2.2.2.1 ++ [(own, κ, bits, v, has)], (gc W j).2.2.2.2.2) k = gfl (gc W j) k := by
        show ((gc W j).2.2.2.2.1 ++ [(own, κ, bits, v, has)]).getD k _ = (gc W j).2.2.2.2.1.getD k _
        rw [List.getD_eq_getElem?_getD, List.getElem?_append_left (show k < (gc W j).2.2.2.2.1.length by omega), ← List.getD_eq_getElem?_getD]
      rw [this]
      exact p3 k (by omega)
  · rw [if_neg ej]
    refine ⟨⟨by rw [e135, if_neg ej]; exact p1, p2⟩, fun k hk' => ?_⟩
    have e0 : ¬ 8 * j + k = 8 * c + (gc W c).2.2.2.2.1.length := by omega
    rw [e139, e140, e141, e142, e523, if_neg e0, if_neg e0, if_neg e0, if_neg e0, if_neg e0]
    exact p3 k hk'

