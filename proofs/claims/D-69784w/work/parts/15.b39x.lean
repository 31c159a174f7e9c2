/-! B: a class's line -/
def pFaces : Nat → List Nm → List Tok → Rz (List Nm)
  | 0, _, ts => .inl (er ts)
  | n + 1, acc, ts => if (hd ts).1 = 0 then .inr (acc, ts) else match pSign 44 ts with
    | .inl e => .inl e
    | .inr (_, t1) => match pCls t1 with
      | .inl e => .inl e
      | .inr (nm, t2) => pFaces n (acc ++ [nm]) t2
/-- behind the flags: class, its name, its parent, faces -/
def pClassT (ts : List Tok) : Rz (Nm × Nm × List Nm) := if isWd nClass ts then (match pCls ts.tail with
    | .inl e => .inl e
    | .inr (own, t2) => match pSign 58 t2 with
      | .inl e => .inl e
      | .inr (_, t3) => match pCls t3 with
        | .inl e => .inl e
        | .inr (par, t4) => match pFaces (t4.length + 1) [] t4 with
          | .inl e => .inl e
          | .inr (fs, t5) => .inr ((own, par, fs), t5))
  else .inl (er ts)
/-- a name is told twice -/
def dupL (own par : Nm) : List Nm → List Nm → Bool
  | _, [] => false
  | prev, f :: fs => (decide (f = own ∨ f = par) || decide (f ∈ prev)) || dupL own par (prev ++ [f]) fs
/-- flags that can't be together -/
def wfC (bits : Int32) (par : Nm) : Bool := (decide (¬ bits &&& 1 = 0) && decide (¬ bits = 1)) || (decide (bits = 6) || (decide (¬ bits &&& 4 = 0) && decide (par ≠ nThing)))
/-- the first rule that a class's line breaks, or 99 -/
def rulC (br : Int32) (W : List Cls) (bits : Int32) (own par : Nm) (fs : List Nm) : Nat :=
  if (fnd W own).isSome then 2 else if brk br 0 && wfC bits par then 4 else if decide (par = own) || dupL own par [] fs then 11 else if 4 < fs.length ∨ W.length = 51 then 12 else 99
def lst (l rule : Nat) (b : Bool) : Nat := if b = true ∧ rule < l then rule else l
theorem ct_asks {rule l : Nat} {b : Bool} {Q : Mem → Prop} {M : Mem} (h : mI M 11 0 51 = Int32.ofNat l) (hl : l < 1000) (hr : rule < 1000) (hQ : ∀ M', mI M' 11 0 51 = Int32.ofNat (lst l rule b) → (M' = M ∨ M' = sI M 11 0 51 (Int32.ofNat rule)) → Q M') : w_Model_asks 0 (Int32.ofNat rule) (b2 b) Q M := by
  unfold w_Model_asks
  unfold lst at hQ
  cases b with
  | false => exact itp rfl (hQ M (by rw [if_neg (fun q => by cases q.1)]; exact h) (Or.inl rfl))
  | true =>
    refine itn (by decide) ?_
    rw [h]
    by_cases c : rule < l
    · refine itn (nle_oN c (by omega)) (hQ _ ?_ (Or.inr rfl))
      rw [if_pos ⟨rfl, c⟩]; rfl
    · refine itp (le_oN (by omega) (by omega)) (hQ M ?_ (Or.inl rfl))
      rw [if_neg (fun q => c q.2)]; exact h
/-- the twin's world at hand -/
def Cx1 (A : List Nm) (W : List Cls) (w : Nat) (br : Int32) (M : Mem) : Prop := tCl A W w M ∧ mR M 11 0 45 = some (12, w) ∧ mI M 12 w 1 = br ∧ (mL M 135 w = 51 ∧ mL M 136 w = 51 ∧ mL M 137 w = 51 ∧ mL M 138 w = 51)
def wOk (S : Nat) : Bool := !S.testBit (cd 11 45) && (!S.testBit (cd 12 1) && (!S.testBit (cd 12 2) && (!S.testBit 130 && (!S.testBit 131 && (!S.testBit 132 && (!S.testBit 133 && (!S.testBit 134 && (!S.testBit 5130 && (!S.testBit 5131 && (!S.testBit 5132 && (!S.testBit 5133 && (!S.testBit 5134 && (!S.testBit 5135 && (!S.testBit 5136 && (!S.testBit 5137 && !S.testBit 5138)))))))))))))))
theorem tCl.of {A : List Nm} {W : List Cls} {w : Nat} {M M' : Mem} (h : tCl A W w M) (e0 : mI M' 12 w 2 = mI M 12 w 2) (e1 : ∀ f, 130 ≤ f → f ≤ 134 → ∀ k, mI M' f w k = mI M f w k) (l : ∀ f, 130 ≤ f → f ≤ 134 → mL M' f w = mL M f w) : tCl A W w M' := by
  obtain ⟨⟨⟨x1, x2, x3, x4⟩, x5⟩, ⟨y1, y2, y3, y4⟩, y5⟩ := h
  refine ⟨⟨⟨e0.trans x1, (l 130 (by omega) (by omega)).trans x2, x3, x4⟩, fun c hc => by rw [e1 130 (by omega) (by omega)]; exact x5 c hc⟩, ⟨(l 131 (by omega) (by omega)).trans y1, (l 133 (by omega) (by omega)).trans y2, (l 134 (by omega) (by omega)).trans y3, (l 132 (by omega) (by omega)).trans y4⟩, fun c hc => ?_⟩
  obtain ⟨z1, z2, z3⟩ := y5 c hc
  exact ⟨⟨(e1 131 (by omega) (by omega) c).trans z1.1, z1.2⟩, ⟨(e1 134 (by omega) (by omega) c).trans z2.1, z2.2.1, fun i hi => by rw [e1 133 (by omega) (by omega)]; exact z2.2.2 i hi⟩, (e1 132 (by omega) (by omega) c).trans z3⟩
theorem Cx1.fr {A : List Nm} {W : List Cls} {w : Nat} {br : Int32} {M M' : Mem} {S : Nat} (h : Cx1 A W w br M) (hf : Fr S M M') (hS : wOk S = true := by rfl) : Cx1 A W w br M' := by
  unfold wOk at hS
  simp only [Bool.and_eq_true, Bool.not_eq_true'] at hS
  obtain ⟨s1, s2, s3, s4, s5, s6, s7, s8, s9, s10, s11, s12, s13, s14, s15, s16, s17⟩ := hS
  refine ⟨h.1.of (hf.I s3 w) (fun f a b k => ?_) (fun f a b => ?_), (hf.R s1 0).trans h.2.1, (hf.I s2 w).trans h.2.2.1, (hf.L s14 w).trans h.2.2.2.1, (hf.L s15 w).trans h.2.2.2.2.1, (hf.L s16 w).trans h.2.2.2.2.2.1, (hf.L s17 w).trans h.2.2.2.2.2.2⟩
  · have : f = 130 ∨ f = 131 ∨ f = 132 ∨ f = 133 ∨ f = 134 := by omega
    rcases this with e | e | e | e | e <;> subst e
    · exact hf.Ia rfl s4 w k
    · exact hf.Ia rfl s5 w k
    · exact hf.Ia rfl s6 w k
    · exact hf.Ia rfl s7 w k
    · exact hf.Ia rfl s8 w k
  · have : f = 130 ∨ f = 131 ∨ f = 132 ∨ f = 133 ∨ f = 134 := by omega
    rcases this with e | e | e | e | e <;> subst e
    · exact hf.L s9 w
    · exact hf.L s10 w
    · exact hf.L s11 w
    · exact hf.L s12 w
    · exact hf.L s13 w
theorem Cx1.s11 {A : List Nm} {W : List Cls} {w : Nat} {br : Int32} {M : Mem} (h : Cx1 A W w br M) {k : Nat} {v : Int32} : Cx1 A W w br (sI M 11 0 k v) := ⟨h.1.of rfl (fun f a b k => by rw [mI_sI, if_neg (fun q => by omega)]) (fun f a b => rfl), h.2.1, h.2.2⟩
theorem ct_isOff {A : List Nm} {W : List Cls} {w bit : Nat} {br : Int32} {Q : Int32 → Mem → Prop} {M : Mem} (h : Cx1 A W w br M) (hQ : Q (b2 (! brk br bit)) M) : w_Model_isOff 0 (Int32.ofNat bit) Q M := by
  unfold w_Model_isOff
  refine ⟨w, h.2.1, ?_⟩
  rw [h.2.2.1]
  unfold brk at hQ
  obtain ⟨v, hv, e⟩ := and_lt (x := br >>> (Int32.ofNat bit &&& 31)) (m := 1) (by decide)
  rw [show (Int32.ofNat 1) = (1 : Int32) from rfl] at e
  rw [e] at hQ ⊢
  have : v = 0 ∨ v = 1 := by omega
  rcases this with q | q
  · subst q
    refine itn (by decide) ?_
    rw [decide_eq_true (by rfl)] at hQ; exact hQ
  · subst q
    refine itp rfl ?_
    rw [decide_eq_false (by decide)] at hQ; exact hQ
/-- the flags in front: up to the first word that is none, or was told -/
theorem ct_classFlags {A : List Nm} {L ts : List Tok} {Q X : Mem → Prop} {M : Mem} (hz : lz L) (h : TQ A L ts M) (hne : ts ≠ [])
    (hQ : ∀ bits t1 M' n, pFlags (flg nFinal nAbstract nFace none) (ts.length + 1) 0 ts = (bits, t1) → TQ A L t1 M' → t1 ≠ [] → Fr F_Model_takes M M' → w_Model_classLine_L4 0 Q X (n + 1) bits 0 M') : w_Model_classLine 0 Q X M := by
  have kf := fun (M' : Mem) (hq : TKs A M') => (⟨hq (10, nFinal) (by simp [kF]), hq (11, nAbstract) (by simp [kF]), hq (12, nFace) (by simp [kF])⟩ : (mI M' 11 0 10 = nc A nFinal ∧ nFinal ∈ A) ∧ (mI M' 11 0 11 = nc A nAbstract ∧ nAbstract ∈ A) ∧ (mI M' 11 0 12 = nc A nFace ∧ nFace ∈ A))
  have main : ∀ d bits t M1, t.length < d → TQ A L t M1 → t ≠ [] → Fr F_Model_takes M M1 → pFlags (flg nFinal nAbstract nFace none) (ts.length + 1) 0 ts = pFlags (flg nFinal nAbstract nFace none) d bits t → w_Model_classLine_L4 0 Q X (d + 2) bits 1 M1 := by
    intro d
    induction d with
    | zero => intro bits t M1 h; omega
    | succ d ih =>
      intro bits t M1 hlt hq hne1 hfr hp
      obtain ⟨k10, k11, k12⟩ := kf M1 hq.1.2.1
      unfold w_Model_classLine_L4
      refine itn (by decide) ?_
      rw [k10.1]
      -- one word looked at
      have j54 : ∀ s0 : Int32, (s0 = if (hd t).1 = 2 then flg nFinal nAbstract nFace none (hd t).2.1 else 0) → w_Model_classLine_j54 0 Q X (w_Model_classLine_L4 0 Q X (d + 2)) bits s0 M1 := by
        intro s0 hs
        have stop : ¬ ((hd t).1 = 2 ∧ flg nFinal nAbstract nFace none (hd t).2.1 ≠ 0 ∧ bits &&& flg nFinal nAbstract nFace none (hd t).2.1 = 0) → w_Model_classLine_j69 0 Q X (w_Model_classLine_L4 0 Q X (d + 2)) bits s0 M1 := fun hc => by
          unfold w_Model_classLine_j69 w_Model_classLine_j70
          refine itp rfl ?_
          unfold w_Model_classLine_j81
          refine itp rfl ?_
          unfold w_Model_classLine_j97
          have e0 : (bits ||| 0) = bits := Int32.or_zero
          rw [e0]
          refine hQ bits t _ (d + 1) (hp.trans ?_) hq.same hne1 (Fr.wI rfl hfr)
          show (if _ then _ else _) = _
          rw [if_neg hc]
        unfold w_Model_classLine_j54
        by_cases c0 : s0 = 0
        · refine itp c0 (stop (fun q => q.2.1 ?_))
          rw [if_pos q.1] at hs; rw [← hs]; exact c0
        · refine itn c0 ?_
          have c2 : (hd t).1 = 2 := Classical.byContradiction (fun q => c0 (by rw [hs, if_neg q]))
          rw [if_pos c2] at hs
          by_cases c1 : bits &&& s0 = 0
          · refine itp c1 ?_
            unfold w_Model_classLine_j70
            refine itn (by decide) ?_
            unfold w_Model_classLine_j81
            refine itn (by decide) ?_
            unfold w_Model_classLine_j97
            refine ih (bits ||| s0) t.tail _ (by have := tail_lt hne1; omega) (hq.next hne1) (tl_ne hq hz hne1 (by omega)) (Fr.wI rfl hfr) (hp.trans ?_)
            show (if _ then _ else _) = _
            rw [← hs, if_pos ⟨c2, c0, c1⟩]
          · exact itn c1 (stop (fun q => c1 (by rw [hs]; exact q.2.2)))
      refine ct_isWord hq hne1 k10.2 ?_
      cases c1 : isWd nFinal t with
      | true =>
        have q := of_decide_eq_true c1
        exact itn (by decide) (j54 1 (by rw [if_pos q.1]; unfold flg; rw [if_pos q.2]))
      | false =>
        refine itp (by decide) ?_
        rw [k11.1]
        refine ct_isWord hq hne1 k11.2 ?_
        have n1 : (hd t).1 = 2 → (hd t).2.1 ≠ nFinal := fun a b => of_decide_eq_false c1 ⟨a, b⟩
        cases c2 : isWd nAbstract t with
        | true =>
          have q := of_decide_eq_true c2
          exact itn (by decide) (j54 2 (by rw [if_pos q.1]; unfold flg; rw [if_neg (n1 q.1), if_pos q.2]))
        | false =>
          refine itp (by decide) ?_
          rw [k12.1]
          refine ct_isWord hq hne1 k12.2 ?_
          have n2 : (hd t).1 = 2 → (hd t).2.1 ≠ nAbstract := fun a b => of_decide_eq_false c2 ⟨a, b⟩
          cases c3 : isWd nFace t with
          | true =>
            have q := of_decide_eq_true c3
            exact itn (by decide) (j54 4 (by rw [if_pos q.1]; unfold flg; rw [if_neg (n1 q.1), if_neg (n2 q.1), if_pos q.2]))
          | false =>
            have n3 : (hd t).1 = 2 → (hd t).2.1 ≠ nFace := fun a b => of_decide_eq_false c3 ⟨a, b⟩
            refine itp (by decide) (j54 0 ?_)
            by_cases e : (hd t).1 = 2
            · rw [if_pos e]; unfold flg; rw [if_neg (n1 e), if_neg (n2 e), if_neg (n3 e), if_neg (by simp)]
            · rw [if_neg e]
  unfold w_Model_classLine
  exact ⟨ts.length + 3, main (ts.length + 1) 0 ts M (by omega) h hne (Fr.rf _ _) rfl⟩
/-- the twin's rows of worlds -/
def tFm (f : Nat) : Bool := (Nat.ble 130 f && Nat.ble f 155) || Nat.beq f 523
/-- where what belongs to classes from c on begins -/
def tb (c f : Nat) : Nat := if f = 133 then 4 * c else if 139 ≤ f ∧ f ≤ 143 ∨ f = 523 then 8 * c else if 144 ≤ f ∧ f ≤ 151 then 12 * c else if 152 ≤ f ∧ f ≤ 155 then 96 * c else c
/-- other worlds, and classes below c, are as they were -/
def LoT (w c : Nat) (M M' : Mem) : Prop := (∀ f, tFm f = true → (∀ i k, (i ≠ w ∨ k < tb c f) → mI M' f i k = mI M f i k) ∧ ∀ i, mL M' f i = mL M f i) ∧ ∀ i k, i ≠ w → k < 72 → mI M' 12 i k = mI M 12 i k
theorem LoT.rf (w c : Nat) (M : Mem) : LoT w c M M := ⟨fun _ _ => ⟨fun _ _ _ => rfl, fun _ => rfl⟩, fun _ _ _ _ => rfl⟩
theorem LoT.trans {w c : Nat} {M M1 M2 : Mem} (h : LoT w c M M1) (h1 : LoT w c M1 M2) : LoT w c M M2 :=
  ⟨fun f hf => ⟨fun i k q => ((h1.1 f hf).1 i k q).trans ((h.1 f hf).1 i k q), fun i => ((h1.1 f hf).2 i).trans ((h.1 f hf).2 i)⟩, fun i k q r => (h1.2 i k q r).trans (h.2 i k q r)⟩
def lOk (S : Nat) : Bool := ((List.range 26).all (fun j => !S.testBit (130 + j) && !S.testBit (5130 + j)) && (!S.testBit 523 && !S.testBit 5523)) && (List.range 72).all (fun k => !S.testBit (3400 + k))
theorem LoT.fr {w c : Nat} {M M1 M2 : Mem} {S : Nat} (h : LoT w c M M1) (hf : Fr S M1 M2) (hS : lOk S = true := by rfl) : LoT w c M M2 := by
  unfold lOk at hS
  simp only [Bool.and_eq_true, Bool.not_eq_true', List.all_eq_true, List.mem_range] at hS
  obtain ⟨⟨a, b1, b2⟩, d⟩ := hS
  refine h.trans ⟨fun f hf' => ?_, fun i k _ q => (hf.1 12 k ?_ i).1⟩
  · unfold tFm at hf'
    rw [Bool.or_eq_true, Bool.and_eq_true] at hf'
    have h20 : Nat.ble 20 f = true := Nat.ble_eq.mpr (by
      rcases hf' with q | q
      · have := Nat.ble_eq.mp q.1; omega
      · have := Nat.eq_of_beq_eq_true q; omega)
    have hb : S.testBit f = false ∧ S.testBit (5000 + f) = false := by
      rcases hf' with q | q
      · have q1 := Nat.ble_eq.mp q.1
        have q2 := Nat.ble_eq.mp q.2
        have := a (f - 130) (by omega)
        rw [show 130 + (f - 130) = f by omega, show 5130 + (f - 130) = 5000 + f by omega] at this
        exact this
      · have := Nat.eq_of_beq_eq_true q
        rw [this]; exact ⟨b1, b2⟩
    exact ⟨fun i k _ => hf.Ia h20 hb.1 i k, fun i => hf.L hb.2 i⟩
  · show S.testBit (1000 + 200 * 12 + k) = false
    exact d k q
theorem LoT.wo {w c : Nat} {M M1 : Mem} {f i k : Nat} {v : Int32} (h : LoT w c M M1) (hf : tFm f = false := by rfl) (h12 : Nat.beq f 12 = false := by rfl) : LoT w c M (sI M1 f i k v) :=
  h.trans ⟨fun g hg => ⟨fun i' k' _ => if_neg (fun q => by rw [q.1, hf] at hg; cases hg), fun _ => rfl⟩, fun i' k' _ _ => if_neg (fun q => by rw [← q.1] at h12; cases h12)⟩
theorem LoT.w {w c : Nat} {M M1 : Mem} {f k : Nat} {v : Int32} (h : LoT w c M M1) (hk : tb c f ≤ k) : LoT w c M (sI M1 f w k v) :=
  h.trans ⟨fun g hg => ⟨fun i' k' e => if_neg (fun q => by
    rcases e with e | e
    · exact e q.2.1
    · rw [q.1, q.2.2] at e; omega), fun _ => rfl⟩, fun i' k' e _ => if_neg (fun q => e q.2.1)⟩
theorem LoT.w12 {w c : Nat} {M M1 : Mem} {k : Nat} {v : Int32} (h : LoT w c M M1) : LoT w c M (sI M1 12 w k v) :=
  h.trans ⟨fun g hg => ⟨fun i' k' e => if_neg (fun q => by rw [q.1] at hg; cases hg), fun _ => rfl⟩, fun i' k' e _ => if_neg (fun q => e q.2.1)⟩
theorem tb_mono {c c' f : Nat} (h : c ≤ c') : tb c f ≤ tb c' f := by
  unfold tb
  by_cases a : f = 133
  · rw [if_pos a, if_pos a]; omega
  rw [if_neg a, if_neg a]
  by_cases a : 139 ≤ f ∧ f ≤ 143 ∨ f = 523
  · rw [if_pos a, if_pos a]; omega
  rw [if_neg a, if_neg a]
  by_cases a : 144 ≤ f ∧ f ≤ 151
  · rw [if_pos a, if_pos a]; omega
  rw [if_neg a, if_neg a]
  by_cases a : 152 ≤ f ∧ f ≤ 155
  · rw [if_pos a, if_pos a]; omega
  rw [if_neg a, if_neg a]; exact h
theorem LoT.mono {w c c' : Nat} {M M1 : Mem} (h : LoT w c' M M1) (hc : c ≤ c') : LoT w c M M1 :=
  ⟨fun f hf => ⟨fun i k e => (h.1 f hf).1 i k (e.imp id (fun q => Nat.lt_of_lt_of_le q (tb_mono hc))), (h.1 f hf).2⟩, h.2⟩

abbrev sFr : Sl := (11, 0, 57, 300)
abbrev gnm (fs : List Nm) (k : Nat) : Nm := fs.getD k []
/-- the twin's row of faces -/
def FRw (A : List Nm) (fs : List Nm) (M : Mem) : Prop := fs.length ≤ rl M sFr ∧ rl M sFr ≤ 20000 ∧ (∀ f ∈ fs, f ∈ A) ∧ ∀ k, k < fs.length → rd M sFr k = nc A (gnm fs k)
/-- while a class's line is taken -/
def B1o (G : List Sl) (A : List Nm) (W : List Cls) (w : Nat) (br : Int32) (L t : List Tok) (l : Nat) (fs : List Nm) (M0 M : Mem) : Prop := TQ A L t M ∧ Cx1 A W w br M ∧ mI M 11 0 51 = Int32.ofNat l ∧ GF G [sFr] M0 M ∧ FRw A fs M
theorem B1o.step {G : List Sl} {A : List Nm} {W : List Cls} {w : Nat} {br : Int32} {L t t' : List Tok} {l : Nat} {fs : List Nm} {M0 M M' : Mem} {S : Nat} (h : B1o G A W w br L t l fs M0 M) (hG : Ga G) (hs : sFr ∈ G) (hf : Fr S M M') (hq : TQ A L t' M') (h1 : sOk S = true := by rfl) (h2 : wOk S = true := by rfl) (h3 : S.testBit (cd 11 51) = false := by rfl) : B1o G A W w br L t' l fs M0 M' := by
  obtain ⟨a, b, c, d, e1, e2, e3, e4⟩ := h
  have rr := rd_fr hf hG h1 hs
  exact ⟨hq, b.fr hf h2, (hf.I h3 0).trans c, d.fr hf hG h1, by rw [rr.2]; exact e1, by rw [rr.2]; exact e2, e3, fun k hk => (rr.1 k).trans (e4 k hk)⟩
theorem B1o.s11 {G : List Sl} {A : List Nm} {W : List Cls} {w : Nat} {br : Int32} {L t t' : List Tok} {l l' : Nat} {fs : List Nm} {M0 M : Mem} {k : Nat} {v : Int32} (h : B1o G A W w br L t l fs M0 M) (hG : Ga G) (hq : TQ A L t' (sI M 11 0 k v)) (hl : mI (sI M 11 0 k v) 11 0 51 = Int32.ofNat l') : B1o G A W w br L t' l' fs M0 (sI M 11 0 k v) :=
  ⟨hq, h.2.1.s11, hl, h.2.2.2.1.of (fun s hs => rfl) (fun s hs i j => by have := hG.ob s hs; rw [mI_sI, if_neg (fun q => by omega)]) (fun s hs i => rfl) rfl rfl, h.2.2.2.2⟩
/-- and what is below was left alone -/
def B1 (G : List Sl) (A : List Nm) (W : List Cls) (w : Nat) (br : Int32) (L t : List Tok) (l : Nat) (fs : List Nm) (M0 M : Mem) : Prop := B1o G A W w br L t l fs M0 M ∧ LoT w W.length M0 M
theorem B1.step {G : List Sl} {A : List Nm} {W : List Cls} {w : Nat} {br : Int32} {L t t' : List Tok} {l : Nat} {fs : List Nm} {M0 M M' : Mem} {S : Nat} (h : B1 G A W w br L t l fs M0 M) (hG : Ga G) (hs : sFr ∈ G) (hf : Fr S M M') (hq : TQ A L t' M') (h1 : sOk S = true := by rfl) (h2 : wOk S = true := by rfl) (h3 : S.testBit (cd 11 51) = false := by rfl) (h4 : lOk S = true := by rfl) : B1 G A W w br L t' l fs M0 M' := ⟨h.1.step hG hs hf hq h1 h2 h3, h.2.fr hf h4⟩
theorem B1.s11 {G : List Sl} {A : List Nm} {W : List Cls} {w : Nat} {br : Int32} {L t t' : List Tok} {l l' : Nat} {fs : List Nm} {M0 M : Mem} {k : Nat} {v : Int32} (h : B1 G A W w br L t l fs M0 M) (hG : Ga G) (hq : TQ A L t' (sI M 11 0 k v)) (hl : mI (sI M 11 0 k v) 11 0 51 = Int32.ofNat l') : B1 G A W w br L t' l' fs M0 (sI M 11 0 k v) := ⟨h.1.s11 hG hq hl, h.2.wo⟩
theorem B1.asks {G : List Sl} {A : List Nm} {W : List Cls} {w : Nat} {br : Int32} {L t : List Tok} {l rule : Nat} {fs : List Nm} {M0 M : Mem} {b : Bool} {Q : Mem → Prop} (h : B1 G A W w br L t l fs M0 M) (hG : Ga G) (hl : l < 1000) (hr : rule < 1000) (hQ : ∀ M', B1 G A W w br L t (lst l rule b) fs M0 M' → Q M') : w_Model_asks 0 (Int32.ofNat rule) (b2 b) Q M := by
  refine ct_asks h.1.2.2.1 hl hr (fun M' e1 e2 => hQ M' ?_)
  rcases e2 with q | q
  · subst q; exact ⟨⟨h.1.1, h.1.2.1, e1, h.1.2.2.2⟩, h.2⟩
  · subst q
    exact h.s11 hG (h.1.1.of (fun k hk => by rw [mI_sI, if_neg (fun q => by omega)]) (fun _ => rfl) (fun _ => rfl) (fun _ => rfl) rfl rfl rfl) e1
theorem lst_le {l rule : Nat} {b : Bool} (h : l < 1000) (hr : rule < 1000) : lst l rule b < 1000 := by unfold lst; split <;> omega
/-- a class more, as the twin lays it -/
theorem tCl.add {A : List Nm} {W : List Cls} {w : Nat} {M M' : Mem} {own par : Nm} {fs : List Nm} {bits : Int32} (h : tCl A W w M) (hl : W.length < 51) (ho : own ∈ A) (ho2 : own ≠ []) (hp : par ∈ A) (hp2 : par ≠ []) (hf : ∀ f ∈ fs, f ∈ A) (hf4 : fs.length ≤ 4)
    (e0 : mI M' 12 w 2 = Int32.ofNat (W.length + 1)) (e1 : ∀ k, mI M' 130 w k = if k = W.length then nc A own else mI M 130 w k) (e2 : ∀ k, mI M' 131 w k = if k = W.length then nc A par else mI M 131 w k) (e3 : ∀ k, mI M' 132 w k = if k = W.length then bits else mI M 132 w k) (e4 : ∀ k, mI M' 134 w k = if k = W.length then Int32.ofNat fs.length else mI M 134 w k)
    (e5 : ∀ k, mI M' 133 w k = if 4 * W.length ≤ k ∧ k < 4 * W.length + fs.length then nc A (gnm fs (k - 4 * W.length)) else mI M 133 w k) (lm : ∀ f, mL M' f w = mL M f w) : tCl A (W ++ [(own, par, fs, bits, [], [])]) w M' := by
  obtain ⟨⟨⟨x1, x2, x3, x4⟩, x5⟩, ⟨y1, y2, y3, y4⟩, y5⟩ := h
  have ga : ∀ {c}, c < W.length → gc (W ++ [(own, par, fs, bits, [], [])]) c = gc W c := fun {c} hc => by
    simp [gc, List.getD_eq_getElem?_getD, List.getElem?_append_left hc]
  have ge : gc (W ++ [(own, par, fs, bits, [], [])]) W.length = (own, par, fs, bits, [], []) := by
    simp [gc, List.getD_eq_getElem?_getD]
  have ll : (W ++ [(own, par, fs, bits, ([] : List Fld), ([] : List Mth))]).length = W.length + 1 := by simp
  refine ⟨⟨⟨by rw [ll]; exact e0, (lm 130).trans x2, by rw [ll]; omega, x4⟩, fun c hc => ?_⟩, ⟨(lm 131).trans y1, (lm 133).trans y2, (lm 134).trans y3, (lm 132).trans y4⟩, fun c hc => ?_⟩
  · rw [ll] at hc
    rw [e1]
    by_cases q : c = W.length
    · rw [if_pos q, q, ge]; exact ⟨rfl, ho⟩
    · rw [if_neg q, ga (by omega)]; exact x5 c (by omega)
  · rw [ll] at hc
    rw [e2, e4, e3]
    by_cases q : c = W.length
    · rw [if_pos q, if_pos q, if_pos q, q, ge]
      refine ⟨⟨by unfold pcT; rw [if_neg hp2], Or.inr hp, ho2⟩, ⟨rfl, hf4, fun i hi => ?_⟩, rfl⟩
      have hi' : i < fs.length := hi
      rw [e5, if_pos ⟨by omega, by omega⟩, show 4 * W.length + i - 4 * W.length = i by omega]
      refine ⟨rfl, hf _ ?_⟩
      simp [List.getD_eq_getElem?_getD, List.getElem?_eq_getElem hi']
    · rw [if_neg q, if_neg q, if_neg q, ga (by omega)]
      obtain ⟨z1, z2, z3⟩ := y5 c (by omega)
      refine ⟨z1, ⟨z2.1, z2.2.1, fun i hi => ?_⟩, z3⟩
      have := z2.2.1
      rw [e5, if_neg (fun x => by omega)]
      exact z2.2.2 i hi
theorem B1.rw {G : List Sl} {A : List Nm} {W : List Cls} {w : Nat} {br : Int32} {L t : List Tok} {l : Nat} {fs : List Nm} {M0 M M' : Mem} {S : Nat} (h : B1 G A W w br L t l fs M0 M) (hf : Fr S M M') (hG : Ga G) (hs : sFr ∈ G) (hS : sOk S = true := by rfl) : rl M' sFr ≤ 20000 := by
  rw [(rd_fr hf hG hS hs).2]; exact h.1.2.2.2.2.2.1

theorem lst_or (l r : Nat) (a b : Bool) : lst (lst l r a) r b = lst l r (a || b) := by
  unfold lst
  by_cases h : r < l
  · cases a <;> cases b <;> simp [h]
  · cases a <;> cases b <;> simp [h]
theorem lst_fin (a b c d e f : Bool) : lst (lst (lst (lst (lst (lst 99 2 a) 4 b) 11 c) 12 d) 11 e) 12 f = if a then 2 else if b then 4 else if c || e then 11 else if f || d then 12 else 99 := by
  cases a <;> cases b <;> cases c <;> cases d <;> cases e <;> cases f <;> rfl
theorem dupL_app {own par f : Nm} : ∀ {fs prev : List Nm}, dupL own par prev (fs ++ [f]) = (dupL own par prev fs || (decide (f = own ∨ f = par) || decide (f ∈ prev ++ fs)))
  | [], prev => by simp [dupL]
  | g :: fs, prev => by
    show ((decide (g = own ∨ g = par) || decide (g ∈ prev)) || dupL own par (prev ++ [g]) (fs ++ [f])) = ((decide (g = own ∨ g = par) || decide (g ∈ prev)) || dupL own par (prev ++ [g]) fs || _)
    rw [dupL_app]
    simp [Bool.or_assoc, List.append_assoc]
set_option maxRecDepth 4000 in
theorem ct_classFaces {G : List Sl} {A : List Nm} {W : List Cls} {w : Nat} {br bits : Int32} {L : List Tok} {own par : Nm} {l4 : Nat} {Q X : Mem → Prop} {M0 : Mem} (hG : Ga G) (hs : sFr ∈ G) (hz : lz L) (hLl : L.length ≤ 5000) (ho : own ∈ A) (hp : par ∈ A) (hl4 : l4 < 1000) :
    ∀ d fs t M, t.length < d → fs.length + t.length ≤ 5001 → t ≠ [] → B1 G A W w br L t (lst l4 11 (dupL own par [] fs)) fs M0 M →
      (∀ fs' t' M', pFaces d fs t = .inr (fs', t') → B1 G A W w br L t' (lst l4 11 (dupL own par [] fs')) fs' M0 M' → t' ≠ [] → fs'.length ≤ 5001 → w_Model_classLine_j377 0 Q X bits (nc A own) (nc A par) (Int32.ofNat fs'.length) (b2 (decide (4 < fs'.length))) 12 M') →
      (∀ fs' t' M', (hd t').1 ≠ 0 → pFaces d fs t = .inl (er t') → B1 G A W w br L t' (lst l4 11 (dupL own par [] fs')) fs' M0 M' → t' ≠ [] → fs'.length ≤ 5001 → w_Model_classLine_j377 0 Q X bits (nc A own) (nc A par) (Int32.ofNat fs'.length) (b2 (decide (4 < fs'.length))) 12 M') →
      (∀ e M', pFaces d fs t = .inl e → ThT e M' → Cx1 A W w br M' → GF G [sFr] M0 M' → LoT w W.length M0 M' → rl M' sFr ≤ 20000 → X M') →
      w_Model_classLine_L240 0 Q X d bits (nc A own) (nc A par) (Int32.ofNat fs.length) M := by
  intro d
  induction d with
  | zero => intro fs t M h; omega
  | succ d ih =>
    intro fs t M hlt hlen hne hB hQ hE hX
    obtain ⟨k, k1, k2, ⟨k3, k4, k5⟩, k6, k7, -⟩ := hB.1.1.top hne
    have hfl : fs.length ≤ 5001 := by omega
    unfold w_Model_classLine_L240
    rw [k2, k3, oN_tnc (by omega), k6.1]
    refine ⟨(vp_oN (by omega)).mpr k1, ?_⟩
    by_cases c44 : (hd t).1 = 44
    · refine itp (by rw [c44]; rfl) ?_
      rw [← k2]
      have hexp : pFaces (d + 1) fs t = match pCls t.tail with
          | .inl e => .inl e
          | .inr (nm, t2) => pFaces d (fs ++ [nm]) t2 := by
        conv => lhs; unfold pFaces
        rw [if_neg (by omega)]
        unfold pSign
        rw [if_pos c44]
        all_goals (try dsimp only)
        all_goals (cases pCls t.tail <;> rfl)
      rw [hexp] at hQ hE hX
      have hne1 : t.tail ≠ [] := tl_ne hB.1.1 hz hne (by omega)
      have hB1 := hB.s11 (k := 43) (v := mI M 11 0 43 + 1) hG (hB.1.1.next hne) hB.1.2.2.1
      refine mf_w_Model_className (Q := fun v M' => ∃ nm t2, pCls t.tail = .inr (nm, t2) ∧ nm ∈ A ∧ TQ A L t2 M' ∧ v = nc A nm) (X := fun M' => ∃ e, pCls t.tail = .inl e ∧ ThT e M') (fun v M2 hf hp2 => ?_) (fun M2 hf hp2 => ?_) (ct_className hB1.1.1 hne1 (fun nm t2 M' a b c => ⟨nm, t2, a, b, c, rfl⟩) (fun e M' a b => ⟨e, a, b⟩))
      · obtain ⟨nm, t2, q1, q2, q3, q4⟩ := hp2
        subst q4
        rw [q1] at hQ hE hX
        have hB2 := hB1.step hG hs hf q3
        have et := pCls_tail q1
        have hhd : (hd t.tail).1 = 2 := by
          unfold pCls at q1; split at q1
          · rename_i x; exact x.1
          · cases q1
        have hne2 : t2 ≠ [] := by rw [et]; exact tl_ne hB1.1.1 hz hne1 (by omega)
        have hl1 := tail_lt hne
        have hl2 := tail_lt hne1
        rw [← et] at hl2
        have hAl := hB2.1.1.1.2.2.1
        -- behind the question of own and parent
        have j291 : ∀ b : Bool, b = decide (nm = own ∨ nm = par) → w_Model_classLine_j291 0 Q X (w_Model_classLine_L240 0 Q X d) bits (nc A own) (nc A par) (Int32.ofNat fs.length) (nc A nm) (b2 b) 11 M2 := by
          intro b hb
          unfold w_Model_classLine_j291
          refine hB2.asks (rule := 11) hG (lst_le hl4 (by omega)) (by omega) (fun M3 hB3 => ⟨fs.length + 1, ?_⟩)
          have loop : ∀ e j M4, fs.length - j < e → j ≤ fs.length → B1 G A W w br L t2 (lst (lst (lst l4 11 (dupL own par [] fs)) 11 b) 11 (decide (nm ∈ fs.take j))) fs M0 M4 → w_Model_classLine_L297 0 Q X (w_Model_classLine_L240 0 Q X d) e bits (nc A own) (nc A par) (Int32.ofNat fs.length) (nc A nm) (Int32.ofNat j) M4 := by
            intro e
            induction e with
            | zero => intro j M4 h; omega
            | succ e ihe =>
              intro j M4 he hj hB4
              obtain ⟨r1, r2, r3, r4⟩ := hB4.1.2.2.2.2
              unfold w_Model_classLine_L297
              by_cases ej : j = fs.length
              · refine itp (le_oN (by omega) (by omega)) ⟨_, (hB4.1.2.2.2.1.1 sFr hs).1.1, ?_⟩
                rw [lit32 1, oN_add]
                refine mf_w_Model_room (fun i M5 hf5 hp5 => ?_) (c_room (s := sFr) (X := [sFr]) (Q := fun i M' => Gr1 G [sFr] sFr (fs.length + 1) M4 (sR M' 11 0 57 (some (300, i)))) hG.1 (fun s hs => (hG.ob s hs).1) hB4.1.2.2.2.1.1 hs (by simp) rfl (by omega) (by omega) (fun i M' h => h))
                have hq5 : TQ A L t2 (sR M5 11 0 57 (some (300, i))) := (hB4.1.1.fr hf5).of (fun _ _ => rfl) (fun _ => rfl) (fun _ => rfl) (fun _ => rfl) rfl rfl rfl
                have hc5 : Cx1 A W w br (sR M5 11 0 57 (some (300, i))) := by
                  have := hB4.1.2.1.fr hf5
                  exact ⟨this.1, this.2.1, this.2.2⟩
                have h51 : mI (sR M5 11 0 57 (some (300, i))) 11 0 51 = _ := (hf5.I (f := 11) (k := 51) rfl 0).trans hB4.1.2.2.1
                have hlo0 : LoT w W.length M0 M5 := hB4.2.fr hf5
                have hlo : LoT w W.length M0 (sR M5 11 0 57 (some (300, i))) := hlo0
                obtain ⟨p1, p2, p3, p4, p5⟩ := hp5
                generalize sR M5 11 0 57 (some (300, i)) = M6 at hq5 hc5 h51 p1 p2 p3 p4 p5 hlo ⊢
                have hb6 : rl M6 sFr ≤ 20000 := by
                  by_cases c : fs.length + 1 ≤ rl M4 sFr
                  · rw [(p4 c).1]; exact r2
                  · rw [(p5 (by omega)).1]; omega
                refine ⟨_, (p1.1 sFr hs).1.1, (vp_oN (by omega)).mpr (show _ < rl M6 sFr by omega), ?_⟩
                rw [oN_tnc (by omega)]
                have g7 : GF G [sFr] M0 (sI M6 300 (rdI M6 sFr) fs.length (nc A nm)) := (hB4.1.2.2.2.1.trans p1).wr (s := sFr) hs (by simp) rfl
                have hlen' : (fs ++ [nm]).length = fs.length + 1 := by simp
                have := ih (fs ++ [nm]) t2 (sI M6 300 (rdI M6 sFr) fs.length (nc A nm)) (by omega) (by rw [hlen']; omega) hne2 ⟨⟨hq5.of (fun _ _ => rfl) (fun _ => rfl) (fun _ => rfl) (fun _ => rfl) rfl rfl rfl, ⟨hc5.1.of rfl (fun f a b k => by rw [mI_sI, if_neg (fun q => by omega)]) (fun f a b => rfl), hc5.2.1, hc5.2.2⟩, ?_, g7, ?_, hb6, ?_, fun k hk => ?_⟩, hlo.wo⟩ hQ hE hX
                · rw [hlen'] at this; exact this
                · refine h51.trans ?_
                  rw [lst_or, lst_or, dupL_app, hb, ej, List.take_length, List.nil_append]
                  all_goals simp only [Bool.or_assoc]
                · rw [hlen']; exact p2
                · intro x hx
                  rcases List.mem_append.mp hx with q | q
                  · exact r3 x q
                  · simp at q; rw [q]; exact q2
                · rw [hlen'] at hk
                  have := rd_wr (M := M6) (s := sFr) (k := fs.length) (k' := k) (v := nc A nm)
                  refine this.trans ?_
                  by_cases c : k = fs.length
                  · rw [if_pos c, c]; simp [gnm, List.getD_eq_getElem?_getD]
                  · rw [if_neg c, p3 k (by omega), r4 k (by omega)]
                    simp [gnm, List.getD_eq_getElem?_getD, List.getElem?_append_left (show k < fs.length by omega)]
              · refine itn (nle_oN (by omega) (by omega)) ⟨_, (hB4.1.2.2.2.1.1 sFr hs).1.1, ?_⟩
                rw [oN_tnc (by omega)]
                refine ⟨(vp_oN (by omega)).mpr (show _ < rl M4 sFr by omega), ?_⟩
                have e4 : mI M4 300 (rdI M4 sFr) j = nc A (gnm fs j) := r4 j (by omega)
                rw [e4]
                have hmem : gnm fs j ∈ fs := by simp [gnm, List.getD_eq_getElem?_getD, List.getElem?_eq_getElem (show j < fs.length by omega)]
                have htk : fs.take (j + 1) = fs.take j ++ [gnm fs j] := by
                  rw [List.take_add_one, List.getElem?_eq_getElem (show j < fs.length by omega)]
                  simp [gnm, List.getD_eq_getElem?_getD, List.getElem?_eq_getElem (show j < fs.length by omega)]
                have j324 : ∀ c : Bool, c = decide (gnm fs j = nm) → w_Model_classLine_j324 0 Q X (w_Model_classLine_L240 0 Q X d) (w_Model_classLine_L297 0 Q X (w_Model_classLine_L240 0 Q X d) e) bits (nc A own) (nc A par) (Int32.ofNat fs.length) (nc A nm) (Int32.ofNat j) (b2 c) 11 M4 := by
                  intro c hc
                  unfold w_Model_classLine_j324
                  refine hB4.asks (rule := 11) hG (lst_le (lst_le (lst_le hl4 (by omega)) (by omega)) (by omega)) (by omega) (fun M5 hB5 => ?_)
                  rw [lit32 1, oN_add]
                  refine ihe (j + 1) M5 (by omega) (by omega) ?_
                  rw [lst_or] at hB5
                  rw [htk]
                  have : (decide (nm ∈ fs.take j) || c) = decide (nm ∈ fs.take j ++ [gnm fs j]) := by
                    rw [hc]; simp [List.mem_append, eq_comm]
                  rw [this] at hB5
                  exact hB5
                by_cases c : gnm fs j = nm
                · exact itp (by rw [c]) (j324 true (decide_eq_true c).symm)
                · exact itn (fun q => c ((nc_inj (by omega) (r3 _ hmem) q2).mp q)) (j324 false (decide_eq_false c).symm)
          refine loop _ 0 M3 (by omega) (by omega) ?_
          have : lst (lst (lst l4 11 (dupL own par [] fs)) 11 b) 11 (decide (nm ∈ fs.take 0)) = lst (lst l4 11 (dupL own par [] fs)) 11 b := by simp [lst]
          rw [this]; exact hB3
        by_cases c1 : nm = own
        · refine itp (by rw [c1]) ?_
          unfold w_Model_classLine_j286
          exact j291 true (decide_eq_true (Or.inl c1)).symm
        · refine itn (fun q => c1 ((nc_inj (by omega) q2 ho).mp q)) ?_
          by_cases c2 : nm = par
          · refine itp (by rw [c2]) ?_
            unfold w_Model_classLine_j286
            exact j291 true (decide_eq_true (Or.inr c2)).symm
          · exact itn (fun q => c2 ((nc_inj (by omega) q2 hp).mp q)) (j291 false (decide_eq_false (by rintro (q | q); exact c1 q; exact c2 q)).symm)
      · obtain ⟨e, q1, q2⟩ := hp2
        rw [q1] at hX
        have hB2 := hB1.1.2.1.fr hf
        exact hX e M2 rfl q2 hB2 (hB1.1.2.2.2.1.fr hf hG) (hB1.2.fr hf) (hB1.rw hf hG hs)
    · refine itn (ne_oN (b := 44) c44 (by omega) (by omega)) ?_
      have fin : w_Model_classLine_j377 0 Q X bits (nc A own) (nc A par) (Int32.ofNat fs.length) (b2 (decide (4 < fs.length))) 12 M := by
        by_cases c0 : (hd t).1 = 0
        · exact hQ fs t M (by unfold pFaces; rw [if_pos c0]) hB hne hfl
        · refine hE fs t M c0 ?_ hB hne hfl
          unfold pFaces; rw [if_neg c0]
          unfold pSign; rw [if_neg c44]
      by_cases c4 : fs.length ≤ 4
      · refine itp (le_oN (b := 4) c4 (by omega)) ?_
        rw [decide_eq_false (by omega)] at fin; exact fin
      · refine itn (nle_oN (b := 4) (by omega) (by omega)) ?_
        rw [decide_eq_true (by omega)] at fin; exact fin
theorem pFaces_end : ∀ {d : Nat} {fs fs' : List Nm} {t t' : List Tok}, pFaces d fs t = .inr (fs', t') → (hd t').1 = 0
  | 0, fs, fs', t, t', h => by unfold pFaces at h; cases h
  | d + 1, fs, fs', t, t', h => by
    unfold pFaces at h
    split at h
    · rename_i c
      have := (Prod.mk.inj (Sum.inr.inj h)).2
      rw [← this]; exact c
    · split at h
      · cases h
      · split at h
        · cases h
        · exact pFaces_end h

