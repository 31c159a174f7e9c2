/-! B: finding in the works' machine -/
/-- codes of linking are small -/
def cdOk (r : Int32) : Prop := ∃ n, n < 10000 ∧ (n ≤ 1 ∨ (11 ≤ n % 100 ∧ n % 100 ≤ 20)) ∧ r = Int32.ofNat n
def LB (s : LkS) : Prop := ∀ c, cdOk (s.1 c)
theorem chkC_le {W : List Cls} {c : Nat} : ∀ {L : List Mth} {k j r a : Nat}, chkC W c k L = some (j, r, a) → r ≤ 60
  | [], _, _, _, _, h => by cases h
  | x :: xs, k, j, r, a, h => by
    unfold chkC at h
    split at h
    · exact chkC_le h
    · cases h; exact chkM_le
theorem lkEnd_lb {br : Int32} {W : List Cls} {c : Nat} {s : LkS} (h : LB s) : cdOk (lkEnd br W c s).1 ∧ LB (lkEnd br W c s).2 := by
  unfold lkEnd
  split
  · exact ⟨⟨2515, by omega, Or.inr (by decide), rfl⟩, h⟩
  split
  · exact ⟨⟨1, by omega, Or.inl (by omega), rfl⟩, h⟩
  · rename_i j r a e
    have := chkC_le e
    refine ⟨⟨100 * r + 17, by omega, Or.inr (by omega), ?_⟩, h⟩
    show 100 * Int32.ofNat r + 17 = _
    rw [lit32 100, oN_mul, lit32 17, oN_add]
theorem badF_lb {W : List Cls} : ∀ {L : List Nm} {r : Int32}, badF W L = some r → cdOk r
  | [], _, h => by cases h
  | f :: L, r, h => by
    unfold badF at h
    split at h
    · cases h; exact ⟨2211, by omega, Or.inr (by decide), rfl⟩
    · split at h
      · exact badF_lb h
      · cases h; exact ⟨2315, by omega, Or.inr (by decide), rfl⟩
theorem lkFs_lb {K : LkS → Nat → Int32 × LkS} {W : List Cls} (hK : ∀ s d, LB s → cdOk (K s d).1 ∧ LB (K s d).2) : ∀ (L : List Nm) (s : LkS), LB s → (∀ r, (lkFs K W L s).1 = some r → cdOk r) ∧ LB (lkFs K W L s).2
  | [], s, h => ⟨fun r z => (by cases z), h⟩
  | f :: L, s, h => by
    unfold lkFs
    split
    · exact ⟨fun r z => by cases z; exact ⟨0, by omega, Or.inl (by omega), rfl⟩, h⟩
    · rename_i d _
      split
      · exact lkFs_lb hK L _ (hK s d h).2
      · exact ⟨fun r z => by cases z; exact (hK s d h).1, (hK s d h).2⟩
theorem askF_lb {br : Int32} {W : List Cls} {K : LkS → Nat → Int32 × LkS} (hK : ∀ s d, LB s → cdOk (K s d).1 ∧ LB (K s d).2) (s : LkS) (c : Nat) (h : LB s) : cdOk (askF br W K s c).1 ∧ LB (askF br W K s c).2 := by
  unfold askF
  split
  · exact ⟨⟨2416, by omega, Or.inr (by decide), rfl⟩, h⟩
  split
  · exact ⟨⟨2011, by omega, Or.inr (by decide), rfl⟩, h⟩
  split
  · exact ⟨⟨2115, by omega, Or.inr (by decide), rfl⟩, h⟩
  split
  · rename_i e
    exact ⟨badF_lb e, h⟩
  rename_i p _ _ _ _
  split
  · have hf := lkFs_lb hK (W := W) (gc W c).2.2.1 _ (hK s p h).2
    split
    · rename_i e
      rw [e] at hf
      exact ⟨hf.1 _ rfl, hf.2⟩
    · rename_i e
      rw [e] at hf
      exact lkEnd_lb hf.2
  · exact hK s p h
theorem lkN_lb {br : Int32} {W : List Cls} : ∀ n s c, LB s → cdOk (lkN br W n s c).1 ∧ LB (lkN br W n s c).2
  | 0, s, c, h => ⟨⟨0, by omega, Or.inl (by omega), rfl⟩, h⟩
  | n + 1, s, c, h => by
    unfold lkN
    by_cases e : s.1 c = 0
    · rw [if_pos e]
      obtain ⟨a, b⟩ := askF_lb (br := br) (W := W) (lkN_lb n) s c h
      refine ⟨a, fun d => ?_⟩
      show cdOk (LSm _ c _ d)
      unfold LSm
      split
      · exact a
      · exact b d
    · rw [if_neg e]; exact ⟨h c, h⟩
theorem cdOk.neg {r : Int32} (h : cdOk r) (h0 : r ≠ 0) : -r < 0 ∧ ¬ 0 ≤ -r := by
  obtain ⟨n, hn, -, e⟩ := h
  have h0 : n ≠ 0 := fun z => h0 (by rw [e, z]; rfl)
  have e1 : (Int32.ofNat n).toInt = n := oN_toInt (by omega)
  have e2 : (-r).toInt = -(n : Int) := by
    rw [e, Int32.toInt_neg, e1]
    simp only [Int.bmod]; omega
  have z0 : (0 : Int32).toInt = 0 := rfl
  rw [Int32.lt_iff_toInt_lt, Int32.le_iff_toInt_le, e2, z0]
  omega
/-- what is thrown is below 0 -/
def rcC : Int32 ⊕ Nat → Int32
  | .inl e => -e
  | .inr c => Int32.ofNat c
def rcF (W : List Cls) : Int32 ⊕ (Nat × Nat) → Int32
  | .inl e => -e
  | .inr r => Int32.ofNat (foff W r.1 + r.2)
def rcM (W : List Cls) : Int32 ⊕ (Nat × Nat) → Int32
  | .inl e => -e
  | .inr r => Int32.ofNat (moff W r.1 + r.2)
def thOk {α : Type} : Int32 ⊕ α → Prop
  | .inl e => cdOk e ∧ e ≠ 0 ∧ e ≠ 1
  | .inr _ => True
theorem lkd_ok {br : Int32} {W : List Cls} {s : LkS} {k : Nm} (h : LB s) (h51 : W.length ≤ 51) : thOk (lkd br W s k).1 ∧ LB (lkd br W s k).2 := by
  unfold lkd
  split
  · exact ⟨⟨⟨5011, by omega, Or.inr (by decide), rfl⟩, by decide, by decide⟩, h⟩
  · rename_i c e
    have hc := fnd_lt e
    obtain ⟨a, b⟩ := lkN_lb (br := br) (W := W) 60 s c h
    split
    · exact ⟨trivial, b⟩
    · rename_i q
      exact ⟨⟨a, lkN_ne0 60 s c hc (by have := rk_le (W := W) (c := c); omega), q⟩, b⟩
theorem lkd_in {br : Int32} {W : List Cls} {s : LkS} {k : Nm} {c : Nat} {s' : LkS} (h : lkd br W s k = (.inr c, s')) : fnd W k = some c ∧ s' = (lkN br W 60 s c).2 ∧ s'.1 c = 1 := by
  unfold lkd at h
  split at h
  · cases h
  · rename_i d e
    split at h
    · rename_i q
      cases h
      exact ⟨e, rfl, (lkN_own (n := 59)).trans q⟩
    · cases h
theorem thr_eq (f r : Nat) : ((-100 : Int32) * Int32.ofNat r) - Int32.ofNat f = -(Int32.ofNat (100 * r + f)) := by
  rw [← oN_add, ← oN_mul, Int32.neg_add, ← Int32.neg_mul]
  rfl
section
variable {A : List Nm} {W : List Cls} {w c p r : Nat} {br : Int32} {nq nk np nh nr : Nat} {M M' : Mem} {Q : Int32 → Mem → Prop} {k : Nm} {x : Mth} {s : LkS}
theorem c_thrown {f ru : Nat} (hQ : Q (-(Int32.ofNat (100 * ru + f))) M) : w_Machine_thrown w (Int32.ofNat f) (Int32.ofNat ru) Q M := by
  unfold w_Machine_thrown
  rw [thr_eq]; exact hQ
theorem c_findClass (h : cNm A W w M) (h51 : W.length ≤ 51) (hk : k ∈ A) (hQ : Q (rcC (match fnd W k with | none => .inl 5011 | some c => .inr c)) M) : w_Machine_findClass w (nc A k) Q M := by
  unfold w_Machine_findClass
  refine c_find h hk ?_
  cases e : fnd W k with
  | none =>
    rw [e] at hQ
    exact itn (by decide) (c_thrown (f := 11) (ru := 50) hQ)
  | some d =>
    rw [e] at hQ
    have := fnd_lt e
    exact itp (oN_zero_le (by omega)) hQ
theorem cSt.fr {S : Nat} (h : cSt w M) (hf : Fr S M M') (h1 : S.testBit (cd 5 61) = false := by rfl) (h2 : S.testBit 77 = false := by rfl) (h3 : S.testBit 5077 = false := by rfl) (h4 : S.testBit 5078 = false := by rfl) : cSt w M' :=
  ⟨⟨(hf.L (f := 77) h3 w).trans h.1.1, (hf.L (f := 78) h4 w).trans h.1.2⟩, fun i hi => by rw [hf.Ia (f := 77) rfl h2, hf.I (f := 5) (k := 61) h1]; exact h.2 i hi⟩
theorem c_linkedClass (h : LKw A W w br nq nk np nh nr s M) (hS : cSt w M) (hA : nA A) (hK : KB w nq nk np nh nr) (hWF : WF W) (hI : LInv W s.1) (hB : LB s) (hk : k ∈ A) (hQ : ∀ M', LKw A W w br nq nk np nh nr (lkd br W s k).2 M' → cSt w M' → LInv W (lkd br W s k).2.1 → Lo w bL M M' → Q (rcC (lkd br W s k).1) M') : w_Machine_linkedClass w (nc A k) Q M := by
  have h51 : W.length ≤ 51 := h.1.1.1.1.1.2.2.1
  unfold w_Machine_linkedClass
  refine c_findClass h.1.1.1.1 h51 hk ?_
  unfold lkd at hQ
  cases e : fnd W k with
  | none =>
    rw [e] at hQ
    exact itn (by decide) (hQ M h hS hI (Lo.rf _ _ _))
  | some d =>
    rw [e] at hQ
    have hd := fnd_lt e
    refine itp (oN_zero_le (by omega)) (c_link hA hK hWF h hI hd (fun M1 a b lo fr => ?_))
    have s1 := hS.fr fr
    dsimp only at hQ
    by_cases c1 : (lkN br W 60 s d).1 = 1
    · rw [if_pos c1] at hQ
      exact itp c1 (hQ M1 a s1 b lo)
    · rw [if_neg c1] at hQ
      exact itn c1 (hQ M1 a s1 b lo)
theorem c_classOfField {f : Nat} (h : CWx A W w br nq nk np nh nr M) (hc : c < W.length) (hf : f < (gc W c).2.2.2.2.1.length) (hQ : Q (Int32.ofNat c) M) : w_World_classOfField w (Int32.ofNat (foff W c + f)) Q M := by
  have h51 : W.length ≤ 51 := h.1.1.1.1.2.2.1
  have hfl := h.1.2.1
  have h21 : 21 ≤ c := Classical.byContradiction (fun z => by
    rw [(hfl.2.1 c hc).2.2 (by omega)] at hf; exact absurd hf (by simp))
  have hfs := foff_succ (W := W) (n := c) hc
  have hfo := foff_le (fun c hc => (hfl.2.1 c hc).2) (c + 1) hc
  have loop : ∀ n d, c - d < n → 21 ≤ d → d ≤ c → w_World_classOfField_L3 w Q n (Int32.ofNat (foff W c + f)) (Int32.ofNat d) M := by
    intro n
    induction n with
    | zero => intro d hn; exact absurd hn (by omega)
    | succ n ih =>
      intro d hn h1 hd
      obtain ⟨⟨e41, e42⟩, -⟩ := hfl.2.1 d (by omega)
      have hm := foff_mono (W := W) hd (by omega)
      unfold w_World_classOfField_L3 w_World_classOfField_j30
      rw [oN_tnc (k := d) (by omega), e41, e42, hfl.1.2.2.1, hfl.1.2.2.2, oN_add]
      refine ⟨(vp_oN (by omega)).mpr (by omega), itn (nlt_oN (by omega) (by omega)) ⟨(vp_oN (by omega)).mpr (by omega), (vp_oN (by omega)).mpr (by omega), ?_⟩⟩
      by_cases e : d = c
      · subst e
        exact itp (lt_oN (by omega) (by omega)) hQ
      · have h2 := foff_mono (W := W) (show d + 1 ≤ c by omega) (by omega)
        have h3 := foff_succ (W := W) (n := d) (by omega)
        refine itn (nlt_oN (by omega) (by omega)) ?_
        rw [show Int32.ofNat d + (1 : Int32) = Int32.ofNat (d + 1) from oN_add d 1]
        exact ih (d + 1) (by omega) (by omega) (by omega)
  unfold w_World_classOfField
  exact ⟨c - 21 + 1, loop _ 21 (by omega) (Nat.le_refl _) h21⟩
/-- a field that an instruction names, in the works -/
theorem c_findField {mc mj : Nat} {fx pt : Bool} (h : LKw A W w br nq nk np nh nr s M) (hS : cSt w M) (hA : nA A) (hK : KB w nq nk np nh nr) (hWF : WF W) (hC : WC W) (hI : LInv W s.1) (hB : LB s) (hR : RfX A w r k x M) (hr : r < nr) (hmc : mc < W.length) (hmj : mj < (gc W mc).2.2.2.2.2.length) (hQ : ∀ M', LKw A W w br nq nk np nh nr (fFld br W s k x.1 x.2.2.1 fx pt mc (gmt (gc W mc) mj).1).2 M' → cSt w M' → LInv W (fFld br W s k x.1 x.2.2.1 fx pt mc (gmt (gc W mc) mj).1).2.1 → Lo w bL M M' → Q (rcF W (fFld br W s k x.1 x.2.2.1 fx pt mc (gmt (gc W mc) mj).1).1) M') : w_Machine_findField w (Int32.ofNat r) (b2 fx) (b2 pt) (Int32.ofNat (moff W mc + mj)) Q M := by
  have h51 : W.length ≤ 51 := h.1.1.1.1.1.2.2.1
  have hL := L_le w
  have hK' := hK
  unfold KB at hK'
  unfold w_Machine_findField
  refine k_refClass hR (c_linkedClass h hS hA hK hWF hI hB hR.1.1.2 (fun M1 a1 s1 i1 lo1 => ?_))
  unfold fFld at hQ
  have hok := lkd_ok (br := br) (k := k) hB h51
  cases el : lkd br W s k with
  | mk o s' =>
    rw [el] at a1 i1 hQ hok
    cases o with
    | inl e =>
      exact itn (hok.1.1.neg hok.1.2.1).2 (hQ M1 a1 s1 i1 lo1)
    | inr c =>
      dsimp only at hQ
      obtain ⟨hf, -, hl⟩ := lkd_in el
      have hc := fnd_lt hf
      have hR1 := hR.lw lo1 (by rw [bL_big (by omega)]; omega) (by rw [bL_big (by omega)]; omega)
      refine itp (oN_zero_le (by omega)) (k_refName hR1 (k_refType hR1 (c_fieldW a1.1 s1 hK hA.1 i1 hC hR.1.2.1.2 ⟨hR.2.1.2.2, hR.1.2.2.1.2⟩ hc hl (fun M2 s2 sp2 => ?_))))
      have a2 := a1.sp sp2 hK
      have lo2 := lo1.trans (sp2.lo bL)
      cases ef : fldW W x.1 x.2.2.1 c with
      | none =>
        rw [ef] at hQ
        exact itn (show ¬ (0 : Int32) ≤ -2 by decide) (c_thrown (f := 12) (ru := 51) (hQ M2 a2 s2 i1 lo2))
      | some q =>
        rw [ef] at hQ
        dsimp only at hQ
        have hq : q.1 < W.length ∧ q.2 < (gc W q.1).2.2.2.2.1.length := by
          have : ∀ n u v, (∀ d, u = some d → d < W.length) → fdU W x.1 x.2.2.1 n u v = some q → q.1 < W.length ∧ q.2 < (gc W q.1).2.2.2.2.1.length := by
            intro n
            induction n with
            | zero => intro u v _ z; cases z
            | succ n ih =>
              intro u v hu z
              cases u with
              | none => cases z
              | some d =>
                have hlt := fbN_lt (W := W) (nm := x.1) (κ := x.2.2.1) 60 d v
                unfold fdU at z
                split at z
                · rename_i q' _ e'
                  cases z
                  rw [e'] at hlt
                  have := hlt q (hu d rfl) rfl
                  exact ⟨this.1, this.2.1⟩
                · exact ih _ _ (fun e' he' => up_lt (hu d rfl) he') z
          exact this 52 (some c) [] (fun d z => by cases z; exact hc) ef
        have hfl := a2.1.1.2.1
        have hfs := foff_succ (W := W) (n := q.1) hq.1
        have hfo := foff_le (fun c hc => (hfl.2.1 c hc).2) (q.1 + 1) hq.1
        obtain ⟨g1, g2⟩ := gF1_at hq.1 hq.2
        have e51 := (hfl.2.2 (foff W q.1 + q.2) g1).2.2.1
        rw [g2] at e51
        obtain ⟨m1, m2, m3, m4, -⟩ := a2.1.mo (e := 0) hmc
        have hH := (a2.1.2.1.2.2 mc hmc mj hmj).1
        have f381 := a2.1.2.1.1.2.1
        refine itp (oN_zero_le (by omega)) (c_classOfField a2.1 hq.1 hq.2 ?_)
        show vp_in (Int32.ofNat (foff W q.1 + q.2)) (mL M2 51 w) ∧ _
        rw [show (oF W (some q)).toNatClampNeg = foff W q.1 + q.2 from oN_tnc (by omega), e51, hfl.1.2.1.2.2.1]
        refine ⟨(vp_oN (by omega)).mpr (by omega), ?_⟩
        generalize hg : gfl (gc W q.1) q.2 = fl at *
        have fin : ∀ y, fFld2 br W fx pt mc (gmt (gc W mc) mj).1 q = y → Q (rcF W y) M2 := fun y hy => by
          have := hQ M2 a2 s2 i1 lo2
          rw [hy] at this; exact this
        unfold fFld2 at fin
        rw [hg] at fin
        have go2 : ∀ s0 : Int32, (s0 = 0 ∧ ¬ (q.1 = mc ∧ (gmt (gc W mc) mj).1 = if fx then nStart else nMake) ∨ s0 = 1 ∧ (q.1 = mc ∧ (gmt (gc W mc) mj).1 = if fx then nStart else nMake)) → ¬ (¬ fl.2.2.1 &&& 4 = 0 ∧ q.1 ≠ mc ∧ brk br 5 = true) → ¬ (decide (¬ fl.2.2.1 &&& 1 = 0) ≠ fx ∨ (fx = false ∧ isFc W q.1 = true)) → w_Machine_findField_j214 w Q (b2 pt) (oF W (some q)) fl.2.2.1 s0 M2 := fun s0 hs0 n1 n2 => by
          unfold w_Machine_findField_j214
          have stop : ¬ (pt = true ∧ ¬ fl.2.2.1 &&& 2 = 0 ∧ ¬ (q.1 = mc ∧ (gmt (gc W mc) mj).1 = if fx then nStart else nMake) ∧ brk br 6 = true) → Q (oF W (some q)) M2 := fun z => fin (.inr q) (by rw [if_neg n1, if_neg n2, if_neg z])
          cases pt with
          | false => exact itp rfl (stop (fun z => by cases z.1))
          | true =>
            refine itn (by decide) ?_
            by_cases c2 : fl.2.2.1 &&& 2 = 0
            · exact itp c2 (stop (fun z => z.2.1 c2))
            · refine itn c2 ?_
              rcases hs0 with ⟨e0, hn⟩ | ⟨e0, hn⟩
              · refine itp e0 ?_
                refine c_asks (rule := 54) (bit := 6) (by decide) ?_
                rw [a2.1.1.2.2]
                cases eb : brk br 6 with
                | false => exact itp rfl (stop (fun z => by rw [eb] at z; cases z.2.2.2))
                | true => exact itn (by decide) (c_thrown (f := 14) (ru := 54) (fin (.inl 5414) (by rw [if_neg n1, if_neg n2, if_pos ⟨rfl, c2, hn, eb⟩])))
              · rw [e0]
                exact itn (by decide) (stop (fun z => z.2.2.1 hn))
        have go1 : ¬ (¬ fl.2.2.1 &&& 4 = 0 ∧ q.1 ≠ mc ∧ brk br 5 = true) → w_Machine_findField_j129 w Q (b2 fx) (b2 pt) (Int32.ofNat (moff W mc + mj)) (oF W (some q)) (Int32.ofNat q.1) fl.2.2.1 M2 := fun n1 => by
          have j170 : ¬ (decide (¬ fl.2.2.1 &&& 1 = 0) ≠ fx ∨ (fx = false ∧ isFc W q.1 = true)) → w_Machine_findField_j170 w Q (b2 fx) (b2 pt) (Int32.ofNat (moff W mc + mj)) (oF W (some q)) (Int32.ofNat q.1) fl.2.2.1 M2 := fun n2 => by
            unfold w_Machine_findField_j170 w_Machine_findField_j213 w_Machine_findField_j206 w_Machine_findField_j213
            rw [oN_tnc (by omega), hH.1, f381 55 (by omega) (by omega), f381 56 (by omega) (by omega), hH.2.1.1]
            refine ⟨(vp_oN (by omega)).mpr (by omega), ?_⟩
            by_cases c1 : q.1 = mc
            · refine itp (by rw [c1]) ⟨(vp_oN (by omega)).mpr (by omega), ?_⟩
              have nm : ∀ (v : Nat) (y : Nm), A0[v]? = some y → ((nc A (gmt (gc W mc) mj).1 = Int32.ofNat v) ↔ (gmt (gc W mc) mj).1 = y) := fun v y hv => by
                rw [← (hA.2 v y hv).1]
                exact nc_inj (by have := hA.1; omega) hH.2.1.2 (hA.2 v y hv).2
              cases fx with
              | false =>
                refine itp rfl ?_
                have := nm 79 nMake rfl
                by_cases c2 : (gmt (gc W mc) mj).1 = nMake
                · exact itp (this.mpr c2) (go2 1 (Or.inr ⟨rfl, c1, c2⟩) n1 n2)
                · exact itn (fun z => c2 (this.mp z)) (go2 0 (Or.inl ⟨rfl, fun z => c2 z.2⟩) n1 n2)
              | true =>
                refine itn (by decide) ?_
                have := nm 80 nStart rfl
                by_cases c2 : (gmt (gc W mc) mj).1 = nStart
                · exact itp (this.mpr c2) (go2 1 (Or.inr ⟨rfl, c1, c2⟩) n1 n2)
                · exact itn (fun z => c2 (this.mp z)) (go2 0 (Or.inl ⟨rfl, fun z => c2 z.2⟩) n1 n2)
            · exact itn (ne_oN c1 (by omega) (by omega)) (go2 0 (Or.inl ⟨rfl, fun z => c1 z.1⟩) n1 n2)
          have j141 : ∀ b : Bool, b = decide (¬ fl.2.2.1 &&& 1 = 0) → w_Machine_findField_j141 w Q (b2 fx) (b2 pt) (Int32.ofNat (moff W mc + mj)) (oF W (some q)) (Int32.ofNat q.1) fl.2.2.1 (b2 b) M2 := fun b hb => by
            unfold w_Machine_findField_j141
            have bad : (decide (¬ fl.2.2.1 &&& 1 = 0) ≠ fx ∨ (fx = false ∧ isFc W q.1 = true)) → w_Machine_findField_j161 w Q M2 := fun z => by
              unfold w_Machine_findField_j161
              exact c_thrown (f := 15) (ru := 55) (fin (.inl 5515) (by rw [if_neg n1, if_pos z]))
            by_cases cb : b = fx
            · refine itp (by rw [cb]) ?_
              have hne : ¬ decide (¬ fl.2.2.1 &&& 1 = 0) ≠ fx := fun z => z (hb.symm.trans cb)
              cases hfx : fx with
              | false =>
                refine itp rfl (c_isFace a2.1.1.1 hq.1 ?_)
                subst hfx
                cases ei : isFc W q.1 with
                | false => exact itp rfl (j170 (fun z => z.elim hne (fun z => by rw [ei] at z; cases z.2)))
                | true => exact itn (by decide) (bad (Or.inr ⟨rfl, ei⟩))
              | true =>
                subst hfx
                exact itn (by decide) (j170 (fun z => z.elim hne (fun z => by cases z.1)))
            · refine itn (fun z => cb ?_) (bad (Or.inl (fun z => cb (hb.trans z))))
              cases b <;> cases fx <;> first | rfl | exact absurd z (by decide)
          unfold w_Machine_findField_j129
          by_cases c1 : fl.2.2.1 &&& 1 = 0
          · exact itp c1 (j141 false (by rw [decide_eq_false (fun z => z c1)]))
          · exact itn c1 (j141 true (by rw [decide_eq_true c1]))
        by_cases c4 : fl.2.2.1 &&& 4 = 0
        · exact itp c4 (go1 (fun z => z.1 c4))
        · refine itn c4 ⟨by rw [f381 55 (by omega) (by omega)]; exact (vp_oN (by omega)).mpr (by omega), ?_⟩
          rw [oN_tnc (by omega), hH.1]
          by_cases c1 : q.1 = mc
          · exact itp (by rw [c1]) (go1 (fun z => z.2.1 c1))
          · refine itn (ne_oN c1 (by omega) (by omega)) (c_asks (rule := 53) (bit := 5) (by decide) ?_)
            rw [a2.1.1.2.2]
            cases eb : brk br 5 with
            | false => exact itp rfl (go1 (fun z => by rw [eb] at z; cases z.2.2))
            | true => exact itn (by decide) (c_thrown (f := 14) (ru := 53) (fin (.inl 5314) (by rw [if_pos ⟨c4, c1, eb⟩])))
end
