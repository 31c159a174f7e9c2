/-! KINDS in the works: a method with its frames -/
def ExF (A : List Nm) (x : Mth) (R : Tr) (this : Nat) (M : Mem) : Prop := TbC A x R this M ∧ mI M 4 this 9 = 1 ∧ mI M 4 this 10 = 0 ∧ mI M 4 this 15 = Int32.ofNat (co x).length
abbrev EF (A : List Nm) (x : Mth) (this : Nat) : Tr → Mem → Prop := fun R => ExF A x R this
theorem ExF.ex {A : List Nm} {x : Mth} {R : Tr} {this : Nat} {M : Mem} (h : ExF A x R this M) : EX (ExF A x R this) M := ⟨h, fun _ _ hf h => ⟨h.1.fr hf, (hf.I (f := 4) (k := 9) rfl this).trans h.2.1, (hf.I (f := 4) (k := 10) rfl this).trans h.2.2.1, (hf.I (f := 4) (k := 15) rfl this).trans h.2.2.2⟩⟩
abbrev hdF (W : List Cls) (x : Mth) (a : Nat) : List Kd → Tr → Nat × Tr := fun lo R => (handS W x lo a (hs x), R)
theorem actG_2 {W : List Cls} {c : Nat} {x : Mth} {a : Nat} {lo st : List Kd} {R : Tr} : (actG (hdF W x a) W c x a lo st R).2 = R := by
  unfold actG
  split
  · rfl
  · split <;> rfl
theorem actS_G {W : List Cls} {c : Nat} {x : Mth} {a : Nat} {lo st : List Kd} {R : Tr} : actS W c x (gin (co x) a) a lo st = if (actG (hdF W x a) W c x a lo st R).1 ≠ 0 then .inl (actG (hdF W x a) W c x a lo st R).1 else .inr (loS W c (gin (co x) a) lo st, stS W c x (gin (co x) a) a lo st) := by
  unfold actS actG preI
  by_cases c1 : takenS W c x (gin (co x) a) lo st = 0
  · simp only [c1, ne_eq, not_true_eq_false, if_false]
    by_cases c2 : ownS W c x (gin (co x) a) lo st = 0
    · simp only [c2, not_true_eq_false, if_false]
      by_cases c3 : sr x < (stS W c x (gin (co x) a) a lo st).length
      · simp only [c3, if_true]; rfl
      · simp only [c3, if_false, not_true_eq_false]
        by_cases c4 : isH (gin (co x) a)
        · rw [if_pos c4]
          by_cases c5 : handS W x (loS W c (gin (co x) a) lo st) a (hs x) = 0
          · exact (if_neg (fun z => z.2 c5)).trans (if_neg (fun z => z c5)).symm
          · exact (if_pos ⟨c4, c5⟩).trans (if_pos c5).symm
        · rw [if_neg c4]
          exact (if_neg (fun z => c4 z.1)).trans (if_neg (fun z => z rfl)).symm
    · simp only [c2, not_false_eq_true, if_true]
  · simp only [c1, ne_eq, not_false_eq_true, if_true]
section
variable {A : List Nm} {W : List Cls} {w c k this : Nat} {br : Int32} {nq nk np nh nr a : Nat} {lo st st2 : List Kd} {M M' : Mem} {Q : Int32 → Mem → Prop} {Q' : Mem → Prop} {R : Tr} {Ex : Mem → Prop} {kn : Bool}
theorem HH_F : HHx A W w c k br nq nk np nh nr this (EF A (gmt (gc W c) k) this) a (hdF W (gmt (gc W c) k) a) kn := fun lo st R M Q h hP => by
  have h80 := h.1.wf.2.2.1.1
  have ha := h.2.2.2.2
  exact c_handlers h.1 h.2.1.1.1 h.2.1.2.1.1 h.2.1.2.1.2 h.2.2.1.1.2.2.1 h.2.2.2.1 (by omega) h.n8 (fun z => hP.2 z M h) (fun z => hP.1 z _ h.z)
theorem KAx.nf {Ex2 : Mem → Prop} (h : KAx A W w c k br nq nk np nh nr this Ex a lo st kn M) (hf : Fr (3351951982485649274893506249551461531869841455148098344430890360930441007518386744200468574541725856922507964546621512713438470702986642486608438021324800) M M') (hE : EX Ex2 M') : KAx A W w c k br nq nk np nh nr this Ex2 a lo st kn M' := h.nx (hf.sub rfl) hE
theorem c_keepF (h : KAx A W w c k br nq nk np nh nr this (EF A (gmt (gc W c) k) this R) a lo st kn M) (hQ : ∀ M', KAx A W w c k br nq nk np nh nr this (EF A (gmt (gc W c) k) this (R.set a (some (lo, st)))) a lo st kn M' → Fr (3351951982485649274893506249551461531869841455148098344430890360930441007518386744200468574541725856922507964546621512713438470702986642486608438021324800) M M' → Q' M') : w_Checker_keep this Q' M := by
  have hlr := h.1.lr
  have hsr := h.1.sr
  have h80 := h.1.wf.2.2.1.1
  obtain ⟨⟨t1, ⟨l1, l2, l3⟩, t2⟩, h9, h10, h15⟩ := id h.2.2.1.1
  have hh := h.ht
  have hlo := h.2.1.2.1
  have hst := h.2.1.2.2.1
  have l31 := h.2.1.1.1
  have l32 := h.2.1.1.2
  have h7 := h.2.2.2.1
  have ha := h.2.2.2.2
  have e40 : (40 : Int32) * Int32.ofNat a = Int32.ofNat (40 * a) := oN_mul 40 a
  have e60 : Int32.ofNat (40 * a) + (20 : Int32) = Int32.ofNat (40 * a + 20) := oN_add _ 20
  unfold w_Checker_keep
  rw [h9]
  refine itn (by decide) ?_
  have r1 : ∀ kk, kk < 20 → mI (sI M 510 this a 1) 4 this kk = mI M 4 this kk := fun kk _ => by rw [mI_sI, if_neg (fun z => absurd z.1 (by decide))]
  rw [h7, oN_tnc (k := a) (by omega), show (1 : Int32) &&& 1 = 1 from rfl, r1 7 (by omega), r1 2 (by omega), h7, hh.1, oN_tnc (k := a) (by omega)]
  refine ⟨by rw [l1]; exact (vp_oN (by omega)).mpr (by omega), by show vp_in _ (mL M 33 this); rw [l2]; exact (vp_oN (by omega)).mpr (by omega), _, rfl, by decide, ?_⟩
  have ez : (0 : Int32).toNatClampNeg = 0 := rfl
  have e20 : (20 : Int32).toNatClampNeg = 20 := rfl
  have r7 : mI (sI (sI M 510 this a 1) 33 this a (Int32.ofNat st.length)) 4 this 7 = Int32.ofNat a := by rw [mI_sI, if_neg (fun z => absurd z.1 (by decide)), r1 7 (by omega)]; exact h7
  rw [r7, e40, ez, e20, oN_tnc (k := 40 * a) (by omega)]
  refine ⟨nlt_oN (b := 0) (by omega) (by omega), by decide, by show 0 + 20 ≤ mL M 31 this; rw [l31]; omega, by show 40 * a + 20 ≤ mL M 34 this; rw [l3]; omega, _, rfl, by decide, ?_⟩
  have f5 : Fr (3351951982485649274893506249551461531869841455148098344430890360930441007518386744200468574541725856922507964546621512713438470702986642486608438021324800) M (cpI (sI (sI M 510 this a 1) 33 this a (Int32.ofNat st.length)) 31 this 0 34 this (40 * a) 20) := Fr.wcp rfl rfl (Fr.wIa rfl rfl (Fr.wIa rfl rfl (Fr.rf _ _)))
  have a5 : ∀ q, mI (cpI (sI (sI M 510 this a 1) 33 this a (Int32.ofNat st.length)) 31 this 0 34 this (40 * a) 20) 510 this q = if q = a then 1 else mI M 510 this q := fun q => by
    rw [mI_cpI, if_neg (fun z => absurd z.1 (by decide)), mI_sI, if_neg (fun z => absurd z.1 (by decide)), mI_sI]
    by_cases eq : q = a
    · rw [if_pos ⟨rfl, rfl, eq⟩, if_pos eq]
    · rw [if_neg (fun z => eq z.2.2), if_neg eq]
  have a3 : ∀ q, mI (cpI (sI (sI M 510 this a 1) 33 this a (Int32.ofNat st.length)) 31 this 0 34 this (40 * a) 20) 33 this q = if q = a then Int32.ofNat st.length else mI M 33 this q := fun q => by
    rw [mI_cpI, if_neg (fun z => absurd z.1 (by decide)), mI_sI]
    by_cases eq : q = a
    · rw [if_pos ⟨rfl, rfl, eq⟩, if_pos eq]
    · rw [if_neg (fun z => eq z.2.2), if_neg eq, mI_sI, if_neg (fun z => absurd z.1 (by decide))]
  have a4 : ∀ q, mI (cpI (sI (sI M 510 this a 1) 33 this a (Int32.ofNat st.length)) 31 this 0 34 this (40 * a) 20) 34 this q = if 40 * a ≤ q ∧ q < 40 * a + 20 then mI M 31 this (q - 40 * a) else mI M 34 this q := fun q => by
    rw [mI_cpI, if_pos ⟨rfl, rfl⟩]
    by_cases eq : 40 * a ≤ q ∧ q < 40 * a + 20
    · rw [if_pos eq, if_pos eq, Nat.zero_add, mI_sI, if_neg (fun z => absurd z.1 (by decide)), mI_sI, if_neg (fun z => absurd z.1 (by decide))]
    · rw [if_neg eq, if_neg eq, mI_sI, if_neg (fun z => absurd z.1 (by decide)), mI_sI, if_neg (fun z => absurd z.1 (by decide))]
  generalize cpI (sI (sI M 510 this a 1) 33 this a (Int32.ofNat st.length)) 31 this 0 34 this (40 * a) 20 = M6 at f5 a5 a3 a4 ⊢
  have e2 : mI M6 4 this 2 = Int32.ofNat st.length := (f5.I (f := 4) (k := 2) rfl this).trans hh.1
  have e7 : mI M6 4 this 7 = Int32.ofNat a := (f5.I (f := 4) (k := 7) rfl this).trans h7
  rw [e2, e7, e40, e60, oN_tnc (k := st.length) (by omega), oN_tnc (k := 40 * a + 20) (by omega)]
  refine ⟨nlt_oN (b := 0) (by omega) (by omega), nlt_oN (b := 0) (by omega) (by omega), by rw [f5.L (f := 32) rfl, l32]; omega, by rw [f5.L (f := 34) rfl, l3]; omega, _, rfl, ?_⟩
  have f6 : Fr (3351951982485649274893506249551461531869841455148098344430890360930441007518386744200468574541725856922507964546621512713438470702986642486608438021324800) M (cpI M6 32 this 0 34 this (40 * a + 20) st.length) := Fr.wcp rfl rfl f5
  have b4 : ∀ q, mI (cpI M6 32 this 0 34 this (40 * a + 20) st.length) 34 this q = if 40 * a + 20 ≤ q ∧ q < 40 * a + 20 + st.length then mI M 32 this (q - (40 * a + 20)) else mI M6 34 this q := fun q => by
    rw [mI_cpI, if_pos ⟨rfl, rfl⟩]
    by_cases eq : 40 * a + 20 ≤ q ∧ q < 40 * a + 20 + st.length
    · rw [if_pos eq, if_pos eq, Nat.zero_add, f5.Ia (f := 32) rfl rfl]
    · rw [if_neg eq, if_neg eq]
  have b5 : ∀ f q, f ≠ 34 → mI (cpI M6 32 this 0 34 this (40 * a + 20) st.length) f this q = mI M6 f this q := fun f q hf => by rw [mI_cpI, if_neg (fun z => hf z.1)]
  generalize cpI M6 32 this 0 34 this (40 * a + 20) st.length = M7 at f6 b4 b5 ⊢
  have hT : TbC A (gmt (gc W c) k) (R.set a (some (lo, st))) this M7 := by
    refine TbC.new ⟨t1, ⟨l1, l2, l3⟩, t2⟩ hlr.2 hsr.2 (by omega) f6 (by rw [b5 _ _ (by decide), a5, if_pos rfl]) (fun j hj => by rw [b5 _ _ (by decide), a5, if_neg hj]) (by rw [b5 _ _ (by decide), a3, if_pos rfl]) (fun j hj => by rw [b5 _ _ (by decide), a3, if_neg hj]) hlo.2 hst.2.2 (fun q hq => ?_) (fun q hq => ?_) (fun q hq => ?_)
    · have := hlo.2
      rw [b4, if_neg (by omega), a4, if_pos (by omega), show 40 * a + q - 40 * a = q by omega]; exact hlo.1 q hq
    · rw [b4, if_pos (by omega), show 40 * a + 20 + q - (40 * a + 20) = q by omega]; exact hst.1 q hq
    · rw [b4, if_neg (by omega), a4, if_neg (by omega)]
  exact hQ M7 (h.nf f6 (ExF.ex ⟨hT, (f6.I (f := 4) (k := 9) rfl this).trans h9, (f6.I (f := 4) (k := 10) rfl this).trans h10, (f6.I (f := 4) (k := 15) rfl this).trans h15⟩)) f6
theorem c_stepF {q : Nat} (h : KAx A W w c k br nq nk np nh nr this (EF A (gmt (gc W c) k) this R) a lo st true M) (hq0 : ∃ q0, mI M 62 w (moff W c + k) = Int32.ofNat q0 ∧ q0 ≤ 30000 ∧ q = q0 + a) (hP : KPnx A W w c k br nq nk np nh nr this (EF A (gmt (gc W c) k) this (R.set a (some (lo, st)))) a (stepS W c (gmt (gc W c) k) a lo st) Q) : w_Checker_one_j177 this Q (Int32.ofNat q) M := by
  have q0' : ∀ {S : Nat} {M8 M9 : Mem}, Fr S M8 M9 → S.testBit 62 = false → (∃ q0, mI M8 62 w (moff W c + k) = Int32.ofNat q0 ∧ q0 ≤ 30000 ∧ q = q0 + a) → ∃ q0, mI M9 62 w (moff W c + k) = Int32.ofNat q0 ∧ q0 ≤ 30000 ∧ q = q0 + a := fun hf hS hq0 => by
    obtain ⟨q0, e1, e2, e3⟩ := hq0
    exact ⟨q0, (hf.Ia rfl hS w _).trans e1, e2, e3⟩
  rw [stepS_eq] at hP
  unfold w_Checker_one_j177
  refine c_keepF h (fun M1 h1 f1 => ?_)
  have hq1 := q0' f1 rfl hq0
  refine mf_w_Checker_handlers (Q := fun v M' => Fr F_Checker_handlers M1 M' → _) (fun v M' hf hp => hp hf) (HH_F _ _ _ _ _ h1 ⟨fun z M' y _ => ?_, fun z M2 y f2 => ?_⟩)
  · have z : handS W (gmt (gc W c) k) lo a (hs (gmt (gc W c) k)) ≠ 0 := z
    rw [if_pos z] at hP
    exact itp rfl (hP M' y)
  have z : handS W (gmt (gc W c) k) lo a (hs (gmt (gc W c) k)) = 0 := z
  rw [if_neg (fun q => q z)] at hP
  have hq2 := q0' f2 rfl hq1
  rw [actS_G (R := R.set a (some (lo, st)))] at hP
  refine itn (by decide) (mf_w_Checker_act (Q := fun v M' => Fr F_Checker_act M2 M' → _) (fun v M' hf hp => hp hf) (c_actG HH_F y hq2 ⟨fun z2 M3 y3 _ => ?_, fun z2 M3 y3 f3 => ?_⟩))
  · have z2 : (actG (hdF W (gmt (gc W c) k) a) W c (gmt (gc W c) k) a lo st (R.set a (some (lo, st)))).1 ≠ 0 := z2
    have y3 : KZx A W w c k br nq nk np nh nr this (EF A (gmt (gc W c) k) this (actG (hdF W (gmt (gc W c) k) a) W c (gmt (gc W c) k) a lo st (R.set a (some (lo, st)))).2) a (actG (hdF W (gmt (gc W c) k) a) W c (gmt (gc W c) k) a lo st (R.set a (some (lo, st)))).1 M3 := y3
    rw [actG_2] at y3
    rw [if_pos z2] at hP
    exact itp rfl (hP M3 y3)
  · have z2 : (actG (hdF W (gmt (gc W c) k) a) W c (gmt (gc W c) k) a lo st (R.set a (some (lo, st)))).1 = 0 := z2
    have y3 : KAx A W w c k br nq nk np nh nr this (EF A (gmt (gc W c) k) this (actG (hdF W (gmt (gc W c) k) a) W c (gmt (gc W c) k) a lo st (R.set a (some (lo, st)))).2) a (loS W c (gin (co (gmt (gc W c) k)) a) lo st) (stS W c (gmt (gc W c) k) (gin (co (gmt (gc W c) k)) a) a lo st) true M3 := y3
    rw [actG_2] at y3
    rw [if_neg (fun q => q z2)] at hP
    refine itn (by decide) (c_endsx y3 (q0' f3 rfl hq2) ?_)
    have hP : KPnx A W w c k br nq nk np nh nr this (EF A (gmt (gc W c) k) this (R.set a (some (lo, st)))) a (aftS W (gmt (gc W c) k) (gin (co (gmt (gc W c) k)) a) a (loS W c (gin (co (gmt (gc W c) k)) a) lo st) (stS W c (gmt (gc W c) k) (gin (co (gmt (gc W c) k)) a) a lo st)) Q := hP
    cases e2 : aftS W (gmt (gc W c) k) (gin (co (gmt (gc W c) k)) a) a (loS W c (gin (co (gmt (gc W c) k)) a) lo st) (stS W c (gmt (gc W c) k) (gin (co (gmt (gc W c) k)) a) a lo st) with
    | inl r => rw [e2] at hP; exact fun M3 y => itp rfl (hP M3 y)
    | inr s' => rw [e2] at hP; exact fun M3 y => itn (by decide) (hP M3 y)
theorem c_allF (h : KE A W w c k br nq nk np nh nr this M) (hL2 : mL M 31 this = 20 ∧ mL M 32 this = 24) (h8 : mI M 4 this 8 = 0) (hE : ExF A (gmt (gc W c) k) (noR (gmt (gc W c) k)) this M) (hne : co (gmt (gc W c) k) ≠ [])
    (hQ : ∀ M', KE A W w c k br nq nk np nh nr this M' → (mL M' 31 this = 20 ∧ mL M' 32 this = 24) → ExF A (gmt (gc W c) k) (frmS W c (gmt (gc W c) k)) this M' → mI M' 4 this 8 = Int32.ofNat (chkM W c (gmt (gc W c) k)).1 → ((chkM W c (gmt (gc W c) k)).1 ≠ 0 → mI M' 4 this 7 = Int32.ofNat (chkM W c (gmt (gc W c) k)).2) → Q' M') : w_Checker_all this Q' M := by
  have hm := h.mlt
  have h80 := h.wf.2.2.1.1
  have loop : ∀ n a s R M, KN A W w c k br nq nk np nh nr this a s M → EX (EF A (gmt (gc W c) k) this R) M → (co (gmt (gc W c) k)).length - a < n → a ≤ (co (gmt (gc W c) k)).length → chkM W c (gmt (gc W c) k) = allS W c (gmt (gc W c) k) ((co (gmt (gc W c) k)).length - a) a s → frmS W c (gmt (gc W c) k) = recS W c (gmt (gc W c) k) ((co (gmt (gc W c) k)).length - a) a s R → w_Checker_all_L9 this Q' n M := by
    intro n
    induction n with
    | zero => intro a s R M _ _ hn; exact absurd hn (by omega)
    | succ n ih =>
      intro a s R M hN hE hn ha he hf
      obtain ⟨hK, hU, h10, h7⟩ := id hN
      obtain ⟨q0, hh0, ⟨a1, a2, a3, a4, a5, a6, a7, a8⟩, -, -⟩ := hK.mc
      have e63 : mI M 63 w (moff W c + k) = Int32.ofNat (co (gmt (gc W c) k)).length := a2
      unfold w_Checker_all_L9
      refine ⟨w, hK.r, ?_⟩
      rw [hK.m6, oN_tnc (k := moff W c + k) (by omega), e63, h7, hK.ml (by omega) (by omega)]
      refine ⟨(vp_oN (by omega)).mpr hm, ?_⟩
      by_cases ca : (co (gmt (gc W c) k)).length ≤ a
      · rw [show (co (gmt (gc W c) k)).length - a = 0 by omega] at he hf
        have he : chkM W c (gmt (gc W c) k) = (0, a) := he
        have hf : frmS W c (gmt (gc W c) k) = R := hf
        rw [he, hf] at hQ
        have f : Fr (9145388617821466670131533378947156308980135865406595157720744574583755940777328469268925689622556164811965228429559990103872254962485732965899318033659651361603020563247708156945652649278009102670500467761149138326552775400690819458952117775981060350672231265857169655029092762287796878857888543059638179505437008276367381532623828497915534972105268715733243210622555758821459209637715872323232939924936453481535425191407721980571486321200831576250469431571210172174292711905456148616711124993579225402405253062648742308384585034233897579184128) M (sI M 4 this 7 (Int32.ofNat a - 1)) := Fr.wI rfl (Fr.rf _ _)
        refine itp (le_oN ca (by omega)) (hQ _ (hK.fr f) hU.1 ?_ ((f.I (f := 4) (k := 8) rfl this).trans hU.2.2.2) (fun z => absurd rfl z))
        obtain ⟨⟨t1, t2, t3, t4⟩, -⟩ := hE
        exact ⟨t1.fr f, (f.I (f := 4) (k := 9) rfl this).trans t2, (f.I (f := 4) (k := 10) rfl this).trans t3, (f.I (f := 4) (k := 15) rfl this).trans t4⟩
      refine itn (nle_oN (by omega) (by omega)) ?_
      rw [show (co (gmt (gc W c) k)).length - a = ((co (gmt (gc W c) k)).length - (a + 1)) + 1 by omega] at he hf
      unfold allS at he
      unfold recS at hf
      rw [oneS_ent] at he
      -- a rule is broken
      have bad : ∀ r R' M', chkM W c (gmt (gc W c) k) = (r, a) → frmS W c (gmt (gc W c) k) = R' → KZx A W w c k br nq nk np nh nr this (EF A (gmt (gc W c) k) this R') a r M' → Q' M' := fun r R' M' e1 e2 y => by
        rw [e1, e2] at hQ
        exact hQ M' y.1 y.2.1 y.2.2.1.1 y.2.2.2.2 (fun _ => y.2.2.2.1)
      refine c_oneE hN (by omega) hE (fun r e M' y yE => itp rfl ?_) (fun y q1 M1 e hA1 hE1 e62 e3 => ?_)
      · rw [e] at he hf
        exact bad r R M' he hf ⟨y.1, y.2.1, yE, y.2.2.2.1, y.2.2.2.2⟩
      rw [e] at he hf
      dsimp only at he hf
      refine c_stepF (R := R) (lo := y.1) (st := y.2) ⟨hA1.1, hA1.2.1, hE1, hA1.2.2.2.1, hA1.2.2.2.2⟩ ⟨q1, e62, e3, rfl⟩ ?_
      cases e2 : stepS W c (gmt (gc W c) k) a y.1 y.2 with
      | inl r =>
        rw [e2] at he hf
        exact fun M' z => itp rfl (bad r _ M' he hf z)
      | inr s' =>
        rw [e2] at he hf
        refine fun M' z => itn (by decide) ?_
        obtain ⟨zK, zU, zE, z7⟩ := z
        rw [z7, show Int32.ofNat a + (1 : Int32) = Int32.ofNat (a + 1) from oN_add a 1]
        have f : Fr (9145388617821466670131533378947156308980135865406595157720744574583755940777328469268925689622556164811965228429559990103872254962485732965899318033659651361603020563247708156945652649278009102670500467761149138326552775400690819458952117775981060350672231265857169655029092762287796878857888543059638179505437008276367381532623828497915534972105268715733243210622555758821459209637715872323232939924936453481535425191407721980571486321200831576250469431571210172174292711905456148616711124993579225402405253062648742308384585034233897579184128) M' (sI M' 4 this 7 (Int32.ofNat (a + 1))) := Fr.wI rfl (Fr.rf _ _)
        obtain ⟨⟨t1, t2, t3, t4⟩, -⟩ := zE
        refine ih (a + 1) s' (R.set a (some y)) _ ⟨zK.fr f, ⟨zU.1, fun q => ?_, (f.I (f := 4) (k := 3) rfl this).trans zU.2.2.1, (f.I (f := 4) (k := 8) rfl this).trans zU.2.2.2⟩, (f.I (f := 4) (k := 10) rfl this).trans t3, by rw [mI_sI, if_pos ⟨rfl, rfl, rfl⟩]⟩ (ExF.ex ⟨t1.fr f, (f.I (f := 4) (k := 9) rfl this).trans t2, (f.I (f := 4) (k := 10) rfl this).trans t3, (f.I (f := 4) (k := 15) rfl this).trans t4⟩) (by omega) (by omega) he hf
        obtain ⟨u1, ⟨u2, u3⟩, ⟨u4, u5, u6⟩, u7, u8⟩ := zU.2.1 q
        exact ⟨u1, ⟨fun i hi => ⟨(f.Ia (f := 31) rfl rfl this i).trans (u2 i hi).1, (u2 i hi).2⟩, u3⟩, ⟨fun i hi => ⟨(f.Ia (f := 32) rfl rfl this i).trans (u4 i hi).1, (u4 i hi).2⟩, (f.I (f := 4) (k := 2) rfl this).trans u5, u6⟩, (f.I (f := 4) (k := 3) rfl this).trans u7, (f.I (f := 4) (k := 8) rfl this).trans u8⟩
  unfold w_Checker_all
  refine mf_w_Checker_begin (Q := fun M' => Fr F_Checker_begin M M' → ∃ n8 : Nat, w_Checker_all_L9 this Q' n8 (sI M' 4 this 7 (0 : Int32))) (fun M' hf hp => hp hf) (c_kbegin h hL2 h8 hne (fun M' zK zS hf => ⟨(co (gmt (gc W c) k)).length + 1, ?_⟩))
  have f : Fr (9145388617821466670131533378947156308980135865406595157720744574583755940777328469268925689622556164811965228429559990103872254962485732965899318033659651361603020563247708156945652649278009102670500467761149138326552775400690819458952117775981060350672231265857169655029092762287796878857888543059638179505437008276367381532623828497915534972105268715733243210622555758821459209637715872323232939924936453481535425191407721980571486321200831576250469431571210172174292711905456148616711124993579225402405253062648742308384585034233897579184128) M' (sI M' 4 this 7 0) := Fr.wI rfl (Fr.rf _ _)
  obtain ⟨t1, t2, t3, t4⟩ := hE
  obtain ⟨u1, ⟨u2, u3⟩, ⟨u4, u5, u6⟩, u7, u8⟩ := zS
  have g3 := (f.I (f := 4) (k := 3) rfl this).trans u7
  have g8 := (f.I (f := 4) (k := 8) rfl this).trans u8
  have g10 := (f.I (f := 4) (k := 10) rfl this).trans ((hf.I (f := 4) (k := 10) rfl this).trans t3)
  refine loop _ 0 (padL (gmt (gc W c) k) (begL W c (gmt (gc W c) k)), [], true) (noR (gmt (gc W c) k)) _ ⟨zK.fr f, ⟨u1, fun _ => ⟨u1, ⟨fun i hi => ⟨(f.Ia (f := 31) rfl rfl this i).trans (u2 i hi).1, (u2 i hi).2⟩, u3⟩, ⟨fun i hi => ⟨(f.Ia (f := 32) rfl rfl this i).trans (u4 i hi).1, (u4 i hi).2⟩, (f.I (f := 4) (k := 2) rfl this).trans u5, u6⟩, g3, g8⟩, g3, g8⟩, g10, by rw [mI_sI, if_pos ⟨rfl, rfl, rfl⟩]; rfl⟩ (ExF.ex ⟨(t1.fr hf).fr f, (f.I (f := 4) (k := 9) rfl this).trans ((hf.I (f := 4) (k := 9) rfl this).trans t2), g10, (f.I (f := 4) (k := 15) rfl this).trans ((hf.I (f := 4) (k := 15) rfl this).trans t4)⟩) (by omega) (by omega) (by rw [Nat.sub_zero]; rfl) (by rw [Nat.sub_zero]; rfl)
theorem c_withFrames {L : Tl} (hCW : CWx A W w br nq nk np nh nr M) (hA : nA A) (hKB : KB w nq nk np nh nr) (hc : c < W.length) (hk : k < (gc W c).2.2.2.2.2.length) (hwf : wfM (gmt (gc W c) k)) (hpar : (gc W c).2.1 ≠ []) (hne : co (gmt (gc W c) k) ≠ []) (ht : cTd L this M) (h0 : k0 this M) (hth : this ≠ 0) (hQ : ∀ M', cTd (tlR W (frmS W c (gmt (gc W c) k))) this M' → k0 this M' → Q (ansI (chkM W c (gmt (gc W c) k)).1 (chkM W c (gmt (gc W c) k)).2) M') : w_Checker_withFrames this w (Int32.ofNat (moff W c + k)) Q M := by
  obtain ⟨t1, ⟨l1, l2, l3, l4⟩, t3, -⟩ := ht
  have h80 := hwf.2.2.1.1
  unfold w_Checker_withFrames
  refine c_kask hCW hA hKB hc hk hwf hpar ⟨l1, l2, l3⟩ (fun M1 f1 hK1 h8 h15 hT1 => ⟨Or.inr rfl, ?_⟩)
  have f2' : Fr (36581554471285866680526133515788625235920543461626380630882978298335023763109313877075702758490224659247860913718239960415489019849942931863597272134638605446412082252990832627782610597112036410682001871044596553306211101602763277835808471103924241402688925063428678620116371049151187515431554172238552718021748033105469526130495313991662139888421074862932972842490223035285836838550863489292931759699745813926141700765630887922285945284803326305001877726284840688697170847621824594466844499974316901609621012250594969233538340136935590316736512) M1 (sI M1 4 this 9 1) := Fr.wI rfl (Fr.rf _ _)
  have h9 : mI (sI M1 4 this 9 1) 4 this 9 = 1 := by rw [mI_sI, if_pos ⟨rfl, rfl, rfl⟩]
  have g := h0.fr f1
  have z1 : mI (sI M1 4 this 9 1) 4 0 9 = 0 := by rw [mI_sI, if_neg (fun z => hth z.2.1.symm)]; exact g.1.1
  generalize sI M1 4 this 9 1 = M2 at f2' h9 z1 ⊢
  have h10 : mI M2 4 this 10 = 0 := (f2'.I (f := 4) (k := 10) rfl this).trans ((f1.I (f := 4) (k := 10) rfl this).trans t3.2)
  refine mf_w_Checker_all (Q := fun M' => Fr F_Checker_all M2 M' → _) (fun M' hf hp => hp hf) (c_allF (hK1.fr f2') ⟨(f2'.L (f := 31) rfl this).trans ((f1.L (f := 31) rfl this).trans t1.1), (f2'.L (f := 32) rfl this).trans ((f1.L (f := 32) rfl this).trans t1.2)⟩ ((f2'.I (f := 4) (k := 8) rfl this).trans h8) ⟨hT1.fr f2', h9, h10, (f2'.I (f := 4) (k := 15) rfl this).trans h15⟩ hne (fun M3 hK3 hL3 hE3 e8 e7 f3 => ⟨Or.inl rfl, ?_⟩))
  have f4 : Fr (36581554471285866680526133515788625235920543461626380630882978298335023763109313877075702758490224659247860913718239960415489019849942931863597272134638605446412082252990832627782610597112036410682001871044596553306211101602763277835808471103924241402688925063428678620116371049151187515431554172238552718021748033105469526130495313991662139888421074862932972842490223035285836838550863489292931759699745813926141700765630887922285945284803326305001877726284840688697170847621824594466844499974316901609621012250594969233538340136935590316736512) M3 (sI M3 4 this 9 0) := Fr.wI rfl (Fr.rf _ _)
  have k04 : k0 this (sI M3 4 this 9 0) := ⟨⟨by
    rw [mI_sI]
    split
    · rfl
    · exact (f3.I (f := 4) (k := 9) rfl 0).trans z1, (f4.I (f := 4) (k := 10) rfl 0).trans ((f3.I (f := 4) (k := 10) rfl 0).trans ((f2'.I (f := 4) (k := 10) rfl 0).trans g.1.2))⟩, by rw [mI_sI, if_pos ⟨rfl, rfl, rfl⟩], (f4.L (f := 35) rfl this).trans ((f3.L (f := 35) rfl this).trans ((f2'.L (f := 35) rfl this).trans g.2.2))⟩
  refine c_tellE (r := (chkM W c (gmt (gc W c) k)).1) (p := (chkM W c (gmt (gc W c) k)).2) ⟨hK3.fr f4, ⟨(f4.L (f := 31) rfl this).trans hL3.1, (f4.L (f := 32) rfl this).trans hL3.2⟩, hE3.1.fr f4, (f4.I (f := 4) (k := 15) rfl this).trans hE3.2.2.2, (f4.I (f := 4) (k := 8) rfl this).trans e8, fun z => (f4.I (f := 4) (k := 7) rfl this).trans (e7 z), k04⟩ ((f4.I (f := 4) (k := 10) rfl this).trans hE3.2.2.1) chkM_le hQ
end
