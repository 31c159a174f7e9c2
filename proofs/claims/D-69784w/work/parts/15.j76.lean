/-! KINDS in the works: where it goes on to, a look at an instruction -/
theorem pickI_drop {W : List Cls} {lo st : List Kd} {T : List Nat} {j : Nat} {s : Ti} (h : j < T.length) : pickI W lo st (T.drop j) s = if (jnS W s (gtn T j) lo st).1 = 0 then pickI W lo st (T.drop (j + 1)) (jnS W s (gtn T j) lo st).2 else jnS W s (gtn T j) lo st := by
  have e : gtn T j = T[j] := by
    show T.getD j _ = _
    rw [List.getD_eq_getElem?_getD, List.getElem?_eq_getElem h]; rfl
  rw [List.drop_eq_getElem_cons h, e]
  rfl
/-- behind the jumps -/
def folE (W : List Cls) (x : Mth) (i : Ins) (a : Nat) (lo st : List Kd) (s : Ti) : Nat × Ti := if ¬ goesOn i.1 then (0, s) else if a + 1 = (co x).length then (35, s) else jnS W s (a + 1) lo st
theorem folI_eq {W : List Cls} {x : Mth} {i : Ins} {a : Nat} {lo st : List Kd} {s : Ti} {T : List Nat} (hT : (if isJ i.1 then [gtn (iT i) 0] else if i.1 = 40 then iT i else []) = T) : folI W x i a lo st s = if (pickI W lo st T s).1 ≠ 0 then pickI W lo st T s else folE W x i a lo st (pickI W lo st T s).2 := by
  unfold folI folE
  rw [hT]
  by_cases c1 : (pickI W lo st T s).1 = 0
  · simp only [c1, ne_eq, not_true_eq_false, if_false]
    by_cases c2 : goesOn i.1
    · rw [if_neg (show ¬ ¬ goesOn i.1 from fun z => z c2), if_neg (show ¬ ¬ goesOn i.1 from fun z => z c2)]
    · rw [if_pos c2, if_pos c2]
      exact Prod.ext c1 rfl
  · simp only [c1, ne_eq, not_false_eq_true, if_true]
section
variable {A : List Nm} {W : List Cls} {w c k this : Nat} {br : Int32} {nq nk np nh nr a : Nat} {lo st st2 : List Kd} {kn : Bool} {M M' : Mem} {Q : Int32 → Mem → Prop} {Ex : Mem → Prop} {s : Ti}
theorem c_fol94 {i : Ins} (h : KAx A W w c k br nq nk np nh nr this (EI A (gmt (gc W c) k) this s) a lo st kn M) (ho : i.1 < 62) (hP : KRx A W w c k br nq nk np nh nr this (EI A (gmt (gc W c) k) this) a lo st kn (folE W (gmt (gc W c) k) i a lo st s) Q) : w_Checker_follows_j94 this Q (Int32.ofNat i.1) M := by
  have h80 := h.1.wf.2.2.1.1
  have ha := h.2.2.2.2
  unfold folE at hP
  have stop : ¬ goesOn i.1 → Q 1 M := fun hn => by
    rw [if_pos hn] at hP
    exact hP.2 rfl M h
  unfold w_Checker_follows_j94
  by_cases c1 : i.1 = 23
  · exact itp (by rw [c1]; rfl) (stop (fun q => q.1 c1))
  refine itn (ne_oN (b := 23) c1 (by omega) (by omega)) ?_
  by_cases c2 : i.1 = 40
  · exact itp (by rw [c2]; rfl) (stop (fun q => q.2.1 c2))
  refine itn (ne_oN (b := 40) c2 (by omega) (by omega)) ?_
  by_cases c3 : i.1 = 56
  · exact itp (by rw [c3]; rfl) (stop (fun q => q.2.2.1 c3))
  refine itn (ne_oN (b := 56) c3 (by omega) (by omega)) (c_isInN (o := i.1) (lo := 57) (hi := 59) (by omega) (by omega) (by omega) ?_)
  by_cases c4 : 57 ≤ i.1 ∧ i.1 ≤ 59
  · rw [decide_eq_true c4]
    exact itn (by decide) (stop (fun q => q.2.2.2 c4))
  · rw [decide_eq_false c4]
    rw [if_neg (fun z => z ⟨c1, c2, c3, c4⟩)] at hP
    refine itp (by decide) ?_
    rw [h.2.2.2.1, h.2.2.1.1.2.2.2, show Int32.ofNat (co (gmt (gc W c) k)).length - (1 : Int32) = Int32.ofNat ((co (gmt (gc W c) k)).length - 1) from oN_sub (b := 1) (by omega)]
    by_cases c5 : a + 1 = (co (gmt (gc W c) k)).length
    · rw [if_pos c5] at hP
      exact itp (by congr 1; omega) (h.brk (r := 35) (fun M' q => ⟨Or.inl rfl, hP.1 (Nat.succ_ne_zero _) M' q⟩))
    · rw [if_neg c5] at hP
      refine itn (ne_oN (by omega) (by omega) (by omega)) ?_
      rw [show Int32.ofNat a + (1 : Int32) = Int32.ofNat (a + 1) from oN_add a 1]
      exact c_joinsx h (by omega) (fun z M' q _ => ⟨Or.inr rfl, hP.2 z M' q⟩) (fun z M' q _ => ⟨Or.inl rfl, hP.1 z M' q⟩)
theorem c_followsI {q : Nat} (h : KAx A W w c k br nq nk np nh nr this (EI A (gmt (gc W c) k) this s) a lo st kn M) (hq0 : ∃ q0, mI M 62 w (moff W c + k) = Int32.ofNat q0 ∧ q0 ≤ 30000 ∧ q = q0 + a) (hP : KRx A W w c k br nq nk np nh nr this (EI A (gmt (gc W c) k) this) a lo st kn (folI W (gmt (gc W c) k) (gin (co (gmt (gc W c) k)) a) a lo st s) Q) : w_Checker_follows this (Int32.ofNat q) Q M := by
  obtain ⟨q0, hq, h3, eq⟩ := hq0
  have hL := L_le w
  have hb := h.1.kb
  unfold KB at hb
  have hr := h.1.rm
  obtain ⟨hi, hlt, -⟩ := h.1.ins hq h3 h.2.2.2.2
  rw [← eq] at hi hlt
  have hwf := h.1.wf.2.2.1.2 (gin (co (gmt (gc W c) k)) a) (by
    show (co (gmt (gc W c) k)).getD a _ ∈ _
    rw [List.getD_eq_getElem?_getD, List.getElem?_eq_getElem h.2.2.2.2]; exact List.getElem_mem h.2.2.2.2)
  generalize gin (co (gmt (gc W c) k)) a = i at hi hwf hP
  obtain ⟨o62, hop, htg, -, -⟩ := hwf
  rw [folI_eq rfl] at hP
  unfold w_Checker_follows
  refine ⟨w, h.1.r, ?_⟩
  rw [oN_tnc (by omega), hi.1.1]
  refine ⟨by rw [hr.1 66 (by omega) (by omega)]; exact (vp_oN (by omega)).mpr hlt, c_isInN (o := i.1) (lo := 23) (hi := 39) (by omega) (by omega) (by omega) ?_⟩
  have nop : i.1 ≠ 40 → ∀ s' M', KAx A W w c k br nq nk np nh nr this (EI A (gmt (gc W c) k) this s') a lo st kn M' → KRx A W w c k br nq nk np nh nr this (EI A (gmt (gc W c) k) this) a lo st kn (folE W (gmt (gc W c) k) i a lo st s') Q → w_Checker_follows_j39 this Q (Int32.ofNat q) (Int32.ofNat i.1) M' := fun c40 s' M' h' hP' => by
    unfold w_Checker_follows_j39
    refine ⟨1, ?_⟩
    unfold w_Checker_follows_L41
    exact itn (ne_oN (b := 40) c40 (by omega) (by omega)) (c_fol94 h' o62 hP')
  by_cases cJ : isJ i.1
  · rw [decide_eq_true cJ]
    rw [if_pos cJ] at hP
    have e1 : pickI W lo st [gtn (iT i) 0] s = if (jnS W s (gtn (iT i) 0) lo st).1 = 0 then (0, (jnS W s (gtn (iT i) 0) lo st).2) else jnS W s (gtn (iT i) 0) lo st := rfl
    rw [e1] at hP
    refine itn (by decide) ⟨w, h.1.r, ?_⟩
    have hlen := hop.2.2.1 cJ
    rw [hi.2.2.1 cJ, hr.1 67 (by omega) (by omega)]
    refine ⟨(vp_oN (by omega)).mpr hlt, c_joinsx h (htg _ ?_) (fun z M' y _ => itn (by decide) (nop (by omega) _ M' y ?_)) (fun z M' y _ => itp rfl ?_)⟩
    · show (iT i).getD 0 0 ∈ iT i
      rw [List.getD_eq_getElem?_getD, List.getElem?_eq_getElem (by omega)]; exact List.getElem_mem _
    · rw [if_pos z] at hP
      exact hP
    · rw [if_neg z, if_pos z] at hP
      exact hP.1 z M' y
  · rw [decide_eq_false cJ]
    rw [if_neg cJ] at hP
    refine itp (by decide) ?_
    by_cases c40 : i.1 = 40
    · rw [if_pos c40] at hP
      obtain ⟨pf, hop2, hpk⟩ := hi.2.1
      obtain ⟨hp1, hp2⟩ := hpk c40
      have hop2 := hop2.1
      unfold cOp0 at hop2
      rw [if_neg (by omega), if_neg (by omega), if_pos c40] at hop2
      have hln : (insO i).2.2.1.length = (iT i).length := by show (List.map _ _).length = _; rw [List.length_map]
      rw [hln] at hop2
      have hp1' : pf + (iT i).length ≤ np := hp1
      have loop : ∀ n j s' M', (iT i).length - j < n → j ≤ (iT i).length → KAx A W w c k br nq nk np nh nr this (EI A (gmt (gc W c) k) this s') a lo st kn M' → Fr (1170609743081147733776836272505236007549457390772044180188255305546720760419498044066422488271687189095931549238983678733295648635198173819635112708308435374285186632095706644089043539107585165141824059873427089705798755251288424890745871075325575724886045602029717715843723873572838000493809733511633686976695937059375024836175850047733188476429474395613855130959687137129146778833627631657377168262374351694911427930749739875045020090568854540104490977602045343045827853868098855597480749856100648816054493904732477486176213526868547328156893184) M M' → pickI W lo st (iT i) s = pickI W lo st ((iT i).drop j) s' → w_Checker_follows_L41 this Q n (Int32.ofNat q) (Int32.ofNat i.1) (Int32.ofNat j) M' := by
        intro n
        induction n with
        | zero => intro j s' M' hn; exact absurd hn (by omega)
        | succ n ih =>
          intro j s' M' hn hj hK hf he
          have hr' := hK.1.rm
          unfold w_Checker_follows_L41
          refine itp (by rw [c40]; rfl) ⟨w, hK.1.r, ?_⟩
          rw [oN_tnc (k := q) (by omega), hf.Ia (f := 69) rfl rfl, hop2.2.2, hr'.1 69 (by omega) (by omega)]
          refine ⟨(vp_oN (by omega)).mpr hlt, ?_⟩
          by_cases cj : (iT i).length ≤ j
          · rw [List.drop_eq_nil_of_le cj] at he
            have he2 : pickI W lo st (iT i) s = (0, s') := he
            rw [he2, if_neg (fun z => z rfl)] at hP
            exact itp (le_oN cj (by omega)) (c_fol94 hK o62 hP)
          refine itn (nle_oN (by omega) (by omega)) ⟨w, hK.1.r, w, hK.1.r, by rw [hr'.1 68 (by omega) (by omega)]; exact (vp_oN (by omega)).mpr hlt, ?_⟩
          rw [hf.Ia (f := 68) rfl rfl, hop2.2.1, oN_add, oN_tnc (by omega), hf.Ia (f := 74) rfl rfl, hp2 j (Nat.lt_of_not_le cj), hr'.2.2.1]
          refine ⟨(vp_oN (by omega)).mpr (by omega), ?_⟩
          rw [pickI_drop (by omega)] at he
          refine c_joinsx hK (htg _ ?_) (fun z M2 y f2 => ?_) (fun z M2 y _ => ?_)
          · show (iT i).getD _ 0 ∈ iT i
            rw [List.getD_eq_getElem?_getD, List.getElem?_eq_getElem (by omega)]; exact List.getElem_mem _
          · rw [if_pos z] at he
            rw [show Int32.ofNat j + (1 : Int32) = Int32.ofNat (j + 1) from oN_add j 1]
            exact itn (by decide) (ih (j + 1) _ M2 (by omega) (by omega) y (hf.trans f2) he)
          · rw [if_neg z] at he
            rw [he, if_pos z] at hP
            exact itp rfl (hP.1 z M2 y)
      unfold w_Checker_follows_j39
      exact ⟨(iT i).length + 1, loop _ 0 s M (by omega) (by omega) h (Fr.rf _ _) rfl⟩
    · rw [if_neg c40] at hP
      have e1 : pickI W lo st [] s = (0, s) := rfl
      rw [e1, if_neg (fun z => z rfl)] at hP
      exact nop c40 s M h hP
/-- between looks -/
def KIn (A : List Nm) (W : List Cls) (w c k : Nat) (br : Int32) (nq nk np nh nr this : Nat) (s : Ti) (M : Mem) : Prop :=
  KE A W w c k br nq nk np nh nr this M ∧ (mL M 31 this = 20 ∧ mL M 32 this = 24) ∧ EX (EI A (gmt (gc W c) k) this s) M ∧ mI M 4 this 3 = b2 true ∧ mI M 4 this 8 = 0
theorem KAx.ki (h : KAx A W w c k br nq nk np nh nr this (EI A (gmt (gc W c) k) this s) a lo st true M) : KIn A W w c k br nq nk np nh nr this s M := ⟨h.1, h.2.1.1, h.2.2.1, h.2.1.2.2.2.1, h.n8⟩
theorem c_lookAtI {q : Nat} (h : KIn A W w c k br nq nk np nh nr this s M) (h7 : mI M 4 this 7 = Int32.ofNat a) (ha : a < (co (gmt (gc W c) k)).length) (hR : gR s.1 a = some (lo, st)) (hq0 : ∃ q0, mI M 62 w (moff W c + k) = Int32.ofNat q0 ∧ q0 ≤ 30000 ∧ q = q0 + a)
    (hX : (stpI W c (gmt (gc W c) k) a lo st s).1 ≠ 0 → ∀ M', KZx A W w c k br nq nk np nh nr this (EI A (gmt (gc W c) k) this (stpI W c (gmt (gc W c) k) a lo st s).2) a (stpI W c (gmt (gc W c) k) a lo st s).1 M' → Q 0 M')
    (hQ : (stpI W c (gmt (gc W c) k) a lo st s).1 = 0 → ∀ M', KIn A W w c k br nq nk np nh nr this (stpI W c (gmt (gc W c) k) a lo st s).2 M' → mI M' 4 this 7 = Int32.ofNat a → Q 1 M') : w_Checker_lookAt this (Int32.ofNat q) Q M := by
  have h80 := h.1.wf.2.2.1.1
  have hlr := h.1.lr
  have hsr := h.1.sr
  obtain ⟨⟨t1, ⟨l1, l2, l3⟩, t2⟩, h14, h10, h15⟩ := id h.2.2.1.1
  obtain ⟨x1, x2⟩ := t2 a (by omega)
  obtain ⟨⟨y1, y2, y3⟩, y4, y5⟩ := x2 lo st hR
  unfold w_Checker_lookAt
  have e40 : (40 : Int32) * Int32.ofNat a = Int32.ofNat (40 * a) := oN_mul 40 a
  have e60 : Int32.ofNat (40 * a) + (20 : Int32) = Int32.ofNat (40 * a + 20) := oN_add _ 20
  rw [h7, e40, e60, oN_tnc (k := 40 * a) (by omega), oN_tnc (k := 40 * a + 20) (by omega), show (0 : Int32).toNatClampNeg = 0 from rfl, show (20 : Int32).toNatClampNeg = 20 from rfl]
  refine ⟨nlt_oN (b := 0) (by omega) (by omega), by decide, by decide, by rw [l3]; omega, by rw [h.2.1.1]; omega, _, rfl, ?_⟩
  have f1 : Fr (2147483648) M (cpI M 34 this (40 * a) 31 this 0 20) := Fr.wcp rfl rfl (Fr.rf _ _)
  have a1 : ∀ q, q < 20 → mI (cpI M 34 this (40 * a) 31 this 0 20) 31 this q = mI M 34 this (40 * a + q) := fun q hq => by
    rw [mI_cpI, if_pos ⟨rfl, rfl⟩, if_pos (by omega), show q - 0 = q by omega]
  generalize cpI M 34 this (40 * a) 31 this 0 20 = M1 at f1 a1 ⊢
  have b33 : mI M1 33 this a = Int32.ofNat st.length := (f1.Ia (f := 33) rfl rfl this a).trans y1
  rw [(f1.I (f := 4) (k := 7) rfl this).trans h7, oN_tnc (k := a) (by omega), b33]
  have f2 : Fr (285793394306920833441610418092098634655629245793956098678773267955742373149291514664653927800704880150373913388423749690746007967577679155184353688551864105050094392601490879904551645289937784458453139617535910572704774231271588108092253680499408135958507227058036551719659148821493652464309016970613693109544906508636480672894494640559860467878289647366663850331954867463170600301178621010101029372654264171297982037231491311892858947537525986757827169736600317880446647247045504644272222656049350793825164158207773197137018282319811446833152) M (sI M1 4 this 2 (Int32.ofNat st.length)) := Fr.wI rfl (f1.sub rfl)
  have r2 : mI (sI M1 4 this 2 (Int32.ofNat st.length)) 4 this 2 = Int32.ofNat st.length := by rw [mI_sI, if_pos ⟨rfl, rfl, rfl⟩]
  have a2 : ∀ q, q < 20 → mI (sI M1 4 this 2 (Int32.ofNat st.length)) 31 this q = mI M 34 this (40 * a + q) := fun q hq => by rw [mI_sI, if_neg (fun z => absurd z.1 (by decide))]; exact a1 q hq
  refine ⟨by rw [f1.L (f := 33) rfl, l2]; exact (vp_oN (by omega)).mpr (by omega), nlt_oN (b := 0) (by omega) (by omega), by decide, ?_⟩
  generalize sI M1 4 this 2 (Int32.ofNat st.length) = M2 at f2 r2 a2 ⊢
  rw [r2, oN_tnc (k := st.length) (by omega)]
  refine ⟨nlt_oN (b := 0) (by omega) (by omega), by rw [f2.L (f := 34) rfl, l3]; omega, by rw [f2.L (f := 32) rfl, h.2.1.2]; omega, _, rfl, ?_⟩
  have f3 : Fr (285793394306920833441610418092098634655629245793956098678773267955742373149291514664653927800704880150373913388423749690746007967577679155184353688551864105050094392601490879904551645289937784458453139617535910572704774231271588108092253680499408135958507227058036551719659148821493652464309016970613693109544906508636480672894494640559860467878289647366663850331954867463170600301178621010101029372654264171297982037231491311892858947537525986757827169736600317880446647247045504644272222656049350793825164158207773197137018282319815741800448) M (cpI M2 34 this (40 * a + 20) 32 this 0 st.length) := Fr.wcp rfl rfl (f2.sub rfl)
  have hA : KAx A W w c k br nq nk np nh nr this (EI A (gmt (gc W c) k) this s) a lo st true (cpI M2 34 this (40 * a + 20) 32 this 0 st.length) := by
    refine ⟨h.1.fr f3, ⟨⟨(f3.L (f := 31) rfl this).trans h.2.1.1, (f3.L (f := 32) rfl this).trans h.2.1.2⟩, ⟨fun i hi => ?_, y2⟩, ⟨fun i hi => ?_, ?_, y3⟩, (f3.I (f := 4) (k := 3) rfl this).trans h.2.2.2.1, (f3.I (f := 4) (k := 8) rfl this).trans h.2.2.2.2⟩, h.2.2.1.fr f3, (f3.I (f := 4) (k := 7) rfl this).trans h7, ha⟩
    · rw [mI_cpI, if_neg (fun z => absurd z.1 (by decide)), a2 i (by omega)]
      exact y4 i hi
    · rw [mI_cpI, if_pos ⟨rfl, rfl⟩, if_pos (by omega), show i - 0 = i by omega, f2.Ia (f := 34) rfl rfl]
      exact y5 i hi
    · rw [mI_cpI, if_neg (fun z => absurd z.1 (by decide))]; exact r2
  have q0' : ∀ {S : Nat} {M8 M9 : Mem}, Fr S M8 M9 → S.testBit 62 = false → (∃ q0, mI M8 62 w (moff W c + k) = Int32.ofNat q0 ∧ q0 ≤ 30000 ∧ q = q0 + a) → ∃ q0, mI M9 62 w (moff W c + k) = Int32.ofNat q0 ∧ q0 ≤ 30000 ∧ q = q0 + a := fun hf hS hq0 => by
    obtain ⟨q0, e1, e2, e3⟩ := hq0
    exact ⟨q0, (hf.Ia rfl hS w _).trans e1, e2, e3⟩
  have hq3 := q0' f3 rfl hq0
  generalize cpI M2 34 this (40 * a + 20) 32 this 0 st.length = M3 at f3 hA hq3 ⊢
  unfold stpI at hX hQ
  refine mf_w_Checker_handlers (Q := fun v M' => Fr F_Checker_handlers M3 M' → _) (fun v M' hf hp => hp hf) (c_handlersI hA ⟨fun z M' y _ => ?_, fun z M' y fh => ?_⟩)
  · rw [if_pos z] at hX
    exact itp rfl (hX z M' y)
  rw [if_neg (fun q => q z)] at hX hQ
  generalize (handI W (gmt (gc W c) k) lo a (hs (gmt (gc W c) k)) s).2 = s1 at y hX hQ
  refine itn (by decide) (mf_w_Checker_act (Q := fun v M2 => Fr F_Checker_act M' M2 → _) (fun v M2 hf hp => hp hf) (c_actG HH_I y (q0' fh rfl hq3) ⟨fun z2 M4 y2 _ => ?_, fun z2 M4 y2 fa => ?_⟩))
  · have z2 : (actI W c (gmt (gc W c) k) a lo st s1).1 ≠ 0 := z2
    rw [if_pos z2] at hX
    exact itp rfl (hX z2 M4 y2)
  have z2 : (actI W c (gmt (gc W c) k) a lo st s1).1 = 0 := z2
  rw [if_neg (fun q => q z2)] at hX hQ
  refine itn (by decide) (c_followsI y2 (q0' fa rfl (q0' fh rfl hq3)) ⟨fun z3 M5 y3 => itp rfl (hX z3 M5 y3), fun z3 M5 y3 => itn (by decide) (hQ z3 M5 y3.ki y3.2.2.2.1)⟩)
end
