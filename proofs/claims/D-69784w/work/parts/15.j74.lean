/-! KINDS in the works: handlers, stores and makers while it infers -/
/-- what is asked of an end -/
def KRx {σ : Type} (A : List Nm) (W : List Cls) (w c k : Nat) (br : Int32) (nq nk np nh nr this : Nat) (Ex : σ → Mem → Prop) (a : Nat) (lo st : List Kd) (kn : Bool) (res : Nat × σ) (Q : Int32 → Mem → Prop) : Prop :=
  (res.1 ≠ 0 → ∀ M', KZx A W w c k br nq nk np nh nr this (Ex res.2) a res.1 M' → Q 0 M') ∧ (res.1 = 0 → ∀ M', KAx A W w c k br nq nk np nh nr this (Ex res.2) a lo st kn M' → Q 1 M')
/-- the handlers do as told -/
def HHx {σ : Type} (A : List Nm) (W : List Cls) (w c k : Nat) (br : Int32) (nq nk np nh nr this : Nat) (Ex : σ → Mem → Prop) (a : Nat) (hd : List Kd → σ → Nat × σ) (kn : Bool) : Prop :=
  ∀ lo st s M Q, KAx A W w c k br nq nk np nh nr this (Ex s) a lo st kn M → KRx A W w c k br nq nk np nh nr this Ex a lo st kn (hd lo s) Q → w_Checker_handlers this Q M
abbrev EI (A : List Nm) (x : Mth) (this : Nat) : Ti → Mem → Prop := fun s => ExI A x s this
theorem handI_drop {W : List Cls} {x : Mth} {lo : List Kd} {a : Nat} {H : List Hnd} {i : Nat} {s : Ti} (h : i < H.length) : handI W x lo a (H.drop i) s = if a < (ghn H i).1 ∨ (ghn H i).2.1 ≤ a then handI W x lo a (H.drop (i + 1)) s else if sr x = 0 then (30, s) else
    if (jnS W s (ghn H i).2.2.1 lo [(2, if (ghn H i).2.2.2 = nAny then nFault else (ghn H i).2.2.2)]).1 = 0 then handI W x lo a (H.drop (i + 1)) (jnS W s (ghn H i).2.2.1 lo [(2, if (ghn H i).2.2.2 = nAny then nFault else (ghn H i).2.2.2)]).2 else jnS W s (ghn H i).2.2.1 lo [(2, if (ghn H i).2.2.2 = nAny then nFault else (ghn H i).2.2.2)] := by
  have e : ghn H i = H[i] := by
    show H.getD i _ = _
    rw [List.getD_eq_getElem?_getD, List.getElem?_eq_getElem h]; rfl
  rw [List.drop_eq_getElem_cons h, e]
  rfl
section
variable {A : List Nm} {W : List Cls} {w c k this : Nat} {br : Int32} {nq nk np nh nr a : Nat} {lo st st2 : List Kd} {kn : Bool} {M M' : Mem} {Q : Int32 → Mem → Prop} {Ex : Mem → Prop} {s : Ti}
theorem KRx.q {σ : Type} {Ey : σ → Mem → Prop} {res : Nat × σ} (h : KRx A W w c k br nq nk np nh nr this Ey a lo st kn res Q) : KRx A W w c k br nq nk np nh nr this Ey a lo st kn res (fun r M => (r = 0 ∨ r = 1) ∧ Q r M) := ⟨fun z M' q => ⟨Or.inl rfl, h.1 z M' q⟩, fun z M' q => ⟨Or.inr rfl, h.2 z M' q⟩⟩
theorem KZx.fr {r : Nat} (h : KZx A W w c k br nq nk np nh nr this Ex a r M) (hf : Fr (285793394306920833441610418092098634655629245793956098678773267955742373149291514664653927800704880150373913388423749690746007967577679155184353688551864105050094392601490879904551645289937784458453139617535910572704774231271588108092253680499408135958507227058036551719659148821493652464309016970613693109544906508636480672894494640559860467878289647366663850331954867463170600301178621010101029372654264171297982037231491311892858947537525986757827169736600317880446647247045504644272222656049350793825164158207773197137018282319813594316800) M M') : KZx A W w c k br nq nk np nh nr this Ex a r M' :=
  ⟨h.1.fr hf, ⟨(hf.L (f := 31) rfl this).trans h.2.1.1, (hf.L (f := 32) rfl this).trans h.2.1.2⟩, h.2.2.1.fr hf, (hf.I (f := 4) (k := 7) rfl this).trans h.2.2.2.1, (hf.I (f := 4) (k := 8) rfl this).trans h.2.2.2.2⟩
theorem KAx.stk (h : KAx A W w c k br nq nk np nh nr this Ex a lo st2 kn M) (hf : Fr (285793394306920833441610418092098634655629245793956098678773267955742373149291514664653927800704880150373913388423749690746007967577679155184353688551864105050094392601490879904551645289937784458453139617535910572704774231271588108092253680499408135958507227058036551719659148821493652464309016970613693109544906508636480672894494640559860467878289647366663850331954867463170600301178621010101029372654264171297982037231491311892858947537525986757827169736600317880446647247045504644272222656049350793825164158207773197137018282319813594316800) M M') (hl : st.length ≤ sr (gmt (gc W c) k)) (h2 : mI M' 4 this 2 = Int32.ofNat st.length) (hk : KL A (co (gmt (gc W c) k)) 32 st this M') : KAx A W w c k br nq nk np nh nr this Ex a lo st kn M' := by
  obtain ⟨h1, ⟨⟨s1, s2⟩, ⟨s3, s4⟩, ⟨s5, s6, s7⟩, s8, s9⟩, h3, h4, h5⟩ := h
  exact ⟨h1.fr hf, ⟨⟨(hf.L (f := 31) rfl this).trans s1, (hf.L (f := 32) rfl this).trans s2⟩, ⟨fun i hi => ⟨(hf.Ia (f := 31) rfl rfl this i).trans (s3 i hi).1, (s3 i hi).2⟩, s4⟩, ⟨hk, h2, hl⟩, (hf.I (f := 4) (k := 3) rfl this).trans s8, (hf.I (f := 4) (k := 8) rfl this).trans s9⟩, h3.fr hf, (hf.I (f := 4) (k := 7) rfl this).trans h4, h5⟩
theorem c_handlesI {h0 t : Nat} (h : KAx A W w c k br nq nk np nh nr this (EI A (gmt (gc W c) k) this s) a lo st kn M) (hq : mI M 64 w (moff W c + k) = Int32.ofNat h0) (hh0 : h0 ≤ 30000) (ht : t < (hs (gmt (gc W c) k)).length)
    (hP : KRx A W w c k br nq nk np nh nr this (EI A (gmt (gc W c) k) this) a lo st kn (if sr (gmt (gc W c) k) = 0 then (30, s) else jnS W s (ghn (hs (gmt (gc W c) k)) t).2.2.1 lo [(2, if (ghn (hs (gmt (gc W c) k)) t).2.2.2 = nAny then nFault else (ghn (hs (gmt (gc W c) k)) t).2.2.2)]) Q) : w_Checker_handles this (Int32.ofNat (4 * (h0 + t))) Q M := by
  have hA := h.1.na
  have hla := h.1.la
  have hm := h.1.mlt
  have hsr := h.1.sr
  have hr := h.1.rm
  have hL := L_le w
  have hh := h.ht
  obtain ⟨⟨g1, g2, g3, g4, g5⟩, hlt, hwf⟩ := h.1.hnd hq hh0 ht
  generalize ghn (hs (gmt (gc W c) k)) t = H at g1 g2 g3 g4 g5 hwf hP
  obtain ⟨w1, w2, w3, w4⟩ := hwf
  unfold w_Checker_handles
  refine ⟨w, h.1.r, ?_⟩
  rw [h.1.m6, oN_tnc (k := moff W c + k) (by omega), hsr.1, h.1.ml (by omega) (by omega)]
  refine ⟨(vp_oN (by omega)).mpr hm, ?_⟩
  by_cases c0 : sr (gmt (gc W c) k) = 0
  · rw [if_pos c0] at hP
    exact itp (by rw [c0]; rfl) (h.brk (r := 30) (fun M' q => ⟨Or.inl rfl, hP.1 (Nat.succ_ne_zero _) M' q⟩))
  rw [if_neg c0] at hP
  refine itn (ne_oN (b := 0) c0 (by omega) (by omega)) ⟨by rw [h.2.1.1.2]; exact (vp_oN (a := 0) (by omega)).mpr (by omega), w, h.1.r, ?_⟩
  have f1 : Fr (285793394306920833441610418092098634655629245793956098678773267955742373149291514664653927800704880150373913388423749690746007967577679155184353688551864105050094392601490879904551645289937784458453139617535910572704774231271588108092253680499408135958507227058036551719659148821493652464309016970613693109544906508636480672894494640559860467878289647366663850331954867463170600301178621010101029372654264171297982037231491311892858947537525986757827169736600317880446647247045504644272222656049350793825164158207773197137018282319809299349504) M (sI M 4 this 2 1) := Fr.wI rfl (Fr.rf _ _)
  have g4' : mI (sI M 4 this 2 1) 75 w (4 * (h0 + t) + 3) = nc A H.2.2.2 := (f1.Ia (f := 75) rfl rfl w _).trans g4
  have l75 : mL (sI M 4 this 2 1) 75 w = L75 w := hr.2.2.2.1
  rw [show Int32.ofNat (4 * (h0 + t)) + (3 : Int32) = Int32.ofNat (4 * (h0 + t) + 3) from oN_add _ 3, oN_tnc (k := 4 * (h0 + t) + 3) (by omega), g4', l75, hh.1]
  refine ⟨(vp_oN (by omega)).mpr (by omega), ?_⟩
  have step : ∀ nm, (if H.2.2.2 = nAny then nFault else H.2.2.2) = nm → nm ∈ A → w_Checker_handles_j76 this Q (Int32.ofNat (4 * (h0 + t))) (Int32.ofNat st.length) (mI M 32 this (0 : Int32).toNatClampNeg) (nc A nm) 0 (sI M 4 this 2 1) := fun nm en hn => by
    rw [en] at hP
    unfold w_Checker_handles_j76 w_Works_kindOf
    rw [show nc A nm + 2 = kC A (2, nm) from oN_add _ 2, show (0 : Int32).toNatClampNeg = 0 from rfl, show Int32.ofNat (4 * (h0 + t)) + (2 : Int32) = Int32.ofNat (4 * (h0 + t) + 2) from oN_add _ 2, oN_tnc (k := 4 * (h0 + t) + 2) (by omega)]
    have f2 : Fr (285793394306920833441610418092098634655629245793956098678773267955742373149291514664653927800704880150373913388423749690746007967577679155184353688551864105050094392601490879904551645289937784458453139617535910572704774231271588108092253680499408135958507227058036551719659148821493652464309016970613693109544906508636480672894494640559860467878289647366663850331954867463170600301178621010101029372654264171297982037231491311892858947537525986757827169736600317880446647247045504644272222656049350793825164158207773197137018282319813594316800) M (sI (sI M 4 this 2 1) 32 this 0 (kC A (2, nm))) := Fr.wIa rfl rfl (f1.sub rfl)
    have g3' : mI (sI (sI M 4 this 2 1) 32 this 0 (kC A (2, nm))) 75 w (4 * (h0 + t) + 2) = Int32.ofNat H.2.2.1 := (f2.Ia (f := 75) rfl rfl w _).trans g3
    have h2 : KAx A W w c k br nq nk np nh nr this (EI A (gmt (gc W c) k) this s) a lo [(2, nm)] kn (sI (sI M 4 this 2 1) 32 this 0 (kC A (2, nm))) := h.stk f2 (by show 1 ≤ _; omega) (by rw [mI_sI, if_neg (fun z => absurd z.1 (by decide)), mI_sI, if_pos ⟨rfl, rfl, rfl⟩]; rfl) (fun i hi => by
      have : i = 0 := by
        have : i < 1 := hi
        omega
      subst this
      exact ⟨by rw [mI_sI, if_pos ⟨rfl, rfl, rfl⟩]; rfl, kwf_cls hn⟩)
    have l75' : mL (sI (sI M 4 this 2 1) 32 this 0 (kC A (2, nm))) 75 w = L75 w := hr.2.2.2.1
    have r32 : ∀ i, i ≠ 0 → mI (sI (sI M 4 this 2 1) 32 this 0 (kC A (2, nm))) 32 this i = mI M 32 this i := fun i hi => by rw [mI_sI, if_neg (fun z => hi z.2.2), mI_sI, if_neg (fun z => absurd z.1 (by decide))]
    refine ⟨by show vp_in 0 (mL M 32 this); rw [h.2.1.1.2]; exact (vp_oN (a := 0) (by omega)).mpr (by omega), w, h.1.r, ?_⟩
    generalize sI (sI M 4 this 2 1) 32 this 0 (kC A (2, nm)) = M2 at f2 g3' h2 l75' r32 ⊢
    rw [g3', l75']
    refine ⟨(vp_oN (by omega)).mpr (by omega), c_joinsx h2 w3 (fun z M' q f => ?_) (fun z M' q f => ?_)⟩
    · have f3 : Fr (285793394306920833441610418092098634655629245793956098678773267955742373149291514664653927800704880150373913388423749690746007967577679155184353688551864105050094392601490879904551645289937784458453139617535910572704774231271588108092253680499408135958507227058036551719659148821493652464309016970613693109544906508636480672894494640559860467878289647366663850331954867463170600301178621010101029372654264171297982037231491311892858947537525986757827169736600317880446647247045504644272222656049350793825164158207773197137018282319813594316800) M' (sI (sI M' 4 this 2 (Int32.ofNat st.length)) 32 this 0 (mI M 32 this 0)) := Fr.wIa rfl rfl (Fr.wI rfl (Fr.rf _ _))
      refine ⟨by show vp_in 0 (mL M' 32 this); rw [q.2.1.1.2]; exact (vp_oN (a := 0) (by omega)).mpr (by omega), Or.inr rfl, hP.2 z _ (q.stk f3 hh.2.2 (by rw [mI_sI, if_neg (fun z => absurd z.1 (by decide)), mI_sI, if_pos ⟨rfl, rfl, rfl⟩]) (fun i hi => ?_))⟩
      by_cases e : i = 0
      · subst e
        rw [mI_sI, if_pos ⟨rfl, rfl, rfl⟩]
        exact h.2.1.2.2.1.1 0 hi
      · rw [mI_sI, if_neg (fun z => e z.2.2), mI_sI, if_neg (fun z => absurd z.1 (by decide)), f.Ia (f := 32) rfl rfl, r32 i e]
        exact h.2.1.2.2.1.1 i hi
    · have f3 : Fr (285793394306920833441610418092098634655629245793956098678773267955742373149291514664653927800704880150373913388423749690746007967577679155184353688551864105050094392601490879904551645289937784458453139617535910572704774231271588108092253680499408135958507227058036551719659148821493652464309016970613693109544906508636480672894494640559860467878289647366663850331954867463170600301178621010101029372654264171297982037231491311892858947537525986757827169736600317880446647247045504644272222656049350793825164158207773197137018282319813594316800) M' (sI (sI M' 4 this 2 (Int32.ofNat st.length)) 32 this 0 (mI M 32 this 0)) := Fr.wIa rfl rfl (Fr.wI rfl (Fr.rf _ _))
      exact ⟨by show vp_in 0 (mL M' 32 this); rw [q.2.1.2]; exact (vp_oN (a := 0) (by omega)).mpr (by omega), Or.inl rfl, hP.1 z _ (q.fr f3)⟩
  by_cases c4 : H.2.2.2 = nAny
  · refine itp (by rw [c4]; exact hA.any.1) ?_
    have := step nFault (by rw [if_pos c4]) hA.fault.2
    rw [hA.fault.1] at this
    exact this
  · refine itn (fun q => c4 ((nc_inj (by have := hA.1; omega) g5 hA.any.2).mp (q.trans hA.any.1.symm))) ⟨w, h.1.r, ?_⟩
    refine ⟨(vp_oN (by omega)).mpr (by omega), ?_⟩
    rw [g4']
    exact step H.2.2.2 (by rw [if_neg c4]) g5
theorem c_handlersI (h : KAx A W w c k br nq nk np nh nr this (EI A (gmt (gc W c) k) this s) a lo st kn M) (hP : KRx A W w c k br nq nk np nh nr this (EI A (gmt (gc W c) k) this) a lo st kn (handI W (gmt (gc W c) k) lo a (hs (gmt (gc W c) k)) s) Q) : w_Checker_handlers this Q M := by
  have loop : ∀ n j s M, (hs (gmt (gc W c) k)).length - j < n → j ≤ (hs (gmt (gc W c) k)).length → KAx A W w c k br nq nk np nh nr this (EI A (gmt (gc W c) k) this s) a lo st kn M → KRx A W w c k br nq nk np nh nr this (EI A (gmt (gc W c) k) this) a lo st kn (handI W (gmt (gc W c) k) lo a ((hs (gmt (gc W c) k)).drop j) s) Q → w_Checker_handlers_L2 this Q n (Int32.ofNat j) M := by
    intro n
    induction n with
    | zero => intro j s M hn; exact absurd hn (by omega)
    | succ n ih =>
      intro j s M hn hj h hP
      obtain ⟨q0, hh0, ⟨a1, a2, a3, a4, a5, a6, a7, a8⟩, hI, hH⟩ := h.1.mc
      have hL := L_le w
      have hb := h.1.kb
      unfold KB at hb
      have hr := h.1.rm
      have hm := h.1.mlt
      have a6' : mI M 65 w (moff W c + k) = Int32.ofNat (hs (gmt (gc W c) k)).length := a6
      have a8' : (hs (gmt (gc W c) k)).length ≤ 8 := a8
      have a7' : hh0 + (hs (gmt (gc W c) k)).length ≤ nh := a7
      have h80 := h.1.wf.2.2.1.1
      have ha := h.2.2.2.2
      unfold w_Checker_handlers_L2
      refine ⟨w, h.1.r, ?_⟩
      rw [h.1.m6, oN_tnc (k := moff W c + k) (by omega), a6']
      refine ⟨by rw [h.1.ml (by omega) (by omega)]; exact (vp_oN (by omega)).mpr hm, ?_⟩
      by_cases cj : (hs (gmt (gc W c) k)).length ≤ j
      · rw [List.drop_eq_nil_of_le cj] at hP
        exact itp (le_oN cj (by omega)) (hP.2 rfl M h)
      refine itn (nle_oN (by omega) (by omega)) ⟨w, h.1.r, by rw [h.1.ml (by omega) (by omega)]; exact (vp_oN (by omega)).mpr hm, ?_⟩
      have hd := h.1.hnd a5 (by omega) (show j < (hs (gmt (gc W c) k)).length by omega)
      have hhs : KRx A W w c k br nq nk np nh nr this (EI A (gmt (gc W c) k) this) a lo st kn (if sr (gmt (gc W c) k) = 0 then (30, s) else jnS W s (ghn (hs (gmt (gc W c) k)) j).2.2.1 lo [(2, if (ghn (hs (gmt (gc W c) k)) j).2.2.2 = nAny then nFault else (ghn (hs (gmt (gc W c) k)) j).2.2.2)]) (fun r49 M48 => if r49 = 0 then (Q (0 : Int32) M48) else (w_Checker_handlers_j234 this Q (w_Checker_handlers_L2 this Q n) (Int32.ofNat j) M48)) → w_Checker_handles this (Int32.ofNat (4 * (hh0 + j))) (fun r49 M48 => if r49 = 0 then (Q (0 : Int32) M48) else (w_Checker_handlers_j234 this Q (w_Checker_handlers_L2 this Q n) (Int32.ofNat j) M48)) M := fun z => c_handlesI h a5 (by omega) (by omega) z
      rw [handI_drop (by omega)] at hP
      generalize ghn (hs (gmt (gc W c) k)) j = H at hd hP hhs
      obtain ⟨⟨g1, g2, g3, g4, g5⟩, hlt, w1, w2, w3, w4⟩ := hd
      rw [a5, oN_add, show (4 : Int32) * Int32.ofNat (hh0 + j) = Int32.ofNat (4 * (hh0 + j)) from oN_mul 4 _]
      refine ⟨_, rfl, w, h.1.r, ?_⟩
      rw [oN_tnc (by omega), g1, h.2.2.2.1, hr.2.2.2.1]
      refine ⟨(vp_oN (by omega)).mpr (by omega), ?_⟩
      have next : ∀ s M, KAx A W w c k br nq nk np nh nr this (EI A (gmt (gc W c) k) this s) a lo st kn M → KRx A W w c k br nq nk np nh nr this (EI A (gmt (gc W c) k) this) a lo st kn (handI W (gmt (gc W c) k) lo a ((hs (gmt (gc W c) k)).drop (j + 1)) s) Q → w_Checker_handlers_j234 this Q (w_Checker_handlers_L2 this Q n) (Int32.ofNat j) M := fun s M h e2 => by
        unfold w_Checker_handlers_j234
        rw [show Int32.ofNat j + (1 : Int32) = Int32.ofNat (j + 1) from oN_add j 1]
        exact ih (j + 1) s M (by omega) (by omega) h e2
      by_cases c1 : a < H.1
      · rw [if_pos (Or.inl c1)] at hP
        exact itp (lt_oN c1 (by omega)) (next s M h hP)
      refine itn (nlt_oN (by omega) (by omega)) ⟨w, h.1.r, ?_⟩
      rw [show Int32.ofNat (4 * (hh0 + j)) + (1 : Int32) = Int32.ofNat (4 * (hh0 + j) + 1) from oN_add _ 1, oN_tnc (by omega), g2, hr.2.2.2.1]
      refine ⟨(vp_oN (by omega)).mpr (by omega), ?_⟩
      by_cases c2 : a < H.2.1
      · rw [if_neg (by omega)] at hP
        refine itp (lt_oN c2 (by omega)) ?_
        rw [h.2.2.1.1.2.2.1]
        refine itn (by decide) (hhs ?_)
        by_cases c0 : sr (gmt (gc W c) k) = 0
        · rw [if_pos c0] at hP ⊢
          exact ⟨fun z M' q => itp rfl (hP.1 z M' q), fun z => absurd z (Nat.succ_ne_zero _)⟩
        · rw [if_neg c0] at hP ⊢
          refine ⟨fun z M' q => ?_, fun z M' q => ?_⟩
          · rw [if_neg z] at hP
            exact itp rfl (hP.1 z M' q)
          · rw [if_pos z] at hP
            exact itn (by decide) (next _ M' q hP)
      · rw [if_pos (by omega)] at hP
        exact itn (nlt_oN (by omega) (by omega)) (next s M h hP)
  unfold w_Checker_handlers
  exact ⟨(hs (gmt (gc W c) k)).length + 1, loop _ 0 s M (by omega) (by omega) h hP⟩
theorem HH_I : HHx A W w c k br nq nk np nh nr this (EI A (gmt (gc W c) k) this) a (fun lo s => handI W (gmt (gc W c) k) lo a (hs (gmt (gc W c) k)) s) kn := fun lo st s M Q h hP => c_handlersI h hP
theorem c_storeG {σ : Type} {Ey : σ → Mem → Prop} {hd : List Kd → σ → Nat × σ} {z : σ} {j : Nat} (hH : HHx A W w c k br nq nk np nh nr this Ey a hd kn) (h : KAx A W w c k br nq nk np nh nr this (Ey z) a lo st kn M) (hj : j < lr (gmt (gc W c) k)) (hs1 : 1 ≤ st.length) (hP : KRx A W w c k br nq nk np nh nr this Ey a (lo.set j (tp st 0)) (st.take (st.length - 1)) kn (hd (lo.set j (tp st 0)) z) Q) : w_Checker_store this (Int32.ofNat j) Q M := by
  unfold w_Checker_store
  have hh := h.ht
  have hlr := h.1.lr.2
  obtain ⟨g1, g2⟩ := h.sv (d := 0) hs1
  have hp := h.pop hs1
  have e2 : mI (sI M 4 this 2 (mI M 4 this 2 - 1)) 4 this 2 = Int32.ofNat (st.length - 1) := by
    simp only [mI_sI, mI_sR, mI_sJ, mR_sI, mL_sI, mL_sR, mR_sR, Nat.reduceEqDiff, and_false, false_and, if_false, and_self, true_and, and_true, if_true]
    rw [hh.1]; exact oN_sub (b := 1) hs1
  have e3 : mI (sI M 4 this 2 (mI M 4 this 2 - 1)) 32 this (st.length - 1) = kC A (tp st 0) := by
    simp only [mI_sI, mI_sR, mI_sJ, mR_sI, mL_sI, mL_sR, mR_sR, Nat.reduceEqDiff, and_false, false_and, if_false, and_self, true_and, and_true, if_true]; exact g1
  rw [show (Int32.ofNat 1) = (1 : Int32) from rfl] at hp
  generalize hM1 : sI M 4 this 2 (mI M 4 this 2 - 1) = M1 at e2 e3 hp ⊢
  rw [e2, oN_tnc (k := j) (by omega), oN_tnc (k := st.length - 1) (by omega), e3]
  refine ⟨by rw [hp.2.1.1.2]; exact (vp_oN (by omega)).mpr (by omega), by rw [hp.2.1.1.1]; exact (vp_oN (by omega)).mpr (by omega), _, rfl, ?_⟩
  have hll : lo.length = lr (gmt (gc W c) k) := h.2.1.2.1.2
  have hA2 : KAx A W w c k br nq nk np nh nr this (Ey z) a (lo.set j (tp st 0)) (st.take (st.length - 1)) kn (sI M1 31 this j (kC A (tp st 0))) := by
    refine hp.reL (Fr.wIa rfl rfl (Fr.rf _ _)) (by rw [List.length_set]) (fun i hi => ?_)
    rw [List.length_set] at hi
    rw [gk_set (by omega)]
    by_cases e : i = j
    · rw [if_pos e, e]
      exact ⟨by simp only [mI_sI, mI_sR, mI_sJ, mR_sI, mL_sI, mL_sR, mR_sR, Nat.reduceEqDiff, and_false, false_and, if_false, and_self, true_and, and_true, if_true], g2⟩
    · rw [if_neg e, mI_sI, if_neg (fun q => e q.2.2)]
      exact hp.2.1.2.1.1 i hi
  exact hH _ _ _ _ _ hA2 hP.q
end
