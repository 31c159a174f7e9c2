/-! KINDS in the works: an instruction's work while it infers -/
/-- an instruction's work, and the handlers behind it -/
def actG {σ : Type} (hd : List Kd → σ → Nat × σ) (W : List Cls) (c : Nat) (x : Mth) (a : Nat) (lo st : List Kd) (s : σ) : Nat × σ :=
  if preI W c x a lo st ≠ 0 then (preI W c x a lo st, s)
  else if isH (gin (co x) a) then hd (loS W c (gin (co x) a) lo st) s else (0, s)
theorem actG_no {σ : Type} {hd : List Kd → σ → Nat × σ} {W : List Cls} {c : Nat} {x : Mth} {a : Nat} {lo st : List Kd} {s : σ} (hn : ¬ isH (gin (co x) a)) : actG hd W c x a lo st s = (preI W c x a lo st, s) := by
  unfold actG
  by_cases e : preI W c x a lo st = 0
  · rw [if_neg (fun z => z e), if_neg hn, e]
  · rw [if_pos e]
theorem actS_no {W : List Cls} {c : Nat} {x : Mth} {a : Nat} {lo st : List Kd} (hn : ¬ isH (gin (co x) a)) : actS W c x (gin (co x) a) a lo st = if preI W c x a lo st ≠ 0 then .inl (preI W c x a lo st) else .inr (loS W c (gin (co x) a) lo st, stS W c x (gin (co x) a) a lo st) := by
  unfold actS preI
  by_cases c1 : takenS W c x (gin (co x) a) lo st = 0
  · simp only [c1, ne_eq, not_true_eq_false, if_false]
    by_cases c2 : ownS W c x (gin (co x) a) lo st = 0
    · simp only [c2, not_true_eq_false, if_false]
      by_cases c3 : sr x < (stS W c x (gin (co x) a) a lo st).length
      · rw [if_pos c3, if_pos c3]; rfl
      · rw [if_neg c3, if_neg c3]
        exact (if_neg (fun q => hn q.1)).trans (if_neg (fun z => z rfl)).symm
    · simp only [c2, not_false_eq_true, if_true]
  · simp only [c1, ne_eq, not_false_eq_true, if_true]
/-- an instruction that stores -/
theorem actG_st {σ : Type} {hd : List Kd → σ → Nat × σ} {W : List Cls} {c : Nat} {x : Mth} {a : Nat} {lo st : List Kd} {s : σ} {t : Wt} (h : (gin (co x) a).1 = 5 ∨ (gin (co x) a).1 = 6) (e1 : wlist W c x (gin (co x) a) = [t]) (hl : st.length ≤ sr x) : actG hd W c x a lo st s = if lr x ≤ iL (gin (co x) a) then (33, s) else if takeS W st [t] ≠ 0 then (takeS W st [t], s) else hd (loS W c (gin (co x) a) lo st) s := by
  generalize hi : gin (co x) a = i at h e1
  have e2 : ownS W c x i lo st = 0 := by rcases h with h | h <;> simp [ownS, h]
  have e3 : pushS i a lo st = [] := by rcases h with h | h <;> simp [pushS, h]
  have e4 : ¬ isMk i := fun q => by have := q.1; omega
  have e6 : stS W c x i a lo st = st.take (st.length - 1) := by unfold stS restS; rw [if_neg (by omega), if_neg e4, e1, e3, List.append_nil]; rfl
  have e7 : takenS W c x i lo st = if lr x ≤ iL i then 33 else takeS W st [t] := by
    unfold takenS
    rw [e1]
    by_cases c1 : lr x ≤ iL i
    · rw [if_pos ⟨by omega, c1⟩, if_pos c1]
    · rw [if_neg (fun q => c1 q.2), if_neg c1]
      by_cases c2 : takeS W st [t] = 0
      · rw [c2, if_neg (by simp), if_neg (by
          rintro (q | q)
          · omega
          · omega)]
      · rw [if_pos c2]
  have hlt : (st.take (st.length - 1)).length ≤ sr x := by rw [List.length_take]; omega
  have eH : isH i := by
    rcases h with h | h
    · exact Or.inl h
    · exact Or.inr (Or.inl h)
  have eP : preI W c x a lo st = if lr x ≤ iL i then 33 else takeS W st [t] := by
    unfold preI
    rw [hi, e2, e6, e7]
    by_cases c1 : (if lr x ≤ iL i then 33 else takeS W st [t]) = 0
    · rw [if_neg (fun z => z c1), if_neg (fun z => z rfl), if_neg (by omega), c1]
    · rw [if_pos c1]
  unfold actG
  rw [eP, hi, if_pos eH]
  by_cases c1 : lr x ≤ iL i
  · rw [if_pos c1, if_pos c1, if_pos (by decide)]
  · rw [if_neg c1, if_neg c1]
section
variable {A : List Nm} {W : List Cls} {w c k this : Nat} {br : Int32} {nq nk np nh nr a : Nat} {lo st st2 : List Kd} {kn : Bool} {M M' : Mem} {Q : Int32 → Mem → Prop} {Ex : Mem → Prop} {σ : Type} {Ey : σ → Mem → Prop} {hd : List Kd → σ → Nat × σ} {s : σ}
theorem c_actP {q : Nat} (h : KAx A W w c k br nq nk np nh nr this Ex a lo st kn M) (hq0 : ∃ q0, mI M 62 w (moff W c + k) = Int32.ofNat q0 ∧ q0 ≤ 30000 ∧ q = q0 + a) (hB : ∀ v n, actV A w nr (gin (co (gmt (gc W c) k)) a) v M → wfI n (gin (co (gmt (gc W c) k)) a) → actB this Q (Int32.ofNat (gin (co (gmt (gc W c) k)) a).1) v M) : w_Checker_act this (Int32.ofNat q) Q M := by
  obtain ⟨q0, hq, h3, eq⟩ := hq0
  have hL := L_le w
  have hr := h.1.rm
  obtain ⟨hi, hlt, -⟩ := h.1.ins hq h3 h.2.2.2.2
  rw [← eq] at hi hlt
  have hwf := h.1.wf.2.2.1.2 (gin (co (gmt (gc W c) k)) a) (by
    show (co (gmt (gc W c) k)).getD a _ ∈ _
    rw [List.getD_eq_getElem?_getD, List.getElem?_eq_getElem h.2.2.2.2]; exact List.getElem_mem h.2.2.2.2)
  generalize hg : gin (co (gmt (gc W c) k)) a = i at hi hwf hB
  have o62 := hwf.1
  have hv : actV A w nr i (mI M 67 w q) M := by
    obtain ⟨pf, hop, -⟩ := hi.2.1
    have hop := hop.1
    unfold cOp0 at hop
    refine ⟨fun e => ?_, fun e => ?_, fun e => ?_⟩
    · rw [if_pos e] at hop; exact hop
    · rw [if_neg (by omega), if_pos e] at hop; obtain ⟨r, r1, r2, r3⟩ := hop; exact ⟨r, r1, r2.1, r3⟩
    · rw [if_neg (by omega), if_neg (by omega), if_neg (by omega), if_neg (by omega)] at hop
      obtain ⟨b, eb, hb⟩ := hwf.2.1.1 e
      have e1 : mI M 67 w q = iV i := hop.1
      have e2 : iL i = b := by show (iV i).toNatClampNeg = b; rw [eb, oN_tnc (by omega)]
      exact ⟨by rw [e1, e2, eb], by omega⟩
  unfold w_Checker_act
  refine ⟨w, h.1.r, by rw [hr.1 66 (by omega) (by omega)]; exact (vp_oN (by omega)).mpr hlt, w, h.1.r, ?_⟩
  rw [oN_tnc (by omega), hi.1.1]
  refine ⟨by rw [hr.1 67 (by omega) (by omega)]; exact (vp_oN (by omega)).mpr hlt, ?_⟩
  exact hB (mI M 67 w q) _ hv hwf
theorem k_act5G {v : Int32} {n : Nat} (hH : HHx A W w c k br nq nk np nh nr this Ey a hd kn) (h : KAx A W w c k br nq nk np nh nr this (Ey s) a lo st kn M) (ho : (gin (co (gmt (gc W c) k)) a).1 = 5) (hv : actV A w nr (gin (co (gmt (gc W c) k)) a) v M) (hP : KRx A W w c k br nq nk np nh nr this Ey a (loS W c (gin (co (gmt (gc W c) k)) a) lo st) (stS W c (gmt (gc W c) k) (gin (co (gmt (gc W c) k)) a) a lo st) kn (actG hd W c (gmt (gc W c) k) a lo st s) Q) : actB this Q (Int32.ofNat 5) v M := by
  have hh := h.ht
  have hla := h.1.la
  have hlr := h.1.lr.2
  obtain ⟨ev, h19⟩ := hv.2.2 (by omega)
  subst ev
  have e1 : wlist W c (gmt (gc W c) k) (gin (co (gmt (gc W c) k)) a) = [wNum] := by
    generalize gin (co (gmt (gc W c) k)) a = i at ho ⊢
    simp [wlist, ho]
  rw [actG_st (Or.inl ho) e1 hh.2.2] at hP
  generalize gin (co (gmt (gc W c) k)) a = i at ho h19 hP e1
  have e3 : pushS i a lo st = [] := by simp [pushS, ho]
  have e4 : ¬ isMk i := fun q => by have := q.1; omega
  have e5 : loS W c i lo st = lo.set (iL i) (0, []) := by simp [loS, ho]
  have e6 : stS W c (gmt (gc W c) k) i a lo st = st.take (st.length - 1) := by unfold stS restS; rw [if_neg (by omega), if_neg e4, e1, e3, List.append_nil]; rfl
  rw [e5, e6] at hP
  unfold actB w_Checker_act_j61 w_Works_isIn
  (repeat (first | refine itp (by decide) ?_ | refine itn (by decide) ?_))
  refine c_isTherex h (by omega) (fun z M' q => ?_) (fun z => ?_)
  · rw [if_pos z] at hP; exact itp rfl (hP.1 (Nat.succ_ne_zero _) M' q)
  rw [if_neg (by omega)] at hP
  refine itn (by decide) ?_
  refine c_wants1x (t := wNum) h wokN (fun y M' q => ?_) (fun y1 y2 => ?_)
  · rw [if_pos y] at hP; exact itp rfl (hP.1 y M' q)
  rw [if_neg (by omega)] at hP
  obtain ⟨s1, s2⟩ := h.sv (d := 0) y2
  have e0 : tp st 0 = (0, []) := by
    have hF : wOne W wNum (tp st 0) = 0 := Decidable.byContradiction (fun q => by
      by_cases q2 : wOne W wNum (tp st 0) = 39
      · have : wOne W wNum (tp st 0) = if (tp st 0).1 = 0 then 0 else 32 := rfl
        rw [this] at q2
        split at q2 <;> exact absurd q2 (by decide)
      · have hF : wFst W st 0 [wNum] = wOne W wNum (tp st 0) := by rw [wFst_cons, if_neg (by omega)]
        rw [takeS_fst (by simpa using y2) (by rw [hF]; exact q), hF] at y1
        exact q y1)
    have : wOne W wNum (tp st 0) = if (tp st 0).1 = 0 then 0 else 32 := rfl
    rw [this] at hF
    have h0 : (tp st 0).1 = 0 := Decidable.byContradiction (fun q => by rw [if_neg q] at hF; exact absurd hF (by decide))
    rcases s2.rg with q | q
    · omega
    · exact kd_ext h0 q.1
  rw [← e0] at hP
  exact itn (by decide) (c_storeG hH h z y2 ⟨fun y M' q => itp rfl (hP.1 y M' q), fun y M' q => itn (by decide) (hP.2 y M' q)⟩)
theorem k_act6G {v : Int32} {n : Nat} (hH : HHx A W w c k br nq nk np nh nr this Ey a hd kn) (h : KAx A W w c k br nq nk np nh nr this (Ey s) a lo st kn M) (ho : (gin (co (gmt (gc W c) k)) a).1 = 6) (hv : actV A w nr (gin (co (gmt (gc W c) k)) a) v M) (hP : KRx A W w c k br nq nk np nh nr this Ey a (loS W c (gin (co (gmt (gc W c) k)) a) lo st) (stS W c (gmt (gc W c) k) (gin (co (gmt (gc W c) k)) a) a lo st) kn (actG hd W c (gmt (gc W c) k) a lo st s) Q) : actB this Q (Int32.ofNat 6) v M := by
  have hh := h.ht
  have hla := h.1.la
  have hlr := h.1.lr.2
  obtain ⟨ev, h19⟩ := hv.2.2 (by omega)
  subst ev
  have e1 : wlist W c (gmt (gc W c) k) (gin (co (gmt (gc W c) k)) a) = [wSto] := by
    generalize gin (co (gmt (gc W c) k)) a = i at ho ⊢
    simp [wlist, ho]
  rw [actG_st (Or.inr ho) e1 hh.2.2] at hP
  generalize gin (co (gmt (gc W c) k)) a = i at ho h19 hP e1
  have e3 : pushS i a lo st = [] := by simp [pushS, ho]
  have e4 : ¬ isMk i := fun q => by have := q.1; omega
  have e5 : loS W c i lo st = lo.set (iL i) (tp st 0) := by simp [loS, ho]
  have e6 : stS W c (gmt (gc W c) k) i a lo st = st.take (st.length - 1) := by unfold stS restS; rw [if_neg (by omega), if_neg e4, e1, e3, List.append_nil]; rfl
  rw [e5, e6] at hP
  unfold actB w_Checker_act_j61 w_Works_isIn
  (repeat (first | refine itp (by decide) ?_ | refine itn (by decide) ?_))
  refine c_isTherex h (by omega) (fun z M' q => ?_) (fun z => ?_)
  · rw [if_pos z] at hP; exact itp rfl (hP.1 (Nat.succ_ne_zero _) M' q)
  rw [if_neg (by omega)] at hP
  refine itn (by decide) ?_
  have hrule : 1 ≤ st.length → takeS W st [wSto] = if (rfK (tp st 0) || umK (tp st 0)) = true then 0 else 32 := fun y => by
    have hW : wOne W wSto (tp st 0) = if (rfK (tp st 0) || umK (tp st 0)) = true then 0 else 32 := rfl
    by_cases c1 : (rfK (tp st 0) || umK (tp st 0)) = true
    · rw [if_pos c1] at hW
      have hF : wFst W st 0 [wSto] = 0 := by rw [wFst_cons, if_pos (Or.inl hW)]; rfl
      rw [takeS_un (by simpa using y) hF, wUn_cons, hW, if_pos c1]; rfl
    · rw [if_neg c1] at hW
      have hF : wFst W st 0 [wSto] = 32 := by rw [wFst_cons, hW]; rfl
      rw [takeS_fst (by simpa using y) (by rw [hF]; decide), hF, if_neg c1]
  refine c_needsx (n := 1) h (by omega) (fun y M' q => ?_) (fun y => ?_)
  · rw [takeS_lt (by simpa using y), if_pos (by decide)] at hP; exact itp rfl (hP.1 (by show (31 : Nat) ≠ 0; decide) M' q)
  rw [hrule y] at hP
  obtain ⟨s1, s2⟩ := h.sv (d := 0) y
  rw [show st.length - 1 - 0 = st.length - 1 by omega] at s1
  refine itn (by decide) ?_
  rw [hh.1, show Int32.ofNat st.length - (1 : Int32) = Int32.ofNat (st.length - 1) from oN_sub (b := 1) y, oN_tnc (by omega), s1, h.2.1.1.2]
  refine ⟨(vp_oN (by omega)).mpr (by omega), c_isUnmade s2 hla ?_⟩
  have go : (rfK (tp st 0) || umK (tp st 0)) = true → w_Checker_act_j657 this Q (Int32.ofNat (iL i)) M := fun hn => by
    rw [if_pos hn, if_neg (by simp)] at hP
    unfold w_Checker_act_j657
    exact c_storeG hH h z y ⟨fun y M' q => itp rfl (hP.1 y M' q), fun y M' q => itn (by decide) (hP.2 y M' q)⟩
  cases c2 : umK (tp st 0) with
  | true => exact itn (by decide) (go (by rw [c2, Bool.or_true]))
  | false =>
    refine itp rfl (c_isx (d := 0) (t := wRef) h (by omega) wokF (fun x => ?_) (fun x1 x2 M' q => ?_))
    · have hW : wOne W wRef (tp st 0) = if umK (tp st 0) = true then 39 else if rfK (tp st 0) = true then 0 else 32 := rfl
      rw [hW, c2, if_neg (by decide)] at x
      refine itn (by decide) (go ?_)
      cases c1 : rfK (tp st 0) with
      | true => rfl
      | false => rw [c1] at x; exact absurd x (by decide)
    · have hW : wOne W wRef (tp st 0) = if umK (tp st 0) = true then 39 else if rfK (tp st 0) = true then 0 else 32 := rfl
      rw [c2, if_neg (by decide)] at hW
      cases c1 : rfK (tp st 0) with
      | true => rw [c1, if_pos rfl] at hW; exact absurd hW x1
      | false =>
        rw [c1, if_neg (by decide)] at hW
        rw [hW] at q
        have e32 : (if (rfK (tp st 0) || umK (tp st 0)) = true then 0 else 32) = 32 := by rw [c1, c2]; rfl
        rw [e32, if_pos (by decide)] at hP
        exact itp rfl (hP.1 (Nat.succ_ne_zero _) M' q)
/-- a maker's call, behind the wants -/
theorem c_callMG {i : Ins} {r : Nat} {κ : Int32} {ws : List Wt} (hH : HHx A W w c k br nq nk np nh nr this Ey a hd kn) (h : KAx A W w c k br nq nk np nh nr this (Ey s) a lo st kn M) (hR : cRf A w r (iK i) (iM i) (iA i) (iR i) M) (hr : r < nr) (hres : kwf A (co (gmt (gc W c) k)) (iR i)) (hws : wlist W c (gmt (gc W c) k) i = ws) (hle : ws.length ≤ st.length) (hm : isMk i) (hk1 : (iA i).length < ws.length) (hk2 : κ = kC A (tp st (iA i).length))
    (hP : KRx A W w c k br nq nk np nh nr this Ey a (loS W c i lo st) (stS W c (gmt (gc W c) k) i a lo st) kn (hd (loS W c i lo st) s) Q) : w_Checker_call_j322 this Q (Int32.ofNat r) (b2 true) (Int32.ofNat ws.length) κ M := by
  have hb := h.1.kb
  unfold KB at hb
  have hla := h.1.la
  have hh := h.ht
  have hp := h.pop hle
  have ho : i.1 = 51 := hm.1
  have hR1 := hR.fr (S := (285793394306920833441610418092098634655629245793956098678773267955742373149291514664653927800704880150373913388423749690746007967577679155184353688551864105050094392601490879904551645289937784458453139617535910572704774231271588108092253680499408135958507227058036551719659148821493652464309016970613693109544906508636480672894494640559860467878289647366663850331954867463170600301178621010101029372654264171297982037231491311892858947537525986757827169736600317880446647247045504644272222656049350793825164158207773197137018282319809299349504)) (M' := sI M 4 this 2 (mI M 4 this 2 - Int32.ofNat ws.length)) (Fr.wI rfl (Fr.rf _ _))
  have hlen : (st.take (st.length - ws.length)).length = st.length - ws.length := by rw [List.length_take]; omega
  unfold w_Checker_call_j322
  have hbel := h.sv (d := (iA i).length) (by omega)
  have e1 : loS W c i lo st = lo.map (made W c i (tp st (iA i).length)) := by unfold loS; rw [if_neg (by omega), if_neg (by omega), if_pos hm]
  have e2 : stS W c (gmt (gc W c) k) i a lo st = (st.take (st.length - ws.length)).map (made W c i (tp st (iA i).length)) ++ (if (iR i).1 = -4 then [] else [iR i]) := by unfold stS restS; rw [if_neg (by omega), if_pos hm, hws, pushS_call (by omega)]
  rw [e1, e2] at hP
  have hl2 : ((st.take (st.length - ws.length)).map (made W c i (tp st (iA i).length)) ++ (if (iR i).1 = -4 then [] else [iR i])).length ≤ sr (gmt (gc W c) k) := by
    rw [List.length_append, List.length_map, hlen]
    have hp1 : (if (iR i).1 = -4 then [] else [iR i]).length ≤ 1 := by
      by_cases q : (iR i).1 = -4
      · rw [if_pos q]; exact Nat.zero_le 1
      · rw [if_neg q]; exact Nat.le_refl 1
    omega
  refine itn (by decide) ?_
  have cls : iK i ∈ A := hR.1.2
  have go : ∀ κ1, kwf A (co (gmt (gc W c) k)) κ1 → made W c i (tp st (iA i).length) = (fun κ => if κ = tp st (iA i).length then κ1 else κ) → w_Checker_call_j366 this Q (Int32.ofNat r) (kC A κ1) κ (sI M 4 this 2 (mI M 4 this 2 - Int32.ofNat ws.length)) := by
    intro κ1 hκ1 ef
    rw [ef] at hP hl2
    unfold w_Checker_call_j366
    rw [hk2]
    refine mf_w_Checker_change (Q := fun M' => Fr F_Checker_change (sI M 4 this 2 (mI M 4 this 2 - Int32.ofNat ws.length)) M' → _) (fun M' hf hp => hp hf) (c_changex hp hbel.2 hκ1 (fun M' hA2 hf => ?_))
    have hR2 := hR1.fr hf
    refine mf_w_Checker_handlers (Q := fun v M2 => Fr F_Checker_handlers M' M2 → _) (fun v M2 hf hp => hp hf) (hH _ _ _ _ _ hA2 ⟨fun z M2 q hf2 => itp rfl (hP.1 z M2 q), fun z M2 q hf2 => itn (by decide) ?_⟩)
    exact c_callRx q (hR2.fr hf2) hr hres (fun y => absurd hl2 (by omega)) (fun _ M3 q => hP.2 z M3 q)
  by_cases c3 : (tp st (iA i).length).1 = -3
  · refine itp (by rw [hk2]; exact (kC_eq (n := -3) hbel.2 hla (by omega)).mpr c3) (c_classKind hp.1 (fun hc => go _ hc ?_))
    funext κ'
    unfold made
    rw [if_pos c3]
  · refine itn (fun q => by rw [hk2] at q; exact c3 ((kC_eq (n := -3) hbel.2 hla (by omega)).mp q)) ⟨w, hp.1.r, c_refClass hR1 hp.1.rm (by omega) ?_⟩
    unfold w_Works_kindOf
    rw [show nc A (iK i) + 2 = kC A (2, iK i) from oN_add _ 2]
    refine go _ (kwf_cls cls) ?_
    funext κ'
    unfold made
    rw [if_neg c3]
theorem k_actMG {v : Int32} {n : Nat} (hH : HHx A W w c k br nq nk np nh nr this Ey a hd kn) (h : KAx A W w c k br nq nk np nh nr this (Ey s) a lo st kn M) (hm : isMk (gin (co (gmt (gc W c) k)) a)) (hv : actV A w nr (gin (co (gmt (gc W c) k)) a) v M) (hw : wfI n (gin (co (gmt (gc W c) k)) a)) (hP : KRx A W w c k br nq nk np nh nr this Ey a (loS W c (gin (co (gmt (gc W c) k)) a) lo st) (stS W c (gmt (gc W c) k) (gin (co (gmt (gc W c) k)) a) a lo st) kn (actG hd W c (gmt (gc W c) k) a lo st s) Q) : actB this Q (Int32.ofNat 51) v M := by
  obtain ⟨r, hr, ev, hR⟩ := hv.2.1 (by have := hm.1; omega)
  subst ev
  have eA : actG hd W c (gmt (gc W c) k) a lo st s = if preI W c (gmt (gc W c) k) a lo st ≠ 0 then (preI W c (gmt (gc W c) k) a lo st, s) else hd (loS W c (gin (co (gmt (gc W c) k)) a) lo st) s := by
    unfold actG
    rw [if_pos (show isH (gin (co (gmt (gc W c) k)) a) from Or.inr (Or.inr hm))]
  rw [eA] at hP
  unfold preI at hP
  have ho : (gin (co (gmt (gc W c) k)) a).1 = 51 := hm.1
  generalize gin (co (gmt (gc W c) k)) a = i at hP hm hR hw ho
  have hres : kwf A (co (gmt (gc W c) k)) (iR i) := kwf_kd hw.2.1.2.2.2.2.2.1 hR.2.2.1.2
  have lws : (wlist W c (gmt (gc W c) k) i).length = (iA i).length + 1 := by
    rw [wlist_call (by omega), List.length_append, List.length_map, List.length_reverse]
    unfold callT
    rw [if_neg (by omega), if_pos ho]; rfl
  have := c_callKx (Q := fun r M => (r = 0 ∨ r = 1) ∧ Q r M) h hR hr (by omega) hw ?_
  · rw [ho] at this
    unfold actB w_Checker_act_j61 w_Works_isIn
    (repeat (first | refine itp (by decide) ?_ | refine itn (by decide) ?_))
    exact this
  · by_cases c1 : takenS W c (gmt (gc W c) k) i lo st = 0
    · simp only [c1, ne_eq, not_true_eq_false, if_false] at hP ⊢
      by_cases c2 : ownS W c (gmt (gc W c) k) i lo st = 0
      · simp only [c2, not_true_eq_false, if_false] at hP ⊢
        intro κ e1 e2
        rw [decide_eq_true hm]
        have hh := h.ht
        have hlt : ¬ sr (gmt (gc W c) k) < (stS W c (gmt (gc W c) k) i a lo st).length := by
          unfold stS restS
          rw [if_neg (by omega), if_pos hm, pushS_call (by omega), List.length_append, List.length_map, List.length_take]
          have hp1 : (if (iR i).1 = -4 then [] else [iR i]).length ≤ 1 := by
            by_cases q : (iR i).1 = -4
            · rw [if_pos q]; exact Nat.zero_le 1
            · rw [if_neg q]; exact Nat.le_refl 1
          omega
        rw [if_neg hlt, if_neg (fun z => z rfl)] at hP
        exact c_callMG hH h hR hr hres rfl e2 hm (by omega) (e1 (by omega)) hP.q
      · simp only [c2, not_false_eq_true, if_true] at hP ⊢
        exact fun M' q => ⟨Or.inl (by trivial), hP.1 c2 M' q⟩
    · simp only [c1, ne_eq, not_false_eq_true, if_true] at hP ⊢
      exact fun M' q => ⟨Or.inl (by trivial), hP.1 c1 M' q⟩
theorem c_actG {q : Nat} (hH : HHx A W w c k br nq nk np nh nr this Ey a hd true) (h : KAx A W w c k br nq nk np nh nr this (Ey s) a lo st true M) (hq0 : ∃ q0, mI M 62 w (moff W c + k) = Int32.ofNat q0 ∧ q0 ≤ 30000 ∧ q = q0 + a) (hP : KRx A W w c k br nq nk np nh nr this Ey a (loS W c (gin (co (gmt (gc W c) k)) a) lo st) (stS W c (gmt (gc W c) k) (gin (co (gmt (gc W c) k)) a) a lo st) true (actG hd W c (gmt (gc W c) k) a lo st s) Q) : w_Checker_act this (Int32.ofNat q) Q M := by
  by_cases c1 : (gin (co (gmt (gc W c) k)) a).1 = 5
  · exact c_actP h hq0 (fun v n hv hw => by rw [c1]; exact k_act5G (n := n) hH h c1 hv hP)
  by_cases c2 : (gin (co (gmt (gc W c) k)) a).1 = 6
  · exact c_actP h hq0 (fun v n hv hw => by rw [c2]; exact k_act6G (n := n) hH h c2 hv hP)
  by_cases c3 : isMk (gin (co (gmt (gc W c) k)) a)
  · exact c_actP h hq0 (fun v n hv hw => by rw [c3.1]; exact k_actMG hH h c3 hv hw hP)
  have hn : ¬ isH (gin (co (gmt (gc W c) k)) a) := fun z => by
    rcases z with z | z | z
    · exact c1 z
    · exact c2 z
    · exact c3 z
  rw [actG_no hn] at hP
  refine c_actx h hq0 hn ?_
  rw [actS_no hn]
  by_cases c4 : preI W c (gmt (gc W c) k) a lo st = 0
  · rw [if_neg (fun z => z c4)]
    exact hP.2 c4
  · rw [if_pos c4]
    exact hP.1 c4
end
