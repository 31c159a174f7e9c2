/-! (printed by gen/kx.py) the works' checker at an instruction, for kinds -/
def KNx (A : List Nm) (W : List Cls) (w c k : Nat) (br : Int32) (nq nk np nh nr this : Nat) (Ex : Mem → Prop) (a : Nat) (s : KSt) (M : Mem) : Prop :=
  KE A W w c k br nq nk np nh nr this M ∧ KU A (gmt (gc W c) k) this s.1 s.2.1 s.2.2 M ∧ EX Ex M ∧ mI M 4 this 7 = Int32.ofNat a
def KPnx (A : List Nm) (W : List Cls) (w c k : Nat) (br : Int32) (nq nk np nh nr this : Nat) (Ex : Mem → Prop) (a : Nat) (res : Nat ⊕ KSt) (Q : Int32 → Mem → Prop) : Prop := match res with
  | .inl r => ∀ M', KZx A W w c k br nq nk np nh nr this Ex a r M' → Q 0 M'
  | .inr s => ∀ M', KNx A W w c k br nq nk np nh nr this Ex a s M' → Q 1 M'
section
variable {A : List Nm} {W : List Cls} {w c k this : Nat} {br : Int32} {nq nk np nh nr a : Nat} {lo st : List Kd} {kn : Bool} {M M' : Mem} {Q : Int32 → Mem → Prop} {Ex : Mem → Prop}
theorem k_act0x {i : Ins} {v : Int32} {n : Nat} (h : KAx A W w c k br nq nk np nh nr this Ex a lo st kn M) (ho : i.1 = 0) (hv : actV A w nr i v M) (hw : wfI n i) (hi : gin (co (gmt (gc W c) k)) a = i) (hP : KPx A W w c k br nq nk np nh nr this Ex a kn (actS W c (gmt (gc W c) k) i a lo st) Q) : actB this Q (Int32.ofNat 0) v M := by
  rw [actS_wc (by omega) (by omega) (fun q => by have := q.1; omega), show wlist W c (gmt (gc W c) k) i = [] by simp [wlist, ho], show ownS W c (gmt (gc W c) k) i lo st = 0 by simp [ownS, ho], show pushS i a lo st = [] by simp [pushS, ho]] at hP
  unfold actB w_Checker_act_j61 w_Works_isIn
  (repeat (first | refine itp (by decide) ?_ | refine itn (by decide) ?_))
  have hh := h.ht
  have e : st.take (st.length - ([] : List Wt).length) ++ [] = st := by rw [List.append_nil]; exact List.take_of_length_le (by simp)
  exact hP.good takeS_nil (by rw [e]; omega) M (by rw [e]; exact h)
theorem k_act1x {i : Ins} {v : Int32} {n : Nat} (h : KAx A W w c k br nq nk np nh nr this Ex a lo st kn M) (ho : i.1 = 1) (hv : actV A w nr i v M) (hw : wfI n i) (hi : gin (co (gmt (gc W c) k)) a = i) (hP : KPx A W w c k br nq nk np nh nr this Ex a kn (actS W c (gmt (gc W c) k) i a lo st) Q) : actB this Q (Int32.ofNat 1) v M := by
  rw [actS_wc (by omega) (by omega) (fun q => by have := q.1; omega), show wlist W c (gmt (gc W c) k) i = [] by simp [wlist, ho], show ownS W c (gmt (gc W c) k) i lo st = 0 by simp [ownS, ho], show pushS i a lo st = [(0, [])] by simp [pushS, ho]] at hP
  unfold actB w_Checker_act_j61 w_Works_isIn
  (repeat (first | refine itp (by decide) ?_ | refine itn (by decide) ?_))
  have hh := h.ht
  have e : st.take (st.length - ([] : List Wt).length) = st := List.take_of_length_le (by simp)
  exact c_pushx (κ := (0, [])) h kwf0 (fun z M' q => ⟨Or.inl rfl, hP.full takeS_nil (by rw [e, List.length_append, List.length_singleton]; omega) M' q⟩) (fun z M' q => ⟨Or.inr rfl, hP.good takeS_nil (by rw [e, List.length_append, List.length_singleton]; omega) M' (by rw [e]; exact q)⟩)
theorem k_act2x {i : Ins} {v : Int32} {n : Nat} (h : KAx A W w c k br nq nk np nh nr this Ex a lo st kn M) (ho : i.1 = 2) (hv : actV A w nr i v M) (hw : wfI n i) (hi : gin (co (gmt (gc W c) k)) a = i) (hP : KPx A W w c k br nq nk np nh nr this Ex a kn (actS W c (gmt (gc W c) k) i a lo st) Q) : actB this Q (Int32.ofNat 2) v M := by
  rw [actS_wc (by omega) (by omega) (fun q => by have := q.1; omega), show wlist W c (gmt (gc W c) k) i = [] by simp [wlist, ho], show ownS W c (gmt (gc W c) k) i lo st = 0 by simp [ownS, ho], show pushS i a lo st = [(-1, [])] by simp [pushS, ho]] at hP
  unfold actB w_Checker_act_j61 w_Works_isIn
  (repeat (first | refine itp (by decide) ?_ | refine itn (by decide) ?_))
  have hh := h.ht
  have e : st.take (st.length - ([] : List Wt).length) = st := List.take_of_length_le (by simp)
  exact c_pushx (κ := (-1, [])) h kwfN (fun z M' q => ⟨Or.inl rfl, hP.full takeS_nil (by rw [e, List.length_append, List.length_singleton]; omega) M' q⟩) (fun z M' q => ⟨Or.inr rfl, hP.good takeS_nil (by rw [e, List.length_append, List.length_singleton]; omega) M' (by rw [e]; exact q)⟩)
theorem k_act3x {i : Ins} {v : Int32} {n : Nat} (h : KAx A W w c k br nq nk np nh nr this Ex a lo st kn M) (ho : i.1 = 3) (hv : actV A w nr i v M) (hw : wfI n i) (hi : gin (co (gmt (gc W c) k)) a = i) (hP : KPx A W w c k br nq nk np nh nr this Ex a kn (actS W c (gmt (gc W c) k) i a lo st) Q) : actB this Q (Int32.ofNat 3) v M := by
  have hh := h.ht
  have hla := h.1.la
  have hlr := h.1.lr.2
  obtain ⟨ev, h19⟩ := hv.2.2 (by omega)
  subst ev
  have e0 : st.take (st.length - ([] : List Wt).length) = st := List.take_of_length_le (by simp)
  have eP : actS W c (gmt (gc W c) k) i a lo st = if lr (gmt (gc W c) k) ≤ iL i then .inl 33 else if (gk lo (iL i)).1 ≠ 0 then .inl 34 else if sr (gmt (gc W c) k) < (st ++ [(0, [])]).length then .inl 30 else .inr (lo, st ++ [(0, [])]) := by
    have e1 : wlist W c (gmt (gc W c) k) i = [] := by simp [wlist, ho]
    have e2 : ownS W c (gmt (gc W c) k) i lo st = 0 := by simp [ownS, ho]
    have e3 : pushS i a lo st = [(0, [])] := by simp [pushS, ho]
    have e4 : ¬ isMk i := fun q => by have := q.1; omega
    have e5 : loS W c i lo st = lo := by unfold loS; rw [if_neg (by omega), if_neg (by omega), if_neg e4]
    have e6 : stS W c (gmt (gc W c) k) i a lo st = st ++ [(0, [])] := by unfold stS restS; rw [if_neg (by omega), if_neg e4, e1, e3, e0]
    have e7 : takenS W c (gmt (gc W c) k) i lo st = if lr (gmt (gc W c) k) ≤ iL i then 33 else if (gk lo (iL i)).1 ≠ 0 then 34 else 0 := by
      unfold takenS
      rw [e1, takeS_nil]
      by_cases c1 : lr (gmt (gc W c) k) ≤ iL i
      · rw [if_pos ⟨by omega, c1⟩, if_pos c1]
      · rw [if_neg (fun q => c1 q.2), if_neg c1, if_neg (by simp)]
        simp [ho]
    unfold actS
    rw [e2, e5, e6, e7]
    by_cases c1 : lr (gmt (gc W c) k) ≤ iL i
    · rw [if_pos c1, if_pos c1, if_pos (by decide)]
    · rw [if_neg c1, if_neg c1]
      by_cases c2 : (gk lo (iL i)).1 ≠ 0
      · rw [if_pos c2, if_pos c2, if_pos (by decide)]
      · rw [if_neg c2, if_neg c2, if_neg (by simp), if_neg (by simp), if_neg (c := (i.1 = 5 ∨ i.1 = 6 ∨ isMk i) ∧ _) (fun q => by
          rcases q.1 with q | q | q
          · omega
          · omega
          · exact e4 q)]
  rw [eP] at hP
  unfold actB w_Checker_act_j61 w_Works_isIn
  (repeat (first | refine itp (by decide) ?_ | refine itn (by decide) ?_))
  refine c_isTherex h (by omega) (fun z M' q => ?_) (fun z => ?_)
  · rw [if_pos z] at hP; exact itp rfl (hP M' q)
  rw [if_neg (by omega)] at hP
  obtain ⟨l1, l2⟩ := h.lv z
  refine itn (by decide) ?_
  rw [oN_tnc (by omega), l1, h.2.1.1.1]
  refine ⟨(vp_oN (by omega)).mpr (by omega), ?_⟩
  by_cases c1 : (gk lo (iL i)).1 = 0
  · rw [if_neg (fun q => q c1)] at hP
    refine itp ((kC_eq (n := 0) l2 hla (by omega)).mpr c1) ?_
    unfold w_Checker_act_j476
    refine c_pushx (κ := (0, [])) h kwf0 (fun y M' q => ?_) (fun y M' q => ?_)
    · rw [if_pos (by rw [List.length_append, List.length_singleton]; omega)] at hP; exact itp rfl (hP M' q)
    · rw [if_neg (by rw [List.length_append, List.length_singleton]; omega)] at hP; exact itn (by decide) (hP M' q)
  · rw [if_pos c1] at hP
    exact itn (fun q => c1 ((kC_eq (n := 0) l2 hla (by omega)).mp q)) (h.brk (r := 34) (fun M' q => itp rfl (hP M' q)))
theorem k_act4x {i : Ins} {v : Int32} {n : Nat} (h : KAx A W w c k br nq nk np nh nr this Ex a lo st kn M) (ho : i.1 = 4) (hv : actV A w nr i v M) (hw : wfI n i) (hi : gin (co (gmt (gc W c) k)) a = i) (hP : KPx A W w c k br nq nk np nh nr this Ex a kn (actS W c (gmt (gc W c) k) i a lo st) Q) : actB this Q (Int32.ofNat 4) v M := by
  have hh := h.ht
  have hla := h.1.la
  have hlr := h.1.lr.2
  obtain ⟨ev, h19⟩ := hv.2.2 (by omega)
  subst ev
  have e0 : st.take (st.length - ([] : List Wt).length) = st := List.take_of_length_le (by simp)
  have eP : actS W c (gmt (gc W c) k) i a lo st = if lr (gmt (gc W c) k) ≤ iL i then .inl 33 else if rfK (gk lo (iL i)) = false ∧ umK (gk lo (iL i)) = false then .inl 34 else if sr (gmt (gc W c) k) < (st ++ [gk lo (iL i)]).length then .inl 30 else .inr (lo, st ++ [gk lo (iL i)]) := by
    have e1 : wlist W c (gmt (gc W c) k) i = [] := by simp [wlist, ho]
    have e2 : ownS W c (gmt (gc W c) k) i lo st = 0 := by simp [ownS, ho]
    have e3 : pushS i a lo st = [gk lo (iL i)] := by simp [pushS, ho]
    have e4 : ¬ isMk i := fun q => by have := q.1; omega
    have e5 : loS W c i lo st = lo := by unfold loS; rw [if_neg (by omega), if_neg (by omega), if_neg e4]
    have e6 : stS W c (gmt (gc W c) k) i a lo st = st ++ [gk lo (iL i)] := by unfold stS restS; rw [if_neg (by omega), if_neg e4, e1, e3, e0]
    have e7 : takenS W c (gmt (gc W c) k) i lo st = if lr (gmt (gc W c) k) ≤ iL i then 33 else if rfK (gk lo (iL i)) = false ∧ umK (gk lo (iL i)) = false then 34 else 0 := by
      unfold takenS
      rw [e1, takeS_nil]
      by_cases c1 : lr (gmt (gc W c) k) ≤ iL i
      · rw [if_pos ⟨by omega, c1⟩, if_pos c1]
      · rw [if_neg (fun q => c1 q.2), if_neg c1, if_neg (by simp)]
        simp [ho]
    unfold actS
    rw [e2, e5, e6, e7]
    by_cases c1 : lr (gmt (gc W c) k) ≤ iL i
    · rw [if_pos c1, if_pos c1, if_pos (by decide)]
    · rw [if_neg c1, if_neg c1]
      by_cases c2 : rfK (gk lo (iL i)) = false ∧ umK (gk lo (iL i)) = false
      · rw [if_pos c2, if_pos c2, if_pos (by decide)]
      · rw [if_neg c2, if_neg c2, if_neg (by simp), if_neg (by simp), if_neg (c := (i.1 = 5 ∨ i.1 = 6 ∨ isMk i) ∧ _) (fun q => by
          rcases q.1 with q | q | q
          · omega
          · omega
          · exact e4 q)]
  rw [eP] at hP
  unfold actB w_Checker_act_j61 w_Works_isIn
  (repeat (first | refine itp (by decide) ?_ | refine itn (by decide) ?_))
  refine c_isTherex h (by omega) (fun z M' q => ?_) (fun z => ?_)
  · rw [if_pos z] at hP; exact itp rfl (hP M' q)
  rw [if_neg (by omega)] at hP
  obtain ⟨l1, l2⟩ := h.lv z
  refine itn (by decide) ?_
  rw [oN_tnc (by omega), l1, h.2.1.1.1]
  refine ⟨(vp_oN (by omega)).mpr (by omega), ?_⟩
  have go : ¬ (rfK (gk lo (iL i)) = false ∧ umK (gk lo (iL i)) = false) → w_Checker_act_j564 this Q (Int32.ofNat (iL i)) M := fun hn => by
    rw [if_neg hn] at hP
    unfold w_Checker_act_j564
    rw [oN_tnc (by omega), l1, h.2.1.1.1]
    refine ⟨(vp_oN (by omega)).mpr (by omega), c_pushx h l2 (fun y M' q => ?_) (fun y M' q => ?_)⟩
    · rw [if_pos (by rw [List.length_append, List.length_singleton]; omega)] at hP; exact itp rfl (hP M' q)
    · rw [if_neg (by rw [List.length_append, List.length_singleton]; omega)] at hP; exact itn (by decide) (hP M' q)
  refine c_isReference l2 hla ?_
  cases c1 : rfK (gk lo (iL i)) with
  | true => exact itn (by decide) (go (fun q => by rw [c1] at q; exact absurd q.1 (by decide)))
  | false =>
    refine itp rfl ?_
    rw [l1, h.2.1.1.1]
    refine ⟨(vp_oN (by omega)).mpr (by omega), c_isUnmade l2 hla ?_⟩
    cases c2 : umK (gk lo (iL i)) with
    | true => exact itn (by decide) (go (fun q => by rw [c2] at q; exact absurd q.2 (by decide)))
    | false =>
      rw [if_pos ⟨c1, c2⟩] at hP
      exact itp rfl (h.brk (r := 34) (fun M' q => itp rfl (hP M' q)))
theorem k_act7x {i : Ins} {v : Int32} {n : Nat} (h : KAx A W w c k br nq nk np nh nr this Ex a lo st kn M) (ho : i.1 = 7) (hv : actV A w nr i v M) (hw : wfI n i) (hi : gin (co (gmt (gc W c) k)) a = i) (hP : KPx A W w c k br nq nk np nh nr this Ex a kn (actS W c (gmt (gc W c) k) i a lo st) Q) : actB this Q (Int32.ofNat 7) v M := by
  have hh := h.ht
  have hla := h.1.la
  have hlr := h.1.lr.2
  obtain ⟨ev, h19⟩ := hv.2.2 (by omega)
  subst ev
  have e0 : st.take (st.length - ([] : List Wt).length) = st := List.take_of_length_le (by simp)
  have eP : actS W c (gmt (gc W c) k) i a lo st = if lr (gmt (gc W c) k) ≤ iL i then .inl 33 else if (gk lo (iL i)).1 ≠ 0 then .inl 34 else if sr (gmt (gc W c) k) < (st ++ []).length then .inl 30 else .inr (lo, st ++ []) := by
    have e1 : wlist W c (gmt (gc W c) k) i = [] := by simp [wlist, ho]
    have e2 : ownS W c (gmt (gc W c) k) i lo st = 0 := by simp [ownS, ho]
    have e3 : pushS i a lo st = [] := by simp [pushS, ho]
    have e4 : ¬ isMk i := fun q => by have := q.1; omega
    have e5 : loS W c i lo st = lo := by unfold loS; rw [if_neg (by omega), if_neg (by omega), if_neg e4]
    have e6 : stS W c (gmt (gc W c) k) i a lo st = st ++ [] := by unfold stS restS; rw [if_neg (by omega), if_neg e4, e1, e3, e0]
    have e7 : takenS W c (gmt (gc W c) k) i lo st = if lr (gmt (gc W c) k) ≤ iL i then 33 else if (gk lo (iL i)).1 ≠ 0 then 34 else 0 := by
      unfold takenS
      rw [e1, takeS_nil]
      by_cases c1 : lr (gmt (gc W c) k) ≤ iL i
      · rw [if_pos ⟨by omega, c1⟩, if_pos c1]
      · rw [if_neg (fun q => c1 q.2), if_neg c1, if_neg (by simp)]
        simp [ho]
    unfold actS
    rw [e2, e5, e6, e7]
    by_cases c1 : lr (gmt (gc W c) k) ≤ iL i
    · rw [if_pos c1, if_pos c1, if_pos (by decide)]
    · rw [if_neg c1, if_neg c1]
      by_cases c2 : (gk lo (iL i)).1 ≠ 0
      · rw [if_pos c2, if_pos c2, if_pos (by decide)]
      · rw [if_neg c2, if_neg c2, if_neg (by simp), if_neg (by simp), if_neg (c := (i.1 = 5 ∨ i.1 = 6 ∨ isMk i) ∧ _) (fun q => by
          rcases q.1 with q | q | q
          · omega
          · omega
          · exact e4 q)]
  rw [eP] at hP
  unfold actB w_Checker_act_j61 w_Works_isIn
  (repeat (first | refine itp (by decide) ?_ | refine itn (by decide) ?_))
  refine c_isTherex h (by omega) (fun z M' q => ?_) (fun z => ?_)
  · rw [if_pos z] at hP; exact itp rfl (hP M' q)
  rw [if_neg (by omega)] at hP
  obtain ⟨l1, l2⟩ := h.lv z
  refine itn (by decide) ?_
  rw [oN_tnc (by omega), l1, h.2.1.1.1]
  refine ⟨(vp_oN (by omega)).mpr (by omega), ?_⟩
  by_cases c1 : (gk lo (iL i)).1 = 0
  · rw [if_neg (fun q => q c1), List.append_nil, if_neg (by omega)] at hP
    exact itp ((kC_eq (n := 0) l2 hla (by omega)).mpr c1) (hP M h)
  · rw [if_pos c1] at hP
    exact itn (fun q => c1 ((kC_eq (n := 0) l2 hla (by omega)).mp q)) (h.brk (r := 34) (fun M' q => itp rfl (hP M' q)))
theorem k_act8x {i : Ins} {v : Int32} {n : Nat} (h : KAx A W w c k br nq nk np nh nr this Ex a lo st kn M) (ho : i.1 = 8) (hv : actV A w nr i v M) (hw : wfI n i) (hi : gin (co (gmt (gc W c) k)) a = i) (hP : KPx A W w c k br nq nk np nh nr this Ex a kn (actS W c (gmt (gc W c) k) i a lo st) Q) : actB this Q (Int32.ofNat 8) v M := by
  rw [actS_wc (by omega) (by omega) (fun q => by have := q.1; omega), show wlist W c (gmt (gc W c) k) i = [wNum, wNum] by simp [wlist, ho], show ownS W c (gmt (gc W c) k) i lo st = 0 by simp [ownS, ho], show pushS i a lo st = [(0, [])] by simp [pushS, ho]] at hP
  unfold actB w_Checker_act_j61 w_Works_isIn
  (repeat (first | refine itp (by decide) ?_ | refine itn (by decide) ?_))
  exact k_w2c1x (t := wNum) (u := wNum) (κ := (0, [])) h wokN wokN hP kwf0 (by decide)
theorem k_act9x {i : Ins} {v : Int32} {n : Nat} (h : KAx A W w c k br nq nk np nh nr this Ex a lo st kn M) (ho : i.1 = 9) (hv : actV A w nr i v M) (hw : wfI n i) (hi : gin (co (gmt (gc W c) k)) a = i) (hP : KPx A W w c k br nq nk np nh nr this Ex a kn (actS W c (gmt (gc W c) k) i a lo st) Q) : actB this Q (Int32.ofNat 9) v M := by
  rw [actS_wc (by omega) (by omega) (fun q => by have := q.1; omega), show wlist W c (gmt (gc W c) k) i = [wNum, wNum] by simp [wlist, ho], show ownS W c (gmt (gc W c) k) i lo st = 0 by simp [ownS, ho], show pushS i a lo st = [(0, [])] by simp [pushS, ho]] at hP
  unfold actB w_Checker_act_j61 w_Works_isIn
  (repeat (first | refine itp (by decide) ?_ | refine itn (by decide) ?_))
  exact k_w2c1x (t := wNum) (u := wNum) (κ := (0, [])) h wokN wokN hP kwf0 (by decide)
theorem k_act10x {i : Ins} {v : Int32} {n : Nat} (h : KAx A W w c k br nq nk np nh nr this Ex a lo st kn M) (ho : i.1 = 10) (hv : actV A w nr i v M) (hw : wfI n i) (hi : gin (co (gmt (gc W c) k)) a = i) (hP : KPx A W w c k br nq nk np nh nr this Ex a kn (actS W c (gmt (gc W c) k) i a lo st) Q) : actB this Q (Int32.ofNat 10) v M := by
  rw [actS_wc (by omega) (by omega) (fun q => by have := q.1; omega), show wlist W c (gmt (gc W c) k) i = [wNum, wNum] by simp [wlist, ho], show ownS W c (gmt (gc W c) k) i lo st = 0 by simp [ownS, ho], show pushS i a lo st = [(0, [])] by simp [pushS, ho]] at hP
  unfold actB w_Checker_act_j61 w_Works_isIn
  (repeat (first | refine itp (by decide) ?_ | refine itn (by decide) ?_))
  exact k_w2c1x (t := wNum) (u := wNum) (κ := (0, [])) h wokN wokN hP kwf0 (by decide)
theorem k_act11x {i : Ins} {v : Int32} {n : Nat} (h : KAx A W w c k br nq nk np nh nr this Ex a lo st kn M) (ho : i.1 = 11) (hv : actV A w nr i v M) (hw : wfI n i) (hi : gin (co (gmt (gc W c) k)) a = i) (hP : KPx A W w c k br nq nk np nh nr this Ex a kn (actS W c (gmt (gc W c) k) i a lo st) Q) : actB this Q (Int32.ofNat 11) v M := by
  rw [actS_wc (by omega) (by omega) (fun q => by have := q.1; omega), show wlist W c (gmt (gc W c) k) i = [wNum, wNum] by simp [wlist, ho], show ownS W c (gmt (gc W c) k) i lo st = 0 by simp [ownS, ho], show pushS i a lo st = [(0, [])] by simp [pushS, ho]] at hP
  unfold actB w_Checker_act_j61 w_Works_isIn
  (repeat (first | refine itp (by decide) ?_ | refine itn (by decide) ?_))
  exact k_w2c1x (t := wNum) (u := wNum) (κ := (0, [])) h wokN wokN hP kwf0 (by decide)
theorem k_act12x {i : Ins} {v : Int32} {n : Nat} (h : KAx A W w c k br nq nk np nh nr this Ex a lo st kn M) (ho : i.1 = 12) (hv : actV A w nr i v M) (hw : wfI n i) (hi : gin (co (gmt (gc W c) k)) a = i) (hP : KPx A W w c k br nq nk np nh nr this Ex a kn (actS W c (gmt (gc W c) k) i a lo st) Q) : actB this Q (Int32.ofNat 12) v M := by
  rw [actS_wc (by omega) (by omega) (fun q => by have := q.1; omega), show wlist W c (gmt (gc W c) k) i = [wNum, wNum] by simp [wlist, ho], show ownS W c (gmt (gc W c) k) i lo st = 0 by simp [ownS, ho], show pushS i a lo st = [(0, [])] by simp [pushS, ho]] at hP
  unfold actB w_Checker_act_j61 w_Works_isIn
  (repeat (first | refine itp (by decide) ?_ | refine itn (by decide) ?_))
  exact k_w2c1x (t := wNum) (u := wNum) (κ := (0, [])) h wokN wokN hP kwf0 (by decide)
theorem k_act13x {i : Ins} {v : Int32} {n : Nat} (h : KAx A W w c k br nq nk np nh nr this Ex a lo st kn M) (ho : i.1 = 13) (hv : actV A w nr i v M) (hw : wfI n i) (hi : gin (co (gmt (gc W c) k)) a = i) (hP : KPx A W w c k br nq nk np nh nr this Ex a kn (actS W c (gmt (gc W c) k) i a lo st) Q) : actB this Q (Int32.ofNat 13) v M := by
  rw [actS_wc (by omega) (by omega) (fun q => by have := q.1; omega), show wlist W c (gmt (gc W c) k) i = [wNum] by simp [wlist, ho], show ownS W c (gmt (gc W c) k) i lo st = 0 by simp [ownS, ho], show pushS i a lo st = [(0, [])] by simp [pushS, ho]] at hP
  unfold actB w_Checker_act_j61 w_Works_isIn
  (repeat (first | refine itp (by decide) ?_ | refine itn (by decide) ?_))
  exact k_w1c1x (t := wNum) (κ := (0, [])) h wokN hP kwf0 (by decide)
theorem k_act14x {i : Ins} {v : Int32} {n : Nat} (h : KAx A W w c k br nq nk np nh nr this Ex a lo st kn M) (ho : i.1 = 14) (hv : actV A w nr i v M) (hw : wfI n i) (hi : gin (co (gmt (gc W c) k)) a = i) (hP : KPx A W w c k br nq nk np nh nr this Ex a kn (actS W c (gmt (gc W c) k) i a lo st) Q) : actB this Q (Int32.ofNat 14) v M := by
  rw [actS_wc (by omega) (by omega) (fun q => by have := q.1; omega), show wlist W c (gmt (gc W c) k) i = [wNum, wNum] by simp [wlist, ho], show ownS W c (gmt (gc W c) k) i lo st = 0 by simp [ownS, ho], show pushS i a lo st = [(0, [])] by simp [pushS, ho]] at hP
  unfold actB w_Checker_act_j61 w_Works_isIn
  (repeat (first | refine itp (by decide) ?_ | refine itn (by decide) ?_))
  exact k_w2c1x (t := wNum) (u := wNum) (κ := (0, [])) h wokN wokN hP kwf0 (by decide)
theorem k_act15x {i : Ins} {v : Int32} {n : Nat} (h : KAx A W w c k br nq nk np nh nr this Ex a lo st kn M) (ho : i.1 = 15) (hv : actV A w nr i v M) (hw : wfI n i) (hi : gin (co (gmt (gc W c) k)) a = i) (hP : KPx A W w c k br nq nk np nh nr this Ex a kn (actS W c (gmt (gc W c) k) i a lo st) Q) : actB this Q (Int32.ofNat 15) v M := by
  rw [actS_wc (by omega) (by omega) (fun q => by have := q.1; omega), show wlist W c (gmt (gc W c) k) i = [wNum, wNum] by simp [wlist, ho], show ownS W c (gmt (gc W c) k) i lo st = 0 by simp [ownS, ho], show pushS i a lo st = [(0, [])] by simp [pushS, ho]] at hP
  unfold actB w_Checker_act_j61 w_Works_isIn
  (repeat (first | refine itp (by decide) ?_ | refine itn (by decide) ?_))
  exact k_w2c1x (t := wNum) (u := wNum) (κ := (0, [])) h wokN wokN hP kwf0 (by decide)
theorem k_act16x {i : Ins} {v : Int32} {n : Nat} (h : KAx A W w c k br nq nk np nh nr this Ex a lo st kn M) (ho : i.1 = 16) (hv : actV A w nr i v M) (hw : wfI n i) (hi : gin (co (gmt (gc W c) k)) a = i) (hP : KPx A W w c k br nq nk np nh nr this Ex a kn (actS W c (gmt (gc W c) k) i a lo st) Q) : actB this Q (Int32.ofNat 16) v M := by
  rw [actS_wc (by omega) (by omega) (fun q => by have := q.1; omega), show wlist W c (gmt (gc W c) k) i = [wNum, wNum] by simp [wlist, ho], show ownS W c (gmt (gc W c) k) i lo st = 0 by simp [ownS, ho], show pushS i a lo st = [(0, [])] by simp [pushS, ho]] at hP
  unfold actB w_Checker_act_j61 w_Works_isIn
  (repeat (first | refine itp (by decide) ?_ | refine itn (by decide) ?_))
  exact k_w2c1x (t := wNum) (u := wNum) (κ := (0, [])) h wokN wokN hP kwf0 (by decide)
theorem k_act17x {i : Ins} {v : Int32} {n : Nat} (h : KAx A W w c k br nq nk np nh nr this Ex a lo st kn M) (ho : i.1 = 17) (hv : actV A w nr i v M) (hw : wfI n i) (hi : gin (co (gmt (gc W c) k)) a = i) (hP : KPx A W w c k br nq nk np nh nr this Ex a kn (actS W c (gmt (gc W c) k) i a lo st) Q) : actB this Q (Int32.ofNat 17) v M := by
  rw [actS_wc (by omega) (by omega) (fun q => by have := q.1; omega), show wlist W c (gmt (gc W c) k) i = [wNum, wNum] by simp [wlist, ho], show ownS W c (gmt (gc W c) k) i lo st = 0 by simp [ownS, ho], show pushS i a lo st = [(0, [])] by simp [pushS, ho]] at hP
  unfold actB w_Checker_act_j61 w_Works_isIn
  (repeat (first | refine itp (by decide) ?_ | refine itn (by decide) ?_))
  exact k_w2c1x (t := wNum) (u := wNum) (κ := (0, [])) h wokN wokN hP kwf0 (by decide)
theorem k_act18x {i : Ins} {v : Int32} {n : Nat} (h : KAx A W w c k br nq nk np nh nr this Ex a lo st kn M) (ho : i.1 = 18) (hv : actV A w nr i v M) (hw : wfI n i) (hi : gin (co (gmt (gc W c) k)) a = i) (hP : KPx A W w c k br nq nk np nh nr this Ex a kn (actS W c (gmt (gc W c) k) i a lo st) Q) : actB this Q (Int32.ofNat 18) v M := by
  rw [actS_wc (by omega) (by omega) (fun q => by have := q.1; omega), show wlist W c (gmt (gc W c) k) i = [wNum, wNum] by simp [wlist, ho], show ownS W c (gmt (gc W c) k) i lo st = 0 by simp [ownS, ho], show pushS i a lo st = [(0, [])] by simp [pushS, ho]] at hP
  unfold actB w_Checker_act_j61 w_Works_isIn
  (repeat (first | refine itp (by decide) ?_ | refine itn (by decide) ?_))
  exact k_w2c1x (t := wNum) (u := wNum) (κ := (0, [])) h wokN wokN hP kwf0 (by decide)
theorem k_act19x {i : Ins} {v : Int32} {n : Nat} (h : KAx A W w c k br nq nk np nh nr this Ex a lo st kn M) (ho : i.1 = 19) (hv : actV A w nr i v M) (hw : wfI n i) (hi : gin (co (gmt (gc W c) k)) a = i) (hP : KPx A W w c k br nq nk np nh nr this Ex a kn (actS W c (gmt (gc W c) k) i a lo st) Q) : actB this Q (Int32.ofNat 19) v M := by
  rw [actS_wc (by omega) (by omega) (fun q => by have := q.1; omega), show wlist W c (gmt (gc W c) k) i = [wAny] by simp [wlist, ho], show ownS W c (gmt (gc W c) k) i lo st = 0 by simp [ownS, ho], show pushS i a lo st = [] by simp [pushS, ho]] at hP
  unfold actB w_Checker_act_j61 w_Works_isIn
  (repeat (first | refine itp (by decide) ?_ | refine itn (by decide) ?_))
  refine c_needsx (n := 1) h (by omega) (fun z M' q => itp rfl ?_) (fun z => itn (by decide) ?_)
  · have e := takeS_lt (W := W) (st := st) (ws := [wAny]) (by simpa using z)
    have := hP.rule (by rw [e]; decide)
    rw [e] at this; exact this M' q
  · exact k_c0x h hP z (takeS_any (by simp) z)
theorem k_act20x {i : Ins} {v : Int32} {n : Nat} (h : KAx A W w c k br nq nk np nh nr this Ex a lo st kn M) (ho : i.1 = 20) (hv : actV A w nr i v M) (hw : wfI n i) (hi : gin (co (gmt (gc W c) k)) a = i) (hP : KPx A W w c k br nq nk np nh nr this Ex a kn (actS W c (gmt (gc W c) k) i a lo st) Q) : actB this Q (Int32.ofNat 20) v M := by
  rw [actS_wc (by omega) (by omega) (fun q => by have := q.1; omega), show wlist W c (gmt (gc W c) k) i = [wAny] by simp [wlist, ho], show ownS W c (gmt (gc W c) k) i lo st = 0 by simp [ownS, ho], show pushS i a lo st = [tp st 0, tp st 0] by simp [pushS, ho]] at hP
  unfold actB w_Checker_act_j61 w_Works_isIn
  (repeat (first | refine itp (by decide) ?_ | refine itn (by decide) ?_))
  have hh := h.ht
  refine c_needsx (n := 1) h (by omega) (fun z M' q => itp rfl ?_) (fun z => itn (by decide) ?_)
  · have e := takeS_lt (W := W) (st := st) (ws := [wAny]) (by simpa using z)
    have := hP.rule (by rw [e]; decide)
    rw [e] at this; exact this M' q
  · have tk := takeS_any (W := W) (st := st) (ws := [wAny]) (by simp) z
    obtain ⟨s1, s2⟩ := h.sv (d := 0) z
    rw [show st.length - 1 - 0 = st.length - 1 by omega] at s1
    have el : (st.take (st.length - [wAny].length) ++ [tp st 0, tp st 0]).length = st.length + 1 := by rw [List.length_append, List.length_take]; simp; omega
    have es : st.take (st.length - [wAny].length) ++ [tp st 0, tp st 0] = st ++ [tp st 0] := by
      refine gk_ext (by rw [el, List.length_append, List.length_singleton]) (fun j h1 => ?_)
      rw [List.length_append, List.length_singleton] at h1
      show gk (st.take (st.length - 1) ++ [tp st 0, tp st 0]) j = gk (st ++ [tp st 0]) j
      rw [gk_take2 (by omega), gk_ap]
      by_cases c1 : j < st.length - 1
      · rw [if_pos c1, if_pos (by omega)]
      · rw [if_neg c1]
        by_cases c2 : j = st.length - 1
        · rw [if_pos c2, if_pos (by omega), c2]; rfl
        · rw [if_neg c2, if_pos (by omega), if_neg (by omega), show j - st.length = 0 by omega]; rfl
    rw [hh.1, show Int32.ofNat st.length - (1 : Int32) = Int32.ofNat (st.length - 1) from oN_sub (b := 1) z, oN_tnc (by omega), s1, h.2.1.1.2]
    refine ⟨(vp_oN (by omega)).mpr (by omega), c_pushx h s2 (fun y M' q => itp rfl (hP.full tk (by rw [el]; omega) M' q)) (fun y M' q => itn (by decide) (hP.good tk (by rw [el]; omega) M' (by rw [es]; exact q)))⟩
theorem k_act21x {i : Ins} {v : Int32} {n : Nat} (h : KAx A W w c k br nq nk np nh nr this Ex a lo st kn M) (ho : i.1 = 21) (hv : actV A w nr i v M) (hw : wfI n i) (hi : gin (co (gmt (gc W c) k)) a = i) (hP : KPx A W w c k br nq nk np nh nr this Ex a kn (actS W c (gmt (gc W c) k) i a lo st) Q) : actB this Q (Int32.ofNat 21) v M := by
  rw [actS_wc (by omega) (by omega) (fun q => by have := q.1; omega), show wlist W c (gmt (gc W c) k) i = [wAny, wAny] by simp [wlist, ho], show ownS W c (gmt (gc W c) k) i lo st = 0 by simp [ownS, ho], show pushS i a lo st = [tp st 0, tp st 1, tp st 0] by simp [pushS, ho]] at hP
  unfold actB w_Checker_act_j61 w_Works_isIn
  (repeat (first | refine itp (by decide) ?_ | refine itn (by decide) ?_))
  have hh := h.ht
  refine c_needsx (n := 2) h (by omega) (fun z M' q => itp rfl ?_) (fun z => itn (by decide) ?_)
  · have e := takeS_lt (W := W) (st := st) (ws := [wAny, wAny]) (by simpa using z)
    have := hP.rule (by rw [e]; decide)
    rw [e] at this; exact this M' q
  · have tk := takeS_any (W := W) (st := st) (ws := [wAny, wAny]) (by simp) z
    have el : (st.take (st.length - [wAny, wAny].length) ++ [tp st 0, tp st 1, tp st 0]).length = st.length + 1 := by rw [List.length_append, List.length_take]; simp; omega
    exact c_underx h z (fun y M' q => itp rfl (hP.full tk (by rw [el]; omega) M' q)) (fun y M' q => itn (by decide) (hP.good tk (by rw [el]; omega) M' q))
theorem k_act22x {i : Ins} {v : Int32} {n : Nat} (h : KAx A W w c k br nq nk np nh nr this Ex a lo st kn M) (ho : i.1 = 22) (hv : actV A w nr i v M) (hw : wfI n i) (hi : gin (co (gmt (gc W c) k)) a = i) (hP : KPx A W w c k br nq nk np nh nr this Ex a kn (actS W c (gmt (gc W c) k) i a lo st) Q) : actB this Q (Int32.ofNat 22) v M := by
  rw [actS_wc (by omega) (by omega) (fun q => by have := q.1; omega), show wlist W c (gmt (gc W c) k) i = [wAny, wAny] by simp [wlist, ho], show ownS W c (gmt (gc W c) k) i lo st = 0 by simp [ownS, ho], show pushS i a lo st = [tp st 0, tp st 1] by simp [pushS, ho]] at hP
  unfold actB w_Checker_act_j61 w_Works_isIn
  (repeat (first | refine itp (by decide) ?_ | refine itn (by decide) ?_))
  have hh := h.ht
  refine c_needsx (n := 2) h (by omega) (fun z M' q => itp rfl ?_) (fun z => itn (by decide) ?_)
  · have e := takeS_lt (W := W) (st := st) (ws := [wAny, wAny]) (by simpa using z)
    have := hP.rule (by rw [e]; decide)
    rw [e] at this; exact this M' q
  · have tk := takeS_any (W := W) (st := st) (ws := [wAny, wAny]) (by simp) z
    have el : (st.take (st.length - [wAny, wAny].length) ++ [tp st 0, tp st 1]).length = st.length := by rw [List.length_append, List.length_take]; simp; omega
    exact c_swapx h z (fun M' q => itn (by decide) (hP.good tk (by rw [el]; omega) M' q))
theorem k_act23x {i : Ins} {v : Int32} {n : Nat} (h : KAx A W w c k br nq nk np nh nr this Ex a lo st kn M) (ho : i.1 = 23) (hv : actV A w nr i v M) (hw : wfI n i) (hi : gin (co (gmt (gc W c) k)) a = i) (hP : KPx A W w c k br nq nk np nh nr this Ex a kn (actS W c (gmt (gc W c) k) i a lo st) Q) : actB this Q (Int32.ofNat 23) v M := by
  rw [actS_wc (by omega) (by omega) (fun q => by have := q.1; omega), show wlist W c (gmt (gc W c) k) i = [] by simp [wlist, ho], show ownS W c (gmt (gc W c) k) i lo st = 0 by simp [ownS, ho], show pushS i a lo st = [] by simp [pushS, ho]] at hP
  unfold actB w_Checker_act_j61 w_Works_isIn
  (repeat (first | refine itp (by decide) ?_ | refine itn (by decide) ?_))
  have hh := h.ht
  have e : st.take (st.length - ([] : List Wt).length) ++ [] = st := by rw [List.append_nil]; exact List.take_of_length_le (by simp)
  exact hP.good takeS_nil (by rw [e]; omega) M (by rw [e]; exact h)
theorem k_act24x {i : Ins} {v : Int32} {n : Nat} (h : KAx A W w c k br nq nk np nh nr this Ex a lo st kn M) (ho : i.1 = 24) (hv : actV A w nr i v M) (hw : wfI n i) (hi : gin (co (gmt (gc W c) k)) a = i) (hP : KPx A W w c k br nq nk np nh nr this Ex a kn (actS W c (gmt (gc W c) k) i a lo st) Q) : actB this Q (Int32.ofNat 24) v M := by
  rw [actS_wc (by omega) (by omega) (fun q => by have := q.1; omega), show wlist W c (gmt (gc W c) k) i = [wNum] by simp [wlist, ho], show ownS W c (gmt (gc W c) k) i lo st = 0 by simp [ownS, ho], show pushS i a lo st = [] by simp [pushS, ho]] at hP
  unfold actB w_Checker_act_j61 w_Checker_act_j78 w_Works_isIn
  (repeat (first | refine itp (by decide) ?_ | refine itn (by decide) ?_))
  exact k_w1c0x (t := wNum) h wokN hP
theorem k_act25x {i : Ins} {v : Int32} {n : Nat} (h : KAx A W w c k br nq nk np nh nr this Ex a lo st kn M) (ho : i.1 = 25) (hv : actV A w nr i v M) (hw : wfI n i) (hi : gin (co (gmt (gc W c) k)) a = i) (hP : KPx A W w c k br nq nk np nh nr this Ex a kn (actS W c (gmt (gc W c) k) i a lo st) Q) : actB this Q (Int32.ofNat 25) v M := by
  rw [actS_wc (by omega) (by omega) (fun q => by have := q.1; omega), show wlist W c (gmt (gc W c) k) i = [wNum] by simp [wlist, ho], show ownS W c (gmt (gc W c) k) i lo st = 0 by simp [ownS, ho], show pushS i a lo st = [] by simp [pushS, ho]] at hP
  unfold actB w_Checker_act_j61 w_Checker_act_j78 w_Works_isIn
  (repeat (first | refine itp (by decide) ?_ | refine itn (by decide) ?_))
  exact k_w1c0x (t := wNum) h wokN hP
theorem k_act26x {i : Ins} {v : Int32} {n : Nat} (h : KAx A W w c k br nq nk np nh nr this Ex a lo st kn M) (ho : i.1 = 26) (hv : actV A w nr i v M) (hw : wfI n i) (hi : gin (co (gmt (gc W c) k)) a = i) (hP : KPx A W w c k br nq nk np nh nr this Ex a kn (actS W c (gmt (gc W c) k) i a lo st) Q) : actB this Q (Int32.ofNat 26) v M := by
  rw [actS_wc (by omega) (by omega) (fun q => by have := q.1; omega), show wlist W c (gmt (gc W c) k) i = [wNum] by simp [wlist, ho], show ownS W c (gmt (gc W c) k) i lo st = 0 by simp [ownS, ho], show pushS i a lo st = [] by simp [pushS, ho]] at hP
  unfold actB w_Checker_act_j61 w_Checker_act_j78 w_Works_isIn
  (repeat (first | refine itp (by decide) ?_ | refine itn (by decide) ?_))
  exact k_w1c0x (t := wNum) h wokN hP
theorem k_act27x {i : Ins} {v : Int32} {n : Nat} (h : KAx A W w c k br nq nk np nh nr this Ex a lo st kn M) (ho : i.1 = 27) (hv : actV A w nr i v M) (hw : wfI n i) (hi : gin (co (gmt (gc W c) k)) a = i) (hP : KPx A W w c k br nq nk np nh nr this Ex a kn (actS W c (gmt (gc W c) k) i a lo st) Q) : actB this Q (Int32.ofNat 27) v M := by
  rw [actS_wc (by omega) (by omega) (fun q => by have := q.1; omega), show wlist W c (gmt (gc W c) k) i = [wNum] by simp [wlist, ho], show ownS W c (gmt (gc W c) k) i lo st = 0 by simp [ownS, ho], show pushS i a lo st = [] by simp [pushS, ho]] at hP
  unfold actB w_Checker_act_j61 w_Checker_act_j78 w_Works_isIn
  (repeat (first | refine itp (by decide) ?_ | refine itn (by decide) ?_))
  exact k_w1c0x (t := wNum) h wokN hP
theorem k_act28x {i : Ins} {v : Int32} {n : Nat} (h : KAx A W w c k br nq nk np nh nr this Ex a lo st kn M) (ho : i.1 = 28) (hv : actV A w nr i v M) (hw : wfI n i) (hi : gin (co (gmt (gc W c) k)) a = i) (hP : KPx A W w c k br nq nk np nh nr this Ex a kn (actS W c (gmt (gc W c) k) i a lo st) Q) : actB this Q (Int32.ofNat 28) v M := by
  rw [actS_wc (by omega) (by omega) (fun q => by have := q.1; omega), show wlist W c (gmt (gc W c) k) i = [wNum] by simp [wlist, ho], show ownS W c (gmt (gc W c) k) i lo st = 0 by simp [ownS, ho], show pushS i a lo st = [] by simp [pushS, ho]] at hP
  unfold actB w_Checker_act_j61 w_Checker_act_j78 w_Works_isIn
  (repeat (first | refine itp (by decide) ?_ | refine itn (by decide) ?_))
  exact k_w1c0x (t := wNum) h wokN hP
theorem k_act29x {i : Ins} {v : Int32} {n : Nat} (h : KAx A W w c k br nq nk np nh nr this Ex a lo st kn M) (ho : i.1 = 29) (hv : actV A w nr i v M) (hw : wfI n i) (hi : gin (co (gmt (gc W c) k)) a = i) (hP : KPx A W w c k br nq nk np nh nr this Ex a kn (actS W c (gmt (gc W c) k) i a lo st) Q) : actB this Q (Int32.ofNat 29) v M := by
  rw [actS_wc (by omega) (by omega) (fun q => by have := q.1; omega), show wlist W c (gmt (gc W c) k) i = [wNum] by simp [wlist, ho], show ownS W c (gmt (gc W c) k) i lo st = 0 by simp [ownS, ho], show pushS i a lo st = [] by simp [pushS, ho]] at hP
  unfold actB w_Checker_act_j61 w_Checker_act_j78 w_Works_isIn
  (repeat (first | refine itp (by decide) ?_ | refine itn (by decide) ?_))
  exact k_w1c0x (t := wNum) h wokN hP
theorem k_act30x {i : Ins} {v : Int32} {n : Nat} (h : KAx A W w c k br nq nk np nh nr this Ex a lo st kn M) (ho : i.1 = 30) (hv : actV A w nr i v M) (hw : wfI n i) (hi : gin (co (gmt (gc W c) k)) a = i) (hP : KPx A W w c k br nq nk np nh nr this Ex a kn (actS W c (gmt (gc W c) k) i a lo st) Q) : actB this Q (Int32.ofNat 30) v M := by
  rw [actS_wc (by omega) (by omega) (fun q => by have := q.1; omega), show wlist W c (gmt (gc W c) k) i = [wNum, wNum] by simp [wlist, ho], show ownS W c (gmt (gc W c) k) i lo st = 0 by simp [ownS, ho], show pushS i a lo st = [] by simp [pushS, ho]] at hP
  unfold actB w_Checker_act_j61 w_Works_isIn
  (repeat (first | refine itp (by decide) ?_ | refine itn (by decide) ?_))
  exact k_w2c0x (t := wNum) (u := wNum) h wokN wokN hP
theorem k_act31x {i : Ins} {v : Int32} {n : Nat} (h : KAx A W w c k br nq nk np nh nr this Ex a lo st kn M) (ho : i.1 = 31) (hv : actV A w nr i v M) (hw : wfI n i) (hi : gin (co (gmt (gc W c) k)) a = i) (hP : KPx A W w c k br nq nk np nh nr this Ex a kn (actS W c (gmt (gc W c) k) i a lo st) Q) : actB this Q (Int32.ofNat 31) v M := by
  rw [actS_wc (by omega) (by omega) (fun q => by have := q.1; omega), show wlist W c (gmt (gc W c) k) i = [wNum, wNum] by simp [wlist, ho], show ownS W c (gmt (gc W c) k) i lo st = 0 by simp [ownS, ho], show pushS i a lo st = [] by simp [pushS, ho]] at hP
  unfold actB w_Checker_act_j61 w_Works_isIn
  (repeat (first | refine itp (by decide) ?_ | refine itn (by decide) ?_))
  exact k_w2c0x (t := wNum) (u := wNum) h wokN wokN hP
theorem k_act32x {i : Ins} {v : Int32} {n : Nat} (h : KAx A W w c k br nq nk np nh nr this Ex a lo st kn M) (ho : i.1 = 32) (hv : actV A w nr i v M) (hw : wfI n i) (hi : gin (co (gmt (gc W c) k)) a = i) (hP : KPx A W w c k br nq nk np nh nr this Ex a kn (actS W c (gmt (gc W c) k) i a lo st) Q) : actB this Q (Int32.ofNat 32) v M := by
  rw [actS_wc (by omega) (by omega) (fun q => by have := q.1; omega), show wlist W c (gmt (gc W c) k) i = [wNum, wNum] by simp [wlist, ho], show ownS W c (gmt (gc W c) k) i lo st = 0 by simp [ownS, ho], show pushS i a lo st = [] by simp [pushS, ho]] at hP
  unfold actB w_Checker_act_j61 w_Works_isIn
  (repeat (first | refine itp (by decide) ?_ | refine itn (by decide) ?_))
  exact k_w2c0x (t := wNum) (u := wNum) h wokN wokN hP
theorem k_act33x {i : Ins} {v : Int32} {n : Nat} (h : KAx A W w c k br nq nk np nh nr this Ex a lo st kn M) (ho : i.1 = 33) (hv : actV A w nr i v M) (hw : wfI n i) (hi : gin (co (gmt (gc W c) k)) a = i) (hP : KPx A W w c k br nq nk np nh nr this Ex a kn (actS W c (gmt (gc W c) k) i a lo st) Q) : actB this Q (Int32.ofNat 33) v M := by
  rw [actS_wc (by omega) (by omega) (fun q => by have := q.1; omega), show wlist W c (gmt (gc W c) k) i = [wNum, wNum] by simp [wlist, ho], show ownS W c (gmt (gc W c) k) i lo st = 0 by simp [ownS, ho], show pushS i a lo st = [] by simp [pushS, ho]] at hP
  unfold actB w_Checker_act_j61 w_Works_isIn
  (repeat (first | refine itp (by decide) ?_ | refine itn (by decide) ?_))
  exact k_w2c0x (t := wNum) (u := wNum) h wokN wokN hP
theorem k_act34x {i : Ins} {v : Int32} {n : Nat} (h : KAx A W w c k br nq nk np nh nr this Ex a lo st kn M) (ho : i.1 = 34) (hv : actV A w nr i v M) (hw : wfI n i) (hi : gin (co (gmt (gc W c) k)) a = i) (hP : KPx A W w c k br nq nk np nh nr this Ex a kn (actS W c (gmt (gc W c) k) i a lo st) Q) : actB this Q (Int32.ofNat 34) v M := by
  rw [actS_wc (by omega) (by omega) (fun q => by have := q.1; omega), show wlist W c (gmt (gc W c) k) i = [wNum, wNum] by simp [wlist, ho], show ownS W c (gmt (gc W c) k) i lo st = 0 by simp [ownS, ho], show pushS i a lo st = [] by simp [pushS, ho]] at hP
  unfold actB w_Checker_act_j61 w_Works_isIn
  (repeat (first | refine itp (by decide) ?_ | refine itn (by decide) ?_))
  exact k_w2c0x (t := wNum) (u := wNum) h wokN wokN hP
theorem k_act35x {i : Ins} {v : Int32} {n : Nat} (h : KAx A W w c k br nq nk np nh nr this Ex a lo st kn M) (ho : i.1 = 35) (hv : actV A w nr i v M) (hw : wfI n i) (hi : gin (co (gmt (gc W c) k)) a = i) (hP : KPx A W w c k br nq nk np nh nr this Ex a kn (actS W c (gmt (gc W c) k) i a lo st) Q) : actB this Q (Int32.ofNat 35) v M := by
  rw [actS_wc (by omega) (by omega) (fun q => by have := q.1; omega), show wlist W c (gmt (gc W c) k) i = [wNum, wNum] by simp [wlist, ho], show ownS W c (gmt (gc W c) k) i lo st = 0 by simp [ownS, ho], show pushS i a lo st = [] by simp [pushS, ho]] at hP
  unfold actB w_Checker_act_j61 w_Works_isIn
  (repeat (first | refine itp (by decide) ?_ | refine itn (by decide) ?_))
  exact k_w2c0x (t := wNum) (u := wNum) h wokN wokN hP
theorem k_act36x {i : Ins} {v : Int32} {n : Nat} (h : KAx A W w c k br nq nk np nh nr this Ex a lo st kn M) (ho : i.1 = 36) (hv : actV A w nr i v M) (hw : wfI n i) (hi : gin (co (gmt (gc W c) k)) a = i) (hP : KPx A W w c k br nq nk np nh nr this Ex a kn (actS W c (gmt (gc W c) k) i a lo st) Q) : actB this Q (Int32.ofNat 36) v M := by
  rw [actS_wc (by omega) (by omega) (fun q => by have := q.1; omega), show wlist W c (gmt (gc W c) k) i = [wRef] by simp [wlist, ho], show ownS W c (gmt (gc W c) k) i lo st = 0 by simp [ownS, ho], show pushS i a lo st = [] by simp [pushS, ho]] at hP
  unfold actB w_Checker_act_j61 w_Works_isIn
  (repeat (first | refine itp (by decide) ?_ | refine itn (by decide) ?_))
  exact k_w1c0x (t := wRef) h wokF hP
theorem k_act37x {i : Ins} {v : Int32} {n : Nat} (h : KAx A W w c k br nq nk np nh nr this Ex a lo st kn M) (ho : i.1 = 37) (hv : actV A w nr i v M) (hw : wfI n i) (hi : gin (co (gmt (gc W c) k)) a = i) (hP : KPx A W w c k br nq nk np nh nr this Ex a kn (actS W c (gmt (gc W c) k) i a lo st) Q) : actB this Q (Int32.ofNat 37) v M := by
  rw [actS_wc (by omega) (by omega) (fun q => by have := q.1; omega), show wlist W c (gmt (gc W c) k) i = [wRef] by simp [wlist, ho], show ownS W c (gmt (gc W c) k) i lo st = 0 by simp [ownS, ho], show pushS i a lo st = [] by simp [pushS, ho]] at hP
  unfold actB w_Checker_act_j61 w_Works_isIn
  (repeat (first | refine itp (by decide) ?_ | refine itn (by decide) ?_))
  exact k_w1c0x (t := wRef) h wokF hP
theorem k_act38x {i : Ins} {v : Int32} {n : Nat} (h : KAx A W w c k br nq nk np nh nr this Ex a lo st kn M) (ho : i.1 = 38) (hv : actV A w nr i v M) (hw : wfI n i) (hi : gin (co (gmt (gc W c) k)) a = i) (hP : KPx A W w c k br nq nk np nh nr this Ex a kn (actS W c (gmt (gc W c) k) i a lo st) Q) : actB this Q (Int32.ofNat 38) v M := by
  rw [actS_wc (by omega) (by omega) (fun q => by have := q.1; omega), show wlist W c (gmt (gc W c) k) i = [wRef, wRef] by simp [wlist, ho], show ownS W c (gmt (gc W c) k) i lo st = 0 by simp [ownS, ho], show pushS i a lo st = [] by simp [pushS, ho]] at hP
  unfold actB w_Checker_act_j61 w_Works_isIn
  (repeat (first | refine itp (by decide) ?_ | refine itn (by decide) ?_))
  exact k_w2c0x (t := wRef) (u := wRef) h wokF wokF hP
theorem k_act39x {i : Ins} {v : Int32} {n : Nat} (h : KAx A W w c k br nq nk np nh nr this Ex a lo st kn M) (ho : i.1 = 39) (hv : actV A w nr i v M) (hw : wfI n i) (hi : gin (co (gmt (gc W c) k)) a = i) (hP : KPx A W w c k br nq nk np nh nr this Ex a kn (actS W c (gmt (gc W c) k) i a lo st) Q) : actB this Q (Int32.ofNat 39) v M := by
  rw [actS_wc (by omega) (by omega) (fun q => by have := q.1; omega), show wlist W c (gmt (gc W c) k) i = [wRef, wRef] by simp [wlist, ho], show ownS W c (gmt (gc W c) k) i lo st = 0 by simp [ownS, ho], show pushS i a lo st = [] by simp [pushS, ho]] at hP
  unfold actB w_Checker_act_j61 w_Works_isIn
  (repeat (first | refine itp (by decide) ?_ | refine itn (by decide) ?_))
  exact k_w2c0x (t := wRef) (u := wRef) h wokF wokF hP
theorem k_act40x {i : Ins} {v : Int32} {n : Nat} (h : KAx A W w c k br nq nk np nh nr this Ex a lo st kn M) (ho : i.1 = 40) (hv : actV A w nr i v M) (hw : wfI n i) (hi : gin (co (gmt (gc W c) k)) a = i) (hP : KPx A W w c k br nq nk np nh nr this Ex a kn (actS W c (gmt (gc W c) k) i a lo st) Q) : actB this Q (Int32.ofNat 40) v M := by
  rw [actS_wc (by omega) (by omega) (fun q => by have := q.1; omega), show wlist W c (gmt (gc W c) k) i = [wNum] by simp [wlist, ho], show ownS W c (gmt (gc W c) k) i lo st = 0 by simp [ownS, ho], show pushS i a lo st = [] by simp [pushS, ho]] at hP
  unfold actB w_Checker_act_j61 w_Checker_act_j78 w_Works_isIn
  (repeat (first | refine itp (by decide) ?_ | refine itn (by decide) ?_))
  exact k_w1c0x (t := wNum) h wokN hP
theorem k_act41x {i : Ins} {v : Int32} {n : Nat} (h : KAx A W w c k br nq nk np nh nr this Ex a lo st kn M) (ho : i.1 = 41) (hv : actV A w nr i v M) (hw : wfI n i) (hi : gin (co (gmt (gc W c) k)) a = i) (hP : KPx A W w c k br nq nk np nh nr this Ex a kn (actS W c (gmt (gc W c) k) i a lo st) Q) : actB this Q (Int32.ofNat 41) v M := by
  rw [actS_wc (by omega) (by omega) (fun q => by have := q.1; omega), show wlist W c (gmt (gc W c) k) i = [] by simp [wlist, ho], show ownS W c (gmt (gc W c) k) i lo st = 0 by simp [ownS, ho], show pushS i a lo st = [(-10 - (a : Int), [])] by simp [pushS, ho]] at hP
  unfold actB w_Checker_act_j61 w_Works_isIn
  (repeat (first | refine itp (by decide) ?_ | refine itn (by decide) ?_))
  have hh := h.ht
  have h80 := h.1.wf.2.2.1.1
  have ha := h.2.2.2.2
  have e : st.take (st.length - ([] : List Wt).length) = st := List.take_of_length_le (by simp)
  have hk : kwf A (co (gmt (gc W c) k)) (-10 - (a : Int), []) := Or.inr ⟨rfl, Or.inr ⟨a, rfl, ha, by omega, by rw [hi]; exact ho⟩⟩
  have ek : (-10 : Int32) - mI M 4 this 7 = kC A (-10 - (a : Int), []) := by
    rw [h.2.2.2.1]
    show _ = if (-10 - (a : Int)) = 2 then _ else Int32.ofInt (-10 - (a : Int))
    rw [if_neg (by omega), Int32.ofInt_sub]; rfl
  rw [ek]
  exact c_pushx h hk (fun z M' q => ⟨Or.inl rfl, hP.full takeS_nil (by rw [e, List.length_append, List.length_singleton]; omega) M' q⟩) (fun z M' q => ⟨Or.inr rfl, hP.good takeS_nil (by rw [e, List.length_append, List.length_singleton]; omega) M' (by rw [e]; exact q)⟩)
theorem k_act42x {i : Ins} {v : Int32} {n : Nat} (h : KAx A W w c k br nq nk np nh nr this Ex a lo st kn M) (ho : i.1 = 42) (hv : actV A w nr i v M) (hw : wfI n i) (hi : gin (co (gmt (gc W c) k)) a = i) (hP : KPx A W w c k br nq nk np nh nr this Ex a kn (actS W c (gmt (gc W c) k) i a lo st) Q) : actB this Q (Int32.ofNat 42) v M := by
  rw [actS_wc (by omega) (by omega) (fun q => by have := q.1; omega), show wlist W c (gmt (gc W c) k) i = [wNum] by simp [wlist, ho], show ownS W c (gmt (gc W c) k) i lo st = 0 by simp [ownS, ho], show pushS i a lo st = [(1, [])] by simp [pushS, ho]] at hP
  unfold actB w_Checker_act_j61 w_Works_isIn
  (repeat (first | refine itp (by decide) ?_ | refine itn (by decide) ?_))
  exact k_w1c1x (t := wNum) (κ := (1, [])) h wokN hP kwf1 (by decide)
theorem k_act43x {i : Ins} {v : Int32} {n : Nat} (h : KAx A W w c k br nq nk np nh nr this Ex a lo st kn M) (ho : i.1 = 43) (hv : actV A w nr i v M) (hw : wfI n i) (hi : gin (co (gmt (gc W c) k)) a = i) (hP : KPx A W w c k br nq nk np nh nr this Ex a kn (actS W c (gmt (gc W c) k) i a lo st) Q) : actB this Q (Int32.ofNat 43) v M := by
  rw [actS_wc (by omega) (by omega) (fun q => by have := q.1; omega), show wlist W c (gmt (gc W c) k) i = [wNum, wRow] by simp [wlist, ho], show ownS W c (gmt (gc W c) k) i lo st = 0 by simp [ownS, ho], show pushS i a lo st = [(0, [])] by simp [pushS, ho]] at hP
  unfold actB w_Checker_act_j61 w_Works_isIn
  (repeat (first | refine itp (by decide) ?_ | refine itn (by decide) ?_))
  exact k_w2c1x (t := wNum) (u := wRow) (κ := (0, [])) h wokN wokR hP kwf0 (by decide)
theorem k_act44x {i : Ins} {v : Int32} {n : Nat} (h : KAx A W w c k br nq nk np nh nr this Ex a lo st kn M) (ho : i.1 = 44) (hv : actV A w nr i v M) (hw : wfI n i) (hi : gin (co (gmt (gc W c) k)) a = i) (hP : KPx A W w c k br nq nk np nh nr this Ex a kn (actS W c (gmt (gc W c) k) i a lo st) Q) : actB this Q (Int32.ofNat 44) v M := by
  rw [actS_wc (by omega) (by omega) (fun q => by have := q.1; omega), show wlist W c (gmt (gc W c) k) i = [wNum, wNum, wRow] by simp [wlist, ho], show ownS W c (gmt (gc W c) k) i lo st = 0 by simp [ownS, ho], show pushS i a lo st = [] by simp [pushS, ho]] at hP
  unfold actB w_Checker_act_j61 w_Works_isIn
  (repeat (first | refine itp (by decide) ?_ | refine itn (by decide) ?_))
  exact k_w3c0x (t := wNum) (u := wNum) (v := wRow) h wokN wokN wokR hP
theorem k_act45x {i : Ins} {v : Int32} {n : Nat} (h : KAx A W w c k br nq nk np nh nr this Ex a lo st kn M) (ho : i.1 = 45) (hv : actV A w nr i v M) (hw : wfI n i) (hi : gin (co (gmt (gc W c) k)) a = i) (hP : KPx A W w c k br nq nk np nh nr this Ex a kn (actS W c (gmt (gc W c) k) i a lo st) Q) : actB this Q (Int32.ofNat 45) v M := by
  rw [actS_wc (by omega) (by omega) (fun q => by have := q.1; omega), show wlist W c (gmt (gc W c) k) i = [wRow] by simp [wlist, ho], show ownS W c (gmt (gc W c) k) i lo st = 0 by simp [ownS, ho], show pushS i a lo st = [(0, [])] by simp [pushS, ho]] at hP
  unfold actB w_Checker_act_j61 w_Works_isIn
  (repeat (first | refine itp (by decide) ?_ | refine itn (by decide) ?_))
  exact k_w1c1x (t := wRow) (κ := (0, [])) h wokR hP kwf0 (by decide)
theorem k_act46x {i : Ins} {v : Int32} {n : Nat} (h : KAx A W w c k br nq nk np nh nr this Ex a lo st kn M) (ho : i.1 = 46) (hv : actV A w nr i v M) (hw : wfI n i) (hi : gin (co (gmt (gc W c) k)) a = i) (hP : KPx A W w c k br nq nk np nh nr this Ex a kn (actS W c (gmt (gc W c) k) i a lo st) Q) : actB this Q (Int32.ofNat 46) v M := by
  rw [actS_wc (by omega) (by omega) (fun q => by have := q.1; omega), show wlist W c (gmt (gc W c) k) i = [(0, (2, iK i))] by simp [wlist, ho], show ownS W c (gmt (gc W c) k) i lo st = 0 by simp [ownS, ho], show pushS i a lo st = [iR i] by simp [pushS, ho]] at hP
  obtain ⟨r, hr, ev, hR⟩ := hv.2.1 (by omega)
  subst ev
  have hty := hw.2.1.2.2.2.2.2.2 (by omega)
  have h0 : 0 ≤ (iR i).1 := by
    rcases hty with q | q | q
    · rw [q]; decide
    · rw [q]; decide
    · rw [q]; decide
  unfold actB w_Checker_act_j61 w_Works_isIn
  (repeat (first | refine itp (by decide) ?_ | refine itn (by decide) ?_))
  exact c_fieldKx (o := 46) h hR hr (kwf_kd hty.kd hR.2.2.1.2) h0 (by omega) hP.q
theorem k_act47x {i : Ins} {v : Int32} {n : Nat} (h : KAx A W w c k br nq nk np nh nr this Ex a lo st kn M) (ho : i.1 = 47) (hv : actV A w nr i v M) (hw : wfI n i) (hi : gin (co (gmt (gc W c) k)) a = i) (hP : KPx A W w c k br nq nk np nh nr this Ex a kn (actS W c (gmt (gc W c) k) i a lo st) Q) : actB this Q (Int32.ofNat 47) v M := by
  rw [actS_wc (by omega) (by omega) (fun q => by have := q.1; omega), show wlist W c (gmt (gc W c) k) i = [(0, iR i), (0, (2, iK i))] by simp [wlist, ho], show ownS W c (gmt (gc W c) k) i lo st = 0 by simp [ownS, ho], show pushS i a lo st = [] by simp [pushS, ho]] at hP
  obtain ⟨r, hr, ev, hR⟩ := hv.2.1 (by omega)
  subst ev
  have hty := hw.2.1.2.2.2.2.2.2 (by omega)
  have h0 : 0 ≤ (iR i).1 := by
    rcases hty with q | q | q
    · rw [q]; decide
    · rw [q]; decide
    · rw [q]; decide
  unfold actB w_Checker_act_j61 w_Works_isIn
  (repeat (first | refine itp (by decide) ?_ | refine itn (by decide) ?_))
  exact c_fieldKx (o := 47) h hR hr (kwf_kd hty.kd hR.2.2.1.2) h0 (by omega) hP.q
theorem k_act48x {i : Ins} {v : Int32} {n : Nat} (h : KAx A W w c k br nq nk np nh nr this Ex a lo st kn M) (ho : i.1 = 48) (hv : actV A w nr i v M) (hw : wfI n i) (hi : gin (co (gmt (gc W c) k)) a = i) (hP : KPx A W w c k br nq nk np nh nr this Ex a kn (actS W c (gmt (gc W c) k) i a lo st) Q) : actB this Q (Int32.ofNat 48) v M := by
  rw [actS_wc (by omega) (by omega) (fun q => by have := q.1; omega), show wlist W c (gmt (gc W c) k) i = [] by simp [wlist, ho], show ownS W c (gmt (gc W c) k) i lo st = 0 by simp [ownS, ho], show pushS i a lo st = [iR i] by simp [pushS, ho]] at hP
  obtain ⟨r, hr, ev, hR⟩ := hv.2.1 (by omega)
  subst ev
  have hty := hw.2.1.2.2.2.2.2.2 (by omega)
  have h0 : 0 ≤ (iR i).1 := by
    rcases hty with q | q | q
    · rw [q]; decide
    · rw [q]; decide
    · rw [q]; decide
  unfold actB w_Checker_act_j61 w_Works_isIn
  (repeat (first | refine itp (by decide) ?_ | refine itn (by decide) ?_))
  exact c_fieldKx (o := 48) h hR hr (kwf_kd hty.kd hR.2.2.1.2) h0 (by omega) hP.q
theorem k_act49x {i : Ins} {v : Int32} {n : Nat} (h : KAx A W w c k br nq nk np nh nr this Ex a lo st kn M) (ho : i.1 = 49) (hv : actV A w nr i v M) (hw : wfI n i) (hi : gin (co (gmt (gc W c) k)) a = i) (hP : KPx A W w c k br nq nk np nh nr this Ex a kn (actS W c (gmt (gc W c) k) i a lo st) Q) : actB this Q (Int32.ofNat 49) v M := by
  rw [actS_wc (by omega) (by omega) (fun q => by have := q.1; omega), show wlist W c (gmt (gc W c) k) i = [(0, iR i)] by simp [wlist, ho], show ownS W c (gmt (gc W c) k) i lo st = 0 by simp [ownS, ho], show pushS i a lo st = [] by simp [pushS, ho]] at hP
  obtain ⟨r, hr, ev, hR⟩ := hv.2.1 (by omega)
  subst ev
  have hty := hw.2.1.2.2.2.2.2.2 (by omega)
  have h0 : 0 ≤ (iR i).1 := by
    rcases hty with q | q | q
    · rw [q]; decide
    · rw [q]; decide
    · rw [q]; decide
  unfold actB w_Checker_act_j61 w_Works_isIn
  (repeat (first | refine itp (by decide) ?_ | refine itn (by decide) ?_))
  exact c_fieldKx (o := 49) h hR hr (kwf_kd hty.kd hR.2.2.1.2) h0 (by omega) hP.q
theorem k_act50x {i : Ins} {v : Int32} {n : Nat} (h : KAx A W w c k br nq nk np nh nr this Ex a lo st kn M) (ho : i.1 = 50) (hv : actV A w nr i v M) (hw : wfI n i) (hi : gin (co (gmt (gc W c) k)) a = i) (hP : KPx A W w c k br nq nk np nh nr this Ex a kn (actS W c (gmt (gc W c) k) i a lo st) Q) : actB this Q (Int32.ofNat 50) v M := by
  obtain ⟨r, hr, ev, hR⟩ := hv.2.1 (by omega)
  subst ev
  have := c_callNx h hR hr (by omega) hw (fun q => by have := q.1; omega) hP.q
  rw [ho] at this
  unfold actB w_Checker_act_j61 w_Works_isIn
  (repeat (first | refine itp (by decide) ?_ | refine itn (by decide) ?_))
  exact this
theorem k_act51x {i : Ins} {v : Int32} {n : Nat} (h : KAx A W w c k br nq nk np nh nr this Ex a lo st kn M) (ho : i.1 = 51) (hv : actV A w nr i v M) (hw : wfI n i) (hi : gin (co (gmt (gc W c) k)) a = i) (hnm0 : ¬ isMk i) (hP : KPx A W w c k br nq nk np nh nr this Ex a kn (actS W c (gmt (gc W c) k) i a lo st) Q) : actB this Q (Int32.ofNat 51) v M := by
  obtain ⟨r, hr, ev, hR⟩ := hv.2.1 (by omega)
  subst ev
  have := c_callNx h hR hr (by omega) hw hnm0 hP.q
  rw [ho] at this
  unfold actB w_Checker_act_j61 w_Works_isIn
  (repeat (first | refine itp (by decide) ?_ | refine itn (by decide) ?_))
  exact this
theorem k_act52x {i : Ins} {v : Int32} {n : Nat} (h : KAx A W w c k br nq nk np nh nr this Ex a lo st kn M) (ho : i.1 = 52) (hv : actV A w nr i v M) (hw : wfI n i) (hi : gin (co (gmt (gc W c) k)) a = i) (hP : KPx A W w c k br nq nk np nh nr this Ex a kn (actS W c (gmt (gc W c) k) i a lo st) Q) : actB this Q (Int32.ofNat 52) v M := by
  obtain ⟨r, hr, ev, hR⟩ := hv.2.1 (by omega)
  subst ev
  have := c_callNx h hR hr (by omega) hw (fun q => by have := q.1; omega) hP.q
  rw [ho] at this
  unfold actB w_Checker_act_j61 w_Works_isIn
  (repeat (first | refine itp (by decide) ?_ | refine itn (by decide) ?_))
  exact this
theorem k_act53x {i : Ins} {v : Int32} {n : Nat} (h : KAx A W w c k br nq nk np nh nr this Ex a lo st kn M) (ho : i.1 = 53) (hv : actV A w nr i v M) (hw : wfI n i) (hi : gin (co (gmt (gc W c) k)) a = i) (hP : KPx A W w c k br nq nk np nh nr this Ex a kn (actS W c (gmt (gc W c) k) i a lo st) Q) : actB this Q (Int32.ofNat 53) v M := by
  obtain ⟨r, hr, ev, hR⟩ := hv.2.1 (by omega)
  subst ev
  have := c_callNx h hR hr (by omega) hw (fun q => by have := q.1; omega) hP.q
  rw [ho] at this
  unfold actB w_Checker_act_j61 w_Works_isIn
  (repeat (first | refine itp (by decide) ?_ | refine itn (by decide) ?_))
  exact this
theorem k_act54x {i : Ins} {v : Int32} {n : Nat} (h : KAx A W w c k br nq nk np nh nr this Ex a lo st kn M) (ho : i.1 = 54) (hv : actV A w nr i v M) (hw : wfI n i) (hi : gin (co (gmt (gc W c) k)) a = i) (hP : KPx A W w c k br nq nk np nh nr this Ex a kn (actS W c (gmt (gc W c) k) i a lo st) Q) : actB this Q (Int32.ofNat 54) v M := by
  rw [actS_wc (by omega) (by omega) (fun q => by have := q.1; omega), show wlist W c (gmt (gc W c) k) i = [wRef] by simp [wlist, ho], show ownS W c (gmt (gc W c) k) i lo st = 0 by simp [ownS, ho], show pushS i a lo st = [(2, iK i)] by simp [pushS, ho]] at hP
  obtain ⟨ev, hK⟩ := hv.1 (by omega)
  subst ev
  unfold actB w_Checker_act_j61 w_Works_isIn
  (repeat (first | refine itp (by decide) ?_ | refine itn (by decide) ?_))
  unfold w_Works_kindOf
  rw [show nc A (iK i) + 2 = kC A (2, iK i) from oN_add _ 2]
  exact k_w1c1x (t := wRef) (κ := (2, iK i)) h wokF hP (kwf_cls hK) (by show (2 : Int) ≠ -4; decide)
theorem k_act55x {i : Ins} {v : Int32} {n : Nat} (h : KAx A W w c k br nq nk np nh nr this Ex a lo st kn M) (ho : i.1 = 55) (hv : actV A w nr i v M) (hw : wfI n i) (hi : gin (co (gmt (gc W c) k)) a = i) (hP : KPx A W w c k br nq nk np nh nr this Ex a kn (actS W c (gmt (gc W c) k) i a lo st) Q) : actB this Q (Int32.ofNat 55) v M := by
  rw [actS_wc (by omega) (by omega) (fun q => by have := q.1; omega), show wlist W c (gmt (gc W c) k) i = [wRef] by simp [wlist, ho], show ownS W c (gmt (gc W c) k) i lo st = 0 by simp [ownS, ho], show pushS i a lo st = [(0, [])] by simp [pushS, ho]] at hP
  unfold actB w_Checker_act_j61 w_Works_isIn
  (repeat (first | refine itp (by decide) ?_ | refine itn (by decide) ?_))
  exact k_w1c1x (t := wRef) (κ := (0, [])) h wokF hP kwf0 (by decide)
theorem k_act56x {i : Ins} {v : Int32} {n : Nat} (h : KAx A W w c k br nq nk np nh nr this Ex a lo st kn M) (ho : i.1 = 56) (hv : actV A w nr i v M) (hw : wfI n i) (hi : gin (co (gmt (gc W c) k)) a = i) (hP : KPx A W w c k br nq nk np nh nr this Ex a kn (actS W c (gmt (gc W c) k) i a lo st) Q) : actB this Q (Int32.ofNat 56) v M := by
  rw [actS_wc (by omega) (by omega) (fun q => by have := q.1; omega), show wlist W c (gmt (gc W c) k) i = [(0, (2, nFault))] by simp [wlist, ho], show ownS W c (gmt (gc W c) k) i lo st = 0 by simp [ownS, ho], show pushS i a lo st = [] by simp [pushS, ho]] at hP
  unfold actB w_Checker_act_j61 w_Works_isIn
  (repeat (first | refine itp (by decide) ?_ | refine itn (by decide) ?_))
  have hF := h.1.na.fault
  unfold w_Works_kindOf
  have ek : (82 : Int32) + 2 = wvN A (0, (2, nFault)) := by
    rw [← hF.1]; exact oN_add _ 2
  rw [ek]
  exact k_w1c0x (t := (0, (2, nFault))) h (Or.inl ⟨rfl, kwf_cls hF.2, by show (0 : Int) ≤ 2; decide⟩) hP
theorem k_act57x {i : Ins} {v : Int32} {n : Nat} (h : KAx A W w c k br nq nk np nh nr this Ex a lo st kn M) (ho : i.1 = 57) (hv : actV A w nr i v M) (hw : wfI n i) (hi : gin (co (gmt (gc W c) k)) a = i) (hP : KPx A W w c k br nq nk np nh nr this Ex a kn (actS W c (gmt (gc W c) k) i a lo st) Q) : actB this Q (Int32.ofNat 57) v M := by
  have hh := h.ht
  have eP : actS W c (gmt (gc W c) k) i a lo st = if takeS W st [] ≠ 0 then .inl (takeS W st []) else if (if (gmt (gc W c) k).1 = nMake ∧ (unM lo || unM st) = true then 40 else if (gmt (gc W c) k).2.2.1.1 = -4 then 0 else 41) ≠ 0 then .inl (if (gmt (gc W c) k).1 = nMake ∧ (unM lo || unM st) = true then 40 else if (gmt (gc W c) k).2.2.1.1 = -4 then 0 else 41) else .inr (lo, st) := by
    have e1 : wlist W c (gmt (gc W c) k) i = [] := by simp [wlist, ho]
    have e2 : ownS W c (gmt (gc W c) k) i lo st = (if (gmt (gc W c) k).1 = nMake ∧ (unM lo || unM st) = true then 40 else if (gmt (gc W c) k).2.2.1.1 = -4 then 0 else 41) := by simp [ownS, ho]
    have e3 : pushS i a lo st = [] := by simp [pushS, ho]
    have e4 : ¬ isMk i := fun q => by have := q.1; omega
    have e5 : loS W c i lo st = lo := by unfold loS; rw [if_neg (by omega), if_neg (by omega), if_neg e4]
    have e6 : stS W c (gmt (gc W c) k) i a lo st = st := by unfold stS restS; rw [if_pos (by omega), e3, List.append_nil]
    unfold actS
    rw [takenS_w (by omega), e1, e2, e5, e6, if_neg (c := sr _ < st.length) (by omega), if_neg (c := (i.1 = 5 ∨ i.1 = 6 ∨ isMk i) ∧ _) (fun q => by
      rcases q.1 with q | q | q
      · omega
      · omega
      · exact e4 q)]
  rw [eP] at hP
  unfold actB w_Checker_act_j61 w_Works_isIn
  (repeat (first | refine itp (by decide) ?_ | refine itn (by decide) ?_))
  exact c_leavesx (o := 57) h (by omega) (by simp) (by simp) hP.q
theorem k_act58x {i : Ins} {v : Int32} {n : Nat} (h : KAx A W w c k br nq nk np nh nr this Ex a lo st kn M) (ho : i.1 = 58) (hv : actV A w nr i v M) (hw : wfI n i) (hi : gin (co (gmt (gc W c) k)) a = i) (hP : KPx A W w c k br nq nk np nh nr this Ex a kn (actS W c (gmt (gc W c) k) i a lo st) Q) : actB this Q (Int32.ofNat 58) v M := by
  have hh := h.ht
  have eP : actS W c (gmt (gc W c) k) i a lo st = if takeS W st [wNum] ≠ 0 then .inl (takeS W st [wNum]) else if (if (gmt (gc W c) k).2.2.1.1 = 0 then 0 else 41) ≠ 0 then .inl (if (gmt (gc W c) k).2.2.1.1 = 0 then 0 else 41) else .inr (lo, st) := by
    have e1 : wlist W c (gmt (gc W c) k) i = [wNum] := by simp [wlist, ho]
    have e2 : ownS W c (gmt (gc W c) k) i lo st = (if (gmt (gc W c) k).2.2.1.1 = 0 then 0 else 41) := by simp [ownS, ho]
    have e3 : pushS i a lo st = [] := by simp [pushS, ho]
    have e4 : ¬ isMk i := fun q => by have := q.1; omega
    have e5 : loS W c i lo st = lo := by unfold loS; rw [if_neg (by omega), if_neg (by omega), if_neg e4]
    have e6 : stS W c (gmt (gc W c) k) i a lo st = st := by unfold stS restS; rw [if_pos (by omega), e3, List.append_nil]
    unfold actS
    rw [takenS_w (by omega), e1, e2, e5, e6, if_neg (c := sr _ < st.length) (by omega), if_neg (c := (i.1 = 5 ∨ i.1 = 6 ∨ isMk i) ∧ _) (fun q => by
      rcases q.1 with q | q | q
      · omega
      · omega
      · exact e4 q)]
  rw [eP] at hP
  unfold actB w_Checker_act_j61 w_Works_isIn
  (repeat (first | refine itp (by decide) ?_ | refine itn (by decide) ?_))
  exact c_leavesx (o := 58) h (by omega) (by simp) (by simp) hP.q
theorem k_act59x {i : Ins} {v : Int32} {n : Nat} (h : KAx A W w c k br nq nk np nh nr this Ex a lo st kn M) (ho : i.1 = 59) (hv : actV A w nr i v M) (hw : wfI n i) (hi : gin (co (gmt (gc W c) k)) a = i) (hP : KPx A W w c k br nq nk np nh nr this Ex a kn (actS W c (gmt (gc W c) k) i a lo st) Q) : actB this Q (Int32.ofNat 59) v M := by
  have hh := h.ht
  have eP : actS W c (gmt (gc W c) k) i a lo st = if takeS W st [if (gmt (gc W c) k).2.2.1.1 = 1 ∨ (gmt (gc W c) k).2.2.1.1 = 2 then (0, (gmt (gc W c) k).2.2.1) else wRef] ≠ 0 then .inl (takeS W st [if (gmt (gc W c) k).2.2.1.1 = 1 ∨ (gmt (gc W c) k).2.2.1.1 = 2 then (0, (gmt (gc W c) k).2.2.1) else wRef]) else if (if (gmt (gc W c) k).2.2.1.1 = 1 ∨ (gmt (gc W c) k).2.2.1.1 = 2 then 0 else 41) ≠ 0 then .inl (if (gmt (gc W c) k).2.2.1.1 = 1 ∨ (gmt (gc W c) k).2.2.1.1 = 2 then 0 else 41) else .inr (lo, st) := by
    have e1 : wlist W c (gmt (gc W c) k) i = [if (gmt (gc W c) k).2.2.1.1 = 1 ∨ (gmt (gc W c) k).2.2.1.1 = 2 then (0, (gmt (gc W c) k).2.2.1) else wRef] := by simp [wlist, ho]
    have e2 : ownS W c (gmt (gc W c) k) i lo st = (if (gmt (gc W c) k).2.2.1.1 = 1 ∨ (gmt (gc W c) k).2.2.1.1 = 2 then 0 else 41) := by simp [ownS, ho]
    have e3 : pushS i a lo st = [] := by simp [pushS, ho]
    have e4 : ¬ isMk i := fun q => by have := q.1; omega
    have e5 : loS W c i lo st = lo := by unfold loS; rw [if_neg (by omega), if_neg (by omega), if_neg e4]
    have e6 : stS W c (gmt (gc W c) k) i a lo st = st := by unfold stS restS; rw [if_pos (by omega), e3, List.append_nil]
    unfold actS
    rw [takenS_w (by omega), e1, e2, e5, e6, if_neg (c := sr _ < st.length) (by omega), if_neg (c := (i.1 = 5 ∨ i.1 = 6 ∨ isMk i) ∧ _) (fun q => by
      rcases q.1 with q | q | q
      · omega
      · omega
      · exact e4 q)]
  rw [eP] at hP
  unfold actB w_Checker_act_j61 w_Works_isIn
  (repeat (first | refine itp (by decide) ?_ | refine itn (by decide) ?_))
  exact c_leavesx (o := 59) h (by omega) (by simp) (by simp) hP.q
theorem k_act60x {i : Ins} {v : Int32} {n : Nat} (h : KAx A W w c k br nq nk np nh nr this Ex a lo st kn M) (ho : i.1 = 60) (hv : actV A w nr i v M) (hw : wfI n i) (hi : gin (co (gmt (gc W c) k)) a = i) (hP : KPx A W w c k br nq nk np nh nr this Ex a kn (actS W c (gmt (gc W c) k) i a lo st) Q) : actB this Q (Int32.ofNat 60) v M := by
  rw [actS_wc (by omega) (by omega) (fun q => by have := q.1; omega), show wlist W c (gmt (gc W c) k) i = [wRef] by simp [wlist, ho], show ownS W c (gmt (gc W c) k) i lo st = 0 by simp [ownS, ho], show pushS i a lo st = [] by simp [pushS, ho]] at hP
  unfold actB w_Checker_act_j61 w_Works_isIn
  (repeat (first | refine itp (by decide) ?_ | refine itn (by decide) ?_))
  exact k_w1c0x (t := wRef) h wokF hP
theorem k_act61x {i : Ins} {v : Int32} {n : Nat} (h : KAx A W w c k br nq nk np nh nr this Ex a lo st kn M) (ho : i.1 = 61) (hv : actV A w nr i v M) (hw : wfI n i) (hi : gin (co (gmt (gc W c) k)) a = i) (hP : KPx A W w c k br nq nk np nh nr this Ex a kn (actS W c (gmt (gc W c) k) i a lo st) Q) : actB this Q (Int32.ofNat 61) v M := by
  rw [actS_wc (by omega) (by omega) (fun q => by have := q.1; omega), show wlist W c (gmt (gc W c) k) i = [wRef] by simp [wlist, ho], show ownS W c (gmt (gc W c) k) i lo st = 0 by simp [ownS, ho], show pushS i a lo st = [] by simp [pushS, ho]] at hP
  unfold actB w_Checker_act_j61 w_Works_isIn
  (repeat (first | refine itp (by decide) ?_ | refine itn (by decide) ?_))
  exact k_w1c0x (t := wRef) h wokF hP
theorem KAx.goes {t : Nat} (h : KAx A W w c k br nq nk np nh nr this Ex a lo st true M) (ht : t < (co (gmt (gc W c) k)).length) (h0 : goesS W (gmt (gc W c) k) lo st t = 0 → Q 1 M) (h1 : goesS W (gmt (gc W c) k) lo st t ≠ 0 → ∀ M', KZx A W w c k br nq nk np nh nr this Ex a (goesS W (gmt (gc W c) k) lo st t) M' → Q 0 M') : w_Checker_goes this (Int32.ofNat t) Q M := by
  refine c_goes h.1 h.2.1.u ht (fun z => h0 (by rw [← goS_true]; exact z)) (fun z => ?_)
  rw [goS_true] at z ⊢
  exact h1 z _ h.z
theorem c_endsx {q : Nat} (h : KAx A W w c k br nq nk np nh nr this Ex a lo st true M) (hq0 : ∃ q0, mI M 62 w (moff W c + k) = Int32.ofNat q0 ∧ q0 ≤ 30000 ∧ q = q0 + a) (hP : KPnx A W w c k br nq nk np nh nr this Ex a (aftS W (gmt (gc W c) k) (gin (co (gmt (gc W c) k)) a) a lo st) Q) : w_Checker_ends this (Int32.ofNat q) Q M := by
  obtain ⟨q0, hq, h3, eq⟩ := hq0
  have hL := L_le w
  have hb := h.1.kb
  unfold KB at hb
  have hr := h.1.rm
  obtain ⟨hi, hlt, -⟩ := h.1.ins hq h3 h.2.2.2.2
  rw [← eq] at hi hlt
  have hwf := h.1.wf.2.2.1.2 (gin (co (gmt (gc W c) k)) a) (by
    show (co (gmt (gc W c) k)).getD a _ ∈ _
    rw [List.getD_eq_getElem?_getD, List.getElem?_eq_getElem h.2.2.2.2]; exact List.getElem_mem h.2.2.2.2)
  have hm := h.1.mlt
  have h80 := h.1.wf.2.2.1.1
  have halt := h.2.2.2.2
  generalize gin (co (gmt (gc W c) k)) a = i at hi hwf hP
  obtain ⟨o62, hop, htg, -, -⟩ := hwf
  unfold aftS at hP
  -- the end
  have fin : endS W (gmt (gc W c) k) i lo st = 0 → w_Checker_ends_j104 this Q (Int32.ofNat i.1) M := fun e0 => by
    rw [if_neg (by omega)] at hP
    have j139 : ∀ g : Bool, g = decide (goesOn i.1) → w_Checker_ends_j139 this Q (b2 g) M := fun g hg => by
      unfold w_Checker_ends_j139
      have hA2 : KE A W w c k br nq nk np nh nr this (sI M 4 this 3 (b2 g)) := h.1.fr (S := (571586788613841666883220836184197269311258491587912197357546535911484746298583029329307855601409760300747826776847499381492015935155358310368707377103728210100188785202981759809103290579875568916906279235071821145409548462543176216184507360998816271917014454116073103439318297642987304928618033941227386219089813017272961345788989281119720935756579294733327700663909734926341200602357242020202058745308528342595964074462982623785717895075051973515654339473200635760893294494091009288544445312098701587650328316415546394274036564639618598699008)) (Fr.wI rfl (Fr.rf _ _))
      obtain ⟨h1, ⟨⟨s1, s2⟩, ⟨s3, s4⟩, ⟨s5, s6, s7⟩, s8, s9⟩, h10, h7, hal⟩ := h
      have r3 : mI (sI M 4 this 3 (b2 g)) 4 this 3 = b2 g := by simp only [mI_sI, mI_sR, mI_sJ, mR_sI, mL_sI, mL_sR, mR_sR, Nat.reduceEqDiff, and_false, false_and, if_false, and_self, true_and, and_true, if_true]
      have r8 : mI (sI M 4 this 3 (b2 g)) 4 this 8 = 0 := by simp only [mI_sI, mI_sR, mI_sJ, mR_sI, mL_sI, mL_sR, mR_sR, Nat.reduceEqDiff, and_false, false_and, if_false, and_self, true_and, and_true, if_true]; exact s9
      have r10 : EX Ex (sI M 4 this 3 (b2 g)) := h10.fr (S := (571586788613841666883220836184197269311258491587912197357546535911484746298583029329307855601409760300747826776847499381492015935155358310368707377103728210100188785202981759809103290579875568916906279235071821145409548462543176216184507360998816271917014454116073103439318297642987304928618033941227386219089813017272961345788989281119720935756579294733327700663909734926341200602357242020202058745308528342595964074462982623785717895075051973515654339473200635760893294494091009288544445312098701587650328316415546394274036564639618598699008)) (Fr.wI rfl (Fr.rf _ _))
      have r7 : mI (sI M 4 this 3 (b2 g)) 4 this 7 = Int32.ofNat a := by simp only [mI_sI, mI_sR, mI_sJ, mR_sI, mL_sI, mL_sR, mR_sR, Nat.reduceEqDiff, and_false, false_and, if_false, and_self, true_and, and_true, if_true]; exact h7
      have r2 : mI (sI M 4 this 3 (b2 g)) 4 this 2 = Int32.ofNat st.length := by simp only [mI_sI, mI_sR, mI_sJ, mR_sI, mL_sI, mL_sR, mR_sR, Nat.reduceEqDiff, and_false, false_and, if_false, and_self, true_and, and_true, if_true]; exact s6
      have rr : ∀ f j, f ≠ 4 → mI (sI M 4 this 3 (b2 g)) f this j = mI M f this j := fun f j hf => by rw [mI_sI, if_neg (fun q => hf q.1)]
      have l1 : mL (sI M 4 this 3 (b2 g)) 31 this = 20 := s1
      have l2 : mL (sI M 4 this 3 (b2 g)) 32 this = 24 := s2
      have k1 : KL A (co (gmt (gc W c) k)) 31 lo this (sI M 4 this 3 (b2 g)) := fun j hj => by rw [rr 31 j (by omega)]; exact s3 j hj
      have k2 : KL A (co (gmt (gc W c) k)) 32 st this (sI M 4 this 3 (b2 g)) := fun j hj => by rw [rr 32 j (by omega)]; exact s5 j hj
      refine ⟨by cases g <;> simp [b2], ?_⟩
      generalize sI M 4 this 3 (b2 g) = M1 at *
      rw [r3]
      by_cases c1 : goesOn i.1
      · rw [decide_eq_true c1] at hg
        subst hg
        refine itn (by decide) ⟨w, hA2.r, ?_⟩
        obtain ⟨q1, h1', ⟨a1, a2, a3, a4, a5, a6, a7, a8⟩, -, -⟩ := hA2.mc
        have e63 : mI M1 63 w (moff W c + k) = Int32.ofNat (co (gmt (gc W c) k)).length := a2
        rw [hA2.m6, oN_tnc (by omega), e63, r7, hA2.ml (by omega) (by omega)]
        refine ⟨(vp_oN (by omega)).mpr hm, ?_⟩
        rw [show Int32.ofNat (co (gmt (gc W c) k)).length - (1 : Int32) = Int32.ofNat ((co (gmt (gc W c) k)).length - 1) from oN_sub (b := 1) (by omega)]
        by_cases c2 : a + 1 = (co (gmt (gc W c) k)).length
        · rw [if_pos ⟨c1, c2⟩] at hP
          refine itn (nlt_oN (by omega) (by omega)) (k_breaks (r := 35) r8 (itp rfl (hP _ ⟨hA2.w8, ⟨l1, l2⟩, ?_, ?_, ?_⟩)))
          · exact r10.fr (S := (18290777235642933340263066757894312617960271730813190315441489149167511881554656938537851379245112329623930456859119980207744509924971465931798636067319302723206041126495416313891305298556018205341000935522298276653105550801381638917904235551962120701344462531714339310058185524575593757715777086119276359010874016552734763065247656995831069944210537431466486421245111517642918419275431744646465879849872906963070850382815443961142972642401663152500938863142420344348585423810912297233422249987158450804810506125297484616769170068467795158368256)) (Fr.wI rfl (Fr.rf _ _))
          · simp only [mI_sI, mI_sR, mI_sJ, mR_sI, mL_sI, mL_sR, mR_sR, Nat.reduceEqDiff, and_false, false_and, if_false, and_self, true_and, and_true, if_true]; exact r7
          · simp only [mI_sI, mI_sR, mI_sJ, mR_sI, mL_sI, mL_sR, mR_sR, Nat.reduceEqDiff, and_false, false_and, if_false, and_self, true_and, and_true, if_true]
        · rw [if_neg (fun q => c2 q.2), if_pos c1] at hP
          exact itp (lt_oN (by omega) (by omega)) (hP M1 ⟨hA2, ⟨⟨l1, l2⟩, fun _ => ⟨⟨l1, l2⟩, ⟨k1, s4⟩, ⟨k2, r2, s7⟩, r3, r8⟩, r3, r8⟩, r10, r7⟩)
      · rw [decide_eq_false c1] at hg
        subst hg
        rw [if_neg (fun q => c1 q.1), if_neg c1] at hP
        exact itp rfl (hP M1 ⟨hA2, ⟨⟨l1, l2⟩, (fun q => by cases q), r3, r8⟩, r10, r7⟩)
    unfold w_Checker_ends_j104 w_Checker_ends_j138
    by_cases c1 : i.1 = 23
    · exact itp (by rw [c1]; rfl) (j139 false (by rw [decide_eq_false (fun q => q.1 c1)]))
    refine itn (ne_oN (b := 23) c1 (by omega) (by omega)) ?_
    by_cases c2 : i.1 = 40
    · exact itp (by rw [c2]; rfl) (j139 false (by rw [decide_eq_false (fun q => q.2.1 c2)]))
    refine itn (ne_oN (b := 40) c2 (by omega) (by omega)) ?_
    by_cases c3 : i.1 = 56
    · exact itp (by rw [c3]; rfl) (j139 false (by rw [decide_eq_false (fun q => q.2.2.1 c3)]))
    refine itn (ne_oN (b := 56) c3 (by omega) (by omega)) (c_isInN (o := i.1) (lo := 57) (hi := 59) (by omega) (by omega) (by omega) ?_)
    by_cases c4 : 57 ≤ i.1 ∧ i.1 ≤ 59
    · rw [decide_eq_true c4]
      exact itn (by decide) (j139 false (by rw [decide_eq_false (fun q => q.2.2.2 c4)]))
    · rw [decide_eq_false c4]
      exact itp (by decide) (j139 true (by rw [decide_eq_true ⟨c1, c2, c3, c4⟩]))
  have bad : endS W (gmt (gc W c) k) i lo st ≠ 0 → ∀ M', KZx A W w c k br nq nk np nh nr this Ex a (endS W (gmt (gc W c) k) i lo st) M' → Q 0 M' := fun e0 => by
    rw [if_pos e0] at hP; exact hP
  unfold endS at fin bad
  unfold w_Checker_ends
  refine ⟨w, h.1.r, ?_⟩
  rw [oN_tnc (by omega), hi.1.1]
  refine ⟨by rw [hr.1 66 (by omega) (by omega)]; exact (vp_oN (by omega)).mpr hlt, c_isInN (o := i.1) (lo := 23) (hi := 39) (by omega) (by omega) (by omega) ?_⟩
  by_cases cJ : isJ i.1
  · rw [decide_eq_true cJ]
    rw [if_pos cJ] at fin bad
    refine itn (by decide) ⟨w, h.1.r, ?_⟩
    have hlen := hop.2.2.1 cJ
    rw [hi.2.2.1 cJ, hr.1 67 (by omega) (by omega)]
    refine ⟨(vp_oN (by omega)).mpr hlt, h.goes (htg _ ?_) (fun z => ?_) (fun z M' y => itp rfl (bad z M' y))⟩
    · show (iT i).getD 0 0 ∈ iT i
      rw [List.getD_eq_getElem?_getD, List.getElem?_eq_getElem (by omega)]; exact List.getElem_mem _
    · refine itn (by decide) ?_
      unfold w_Checker_ends_j39
      refine ⟨1, ?_⟩
      unfold w_Checker_ends_L41
      exact itn (ne_oN (b := 40) (by omega) (by omega) (by omega)) (fin z)
  · rw [decide_eq_false cJ]
    rw [if_neg cJ] at fin bad
    refine itp (by decide) ?_
    unfold w_Checker_ends_j39
    by_cases c40 : i.1 = 40
    · rw [if_pos c40] at fin bad
      obtain ⟨pf, hop2, hpk⟩ := hi.2.1
      obtain ⟨hp1, hp2⟩ := hpk c40
      have hop2 := hop2.1
      unfold cOp0 at hop2
      rw [if_neg (by omega), if_neg (by omega), if_pos c40] at hop2
      have hln : (insO i).2.2.1.length = (iT i).length := by show (List.map _ _).length = _; rw [List.length_map]
      rw [hln] at hop2
      have hne := hop.2.1 c40
      have hp1' : pf + (iT i).length ≤ np := hp1
      have loop : ∀ n j, (iT i).length + 1 - j < n → 1 ≤ j → j ≤ (iT i).length + 1 → pickS W (gmt (gc W c) k) lo st (iT i) (iT i).length 1 = pickS W (gmt (gc W c) k) lo st (iT i) ((iT i).length + 1 - j) j → w_Checker_ends_L41 this Q n (Int32.ofNat q) (Int32.ofNat i.1) (Int32.ofNat j) M := by
        intro n
        induction n with
        | zero => intro j hn; exact absurd hn (by omega)
        | succ n ih =>
          intro j hn hj1 hj he
          unfold w_Checker_ends_L41
          refine itp (by rw [c40]; rfl) ⟨w, h.1.r, ?_⟩
          rw [oN_tnc (k := q) (by omega), hop2.2.2, hr.1 69 (by omega) (by omega)]
          refine ⟨(vp_oN (by omega)).mpr hlt, ?_⟩
          by_cases cj : (iT i).length < j
          · refine itp (lt_oN cj (by omega)) (fin ?_)
            rw [he, show (iT i).length + 1 - j = 0 by omega]; rfl
          refine itn (nlt_oN (by omega) (by omega)) ⟨w, h.1.r, w, h.1.r, by rw [hr.1 68 (by omega) (by omega)]; exact (vp_oN (by omega)).mpr hlt, w, h.1.r, by rw [hr.1 69 (by omega) (by omega)]; exact (vp_oN (by omega)).mpr hlt, by rw [hop2.2.2]; exact ne_oN (b := 0) hne (by omega) (by omega), ?_⟩
          have hmod : j % (iT i).length < (iT i).length := Nat.mod_lt _ (by omega)
          rw [hop2.2.2, hop2.2.1, oN_mod (by omega) (by omega), oN_add, oN_tnc (by omega), hp2 _ hmod, hr.2.2.1]
          refine ⟨(vp_oN (by omega)).mpr (by omega), ?_⟩
          rw [show (iT i).length + 1 - j = ((iT i).length - j) + 1 by omega] at he
          have he2 : pickS W (gmt (gc W c) k) lo st (iT i) ((iT i).length - j + 1) j = if goesS W (gmt (gc W c) k) lo st (gtn (iT i) (j % (iT i).length)) = 0 then pickS W (gmt (gc W c) k) lo st (iT i) ((iT i).length - j) (j + 1) else goesS W (gmt (gc W c) k) lo st (gtn (iT i) (j % (iT i).length)) := rfl
          rw [he2] at he
          refine h.goes (htg _ ?_) (fun z => ?_) (fun z M' y => ?_)
          · show (iT i).getD _ 0 ∈ iT i
            rw [List.getD_eq_getElem?_getD, List.getElem?_eq_getElem hmod]; exact List.getElem_mem _
          · rw [if_pos z] at he
            rw [show Int32.ofNat j + (1 : Int32) = Int32.ofNat (j + 1) from oN_add j 1]
            refine itn (by decide) (ih (j + 1) (by omega) (by omega) (by omega) ?_)
            rw [he, show (iT i).length + 1 - (j + 1) = (iT i).length - j by omega]
          · rw [if_neg z] at he
            rw [he] at bad
            exact itp rfl (bad z M' y)
      refine ⟨(iT i).length + 2, ?_⟩
      exact loop _ 1 (by omega) (by omega) (by omega) (by rw [show (iT i).length + 1 - 1 = (iT i).length by omega])
    · rw [if_neg c40] at fin bad
      refine ⟨1, ?_⟩
      unfold w_Checker_ends_L41
      exact itn (ne_oN (b := 40) c40 (by omega) (by omega)) (fin rfl)
theorem c_actx {q : Nat} (h : KAx A W w c k br nq nk np nh nr this Ex a lo st true M) (hq0 : ∃ q0, mI M 62 w (moff W c + k) = Int32.ofNat q0 ∧ q0 ≤ 30000 ∧ q = q0 + a) (hno : ¬ ((gin (co (gmt (gc W c) k)) a).1 = 5 ∨ (gin (co (gmt (gc W c) k)) a).1 = 6 ∨ isMk (gin (co (gmt (gc W c) k)) a))) (hP : KPx A W w c k br nq nk np nh nr this Ex a true (actS W c (gmt (gc W c) k) (gin (co (gmt (gc W c) k)) a) a lo st) Q) : w_Checker_act this (Int32.ofNat q) Q M := by
  obtain ⟨q0, hq, h3, eq⟩ := hq0
  have hL := L_le w
  have hr := h.1.rm
  obtain ⟨hi, hlt, -⟩ := h.1.ins hq h3 h.2.2.2.2
  rw [← eq] at hi hlt
  have hwf := h.1.wf.2.2.1.2 (gin (co (gmt (gc W c) k)) a) (by
    show (co (gmt (gc W c) k)).getD a _ ∈ _
    rw [List.getD_eq_getElem?_getD, List.getElem?_eq_getElem h.2.2.2.2]; exact List.getElem_mem h.2.2.2.2)
  generalize hg : gin (co (gmt (gc W c) k)) a = i at hi hwf hP hno
  have o62 := hwf.1
  have hv : actV A w nr i (mI M 67 w q) M := by
    obtain ⟨pf, hop, -⟩ := hi.2.1
    have hop := hop.1
    unfold cOp0 at hop
    refine ⟨fun e => ?_, fun e => ?_, fun e => ?_⟩
    · rw [if_pos e] at hop; exact hop
    · rw [if_neg (by omega), if_pos e] at hop; obtain ⟨r, r1, r2, r3⟩ := hop; exact ⟨r, r1, r2.1, r3⟩
    · rw [if_neg (by omega), if_neg (by omega), if_neg (by omega), if_neg (by omega)] at hop
      obtain ⟨b, eb, hb⟩ := hwf.2.1.1 e
      have e1 : mI M 67 w q = iV i := hop.1
      have e2 : iL i = b := by show (iV i).toNatClampNeg = b; rw [eb, oN_tnc (by omega)]
      exact ⟨by rw [e1, e2, eb], by omega⟩
  unfold w_Checker_act
  refine ⟨w, h.1.r, by rw [hr.1 66 (by omega) (by omega)]; exact (vp_oN (by omega)).mpr hlt, w, h.1.r, ?_⟩
  rw [oN_tnc (by omega), hi.1.1]
  refine ⟨by rw [hr.1 67 (by omega) (by omega)]; exact (vp_oN (by omega)).mpr hlt, ?_⟩
  show actB this Q (Int32.ofNat i.1) (mI M 67 w q) M
  generalize mI M 67 w q = v at hv
  obtain ⟨o, ho⟩ : ∃ o, i.1 = o := ⟨_, rfl⟩
  rw [ho]
  match o, ho with
  | 0, ho => exact k_act0x h ho hv hwf hg hP
  | 1, ho => exact k_act1x h ho hv hwf hg hP
  | 2, ho => exact k_act2x h ho hv hwf hg hP
  | 3, ho => exact k_act3x h ho hv hwf hg hP
  | 4, ho => exact k_act4x h ho hv hwf hg hP
  | 5, ho => exact absurd (Or.inl ho) hno
  | 6, ho => exact absurd (Or.inr (Or.inl ho)) hno
  | 7, ho => exact k_act7x h ho hv hwf hg hP
  | 8, ho => exact k_act8x h ho hv hwf hg hP
  | 9, ho => exact k_act9x h ho hv hwf hg hP
  | 10, ho => exact k_act10x h ho hv hwf hg hP
  | 11, ho => exact k_act11x h ho hv hwf hg hP
  | 12, ho => exact k_act12x h ho hv hwf hg hP
  | 13, ho => exact k_act13x h ho hv hwf hg hP
  | 14, ho => exact k_act14x h ho hv hwf hg hP
  | 15, ho => exact k_act15x h ho hv hwf hg hP
  | 16, ho => exact k_act16x h ho hv hwf hg hP
  | 17, ho => exact k_act17x h ho hv hwf hg hP
  | 18, ho => exact k_act18x h ho hv hwf hg hP
  | 19, ho => exact k_act19x h ho hv hwf hg hP
  | 20, ho => exact k_act20x h ho hv hwf hg hP
  | 21, ho => exact k_act21x h ho hv hwf hg hP
  | 22, ho => exact k_act22x h ho hv hwf hg hP
  | 23, ho => exact k_act23x h ho hv hwf hg hP
  | 24, ho => exact k_act24x h ho hv hwf hg hP
  | 25, ho => exact k_act25x h ho hv hwf hg hP
  | 26, ho => exact k_act26x h ho hv hwf hg hP
  | 27, ho => exact k_act27x h ho hv hwf hg hP
  | 28, ho => exact k_act28x h ho hv hwf hg hP
  | 29, ho => exact k_act29x h ho hv hwf hg hP
  | 30, ho => exact k_act30x h ho hv hwf hg hP
  | 31, ho => exact k_act31x h ho hv hwf hg hP
  | 32, ho => exact k_act32x h ho hv hwf hg hP
  | 33, ho => exact k_act33x h ho hv hwf hg hP
  | 34, ho => exact k_act34x h ho hv hwf hg hP
  | 35, ho => exact k_act35x h ho hv hwf hg hP
  | 36, ho => exact k_act36x h ho hv hwf hg hP
  | 37, ho => exact k_act37x h ho hv hwf hg hP
  | 38, ho => exact k_act38x h ho hv hwf hg hP
  | 39, ho => exact k_act39x h ho hv hwf hg hP
  | 40, ho => exact k_act40x h ho hv hwf hg hP
  | 41, ho => exact k_act41x h ho hv hwf hg hP
  | 42, ho => exact k_act42x h ho hv hwf hg hP
  | 43, ho => exact k_act43x h ho hv hwf hg hP
  | 44, ho => exact k_act44x h ho hv hwf hg hP
  | 45, ho => exact k_act45x h ho hv hwf hg hP
  | 46, ho => exact k_act46x h ho hv hwf hg hP
  | 47, ho => exact k_act47x h ho hv hwf hg hP
  | 48, ho => exact k_act48x h ho hv hwf hg hP
  | 49, ho => exact k_act49x h ho hv hwf hg hP
  | 50, ho => exact k_act50x h ho hv hwf hg hP
  | 51, ho => exact k_act51x h ho hv hwf hg (fun q => hno (Or.inr (Or.inr q))) hP
  | 52, ho => exact k_act52x h ho hv hwf hg hP
  | 53, ho => exact k_act53x h ho hv hwf hg hP
  | 54, ho => exact k_act54x h ho hv hwf hg hP
  | 55, ho => exact k_act55x h ho hv hwf hg hP
  | 56, ho => exact k_act56x h ho hv hwf hg hP
  | 57, ho => exact k_act57x h ho hv hwf hg hP
  | 58, ho => exact k_act58x h ho hv hwf hg hP
  | 59, ho => exact k_act59x h ho hv hwf hg hP
  | 60, ho => exact k_act60x h ho hv hwf hg hP
  | 61, ho => exact k_act61x h ho hv hwf hg hP
  | o + 62, ho => omega
end
