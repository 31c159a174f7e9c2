/-! B: the works' checker: an instruction's work (printed by gen/act.py) -/
/-- an instruction's work, by operation and number -/
def actB (this : Nat) (Q : Int32 → Mem → Prop) (o v : Int32) (M : Mem) : Prop := w_Works_isIn o (8 : Int32) (18 : Int32) (fun r6 M5 => if r6 = 0 then (w_Checker_act_j61 this Q o v M5) else (if o = (13 : Int32) then (w_Checker_act_j61 this Q o v M5) else (w_Checker_wants2 this (0 : Int32) (0 : Int32) (fun r352 M351 => if r352 = 0 then (Q (0 : Int32) M351) else (w_Checker_comes this (2 : Int32) (0 : Int32) (fun r355 M354 => if r355 = 0 then (Q (0 : Int32) M354) else (Q (1 : Int32) M354)) M351)) M5))) M
/-- the number that stands with an operation -/
def actV (A : List Nm) (w nr : Nat) (i : Ins) (v : Int32) (M : Mem) : Prop := (isN i.1 → v = nc A (iK i) ∧ iK i ∈ A) ∧ (isFo i.1 ∨ isMo i.1 → ∃ r, r < nr ∧ v = Int32.ofNat r ∧ cRf A w r (iK i) (iM i) (iA i) (iR i) M) ∧ (3 ≤ i.1 ∧ i.1 ≤ 7 → v = Int32.ofNat (iL i) ∧ iL i ≤ 19)
theorem kwf0 {A : List Nm} {co : List Ins} : kwf A co (0, []) := Or.inr ⟨rfl, Or.inl ⟨by decide, by decide⟩⟩
theorem kwf1 {A : List Nm} {co : List Ins} : kwf A co (1, []) := Or.inr ⟨rfl, Or.inl ⟨by decide, by decide⟩⟩
theorem kwfN {A : List Nm} {co : List Ins} : kwf A co (-1, []) := Or.inr ⟨rfl, Or.inl ⟨by decide, by decide⟩⟩
theorem gk_ext {a b : List Kd} (hl : a.length = b.length) (h : ∀ i, i < b.length → gk a i = gk b i) : a = b := by
  have := map_ext (l := b) (l' := a) (f := fun κ => κ) hl h
  rw [this]; exact List.map_id' b
theorem wokN {A : List Nm} {co : List Ins} : wok A co wNum := Or.inl ⟨rfl, kwf0, by decide⟩
theorem wokR {A : List Nm} {co : List Ins} : wok A co wRow := Or.inl ⟨rfl, kwf1, by decide⟩
theorem wokF {A : List Nm} {co : List Ins} : wok A co wRef := Or.inr (Or.inl rfl)
section
variable {A : List Nm} {W : List Cls} {w c k this : Nat} {br : Int32} {nq nk np nh nr a : Nat} {lo st : List Kd} {kn : Bool} {M M' : Mem} {Q : Int32 → Mem → Prop}
theorem k_act0 {i : Ins} {v : Int32} {n : Nat} (h : KA A W w c k br nq nk np nh nr this a lo st kn M) (ho : i.1 = 0) (hv : actV A w nr i v M) (hw : wfI n i) (hi : gin (co (gmt (gc W c) k)) a = i) (hP : KP A W w c k br nq nk np nh nr this a kn (actS W c (gmt (gc W c) k) i a lo st) Q) : actB this Q (Int32.ofNat 0) v M := by
  rw [actS_wc (by omega) (by omega) (fun q => by have := q.1; omega), show wlist W c (gmt (gc W c) k) i = [] by simp [wlist, ho], show ownS W c (gmt (gc W c) k) i lo st = 0 by simp [ownS, ho], show pushS i a lo st = [] by simp [pushS, ho]] at hP
  unfold actB w_Checker_act_j61 w_Works_isIn
  (repeat (first | refine itp (by decide) ?_ | refine itn (by decide) ?_))
  have hh := h.ht
  have e : st.take (st.length - ([] : List Wt).length) ++ [] = st := by rw [List.append_nil]; exact List.take_of_length_le (by simp)
  exact hP.good takeS_nil (by rw [e]; omega) M (by rw [e]; exact h)
theorem k_act1 {i : Ins} {v : Int32} {n : Nat} (h : KA A W w c k br nq nk np nh nr this a lo st kn M) (ho : i.1 = 1) (hv : actV A w nr i v M) (hw : wfI n i) (hi : gin (co (gmt (gc W c) k)) a = i) (hP : KP A W w c k br nq nk np nh nr this a kn (actS W c (gmt (gc W c) k) i a lo st) Q) : actB this Q (Int32.ofNat 1) v M := by
  rw [actS_wc (by omega) (by omega) (fun q => by have := q.1; omega), show wlist W c (gmt (gc W c) k) i = [] by simp [wlist, ho], show ownS W c (gmt (gc W c) k) i lo st = 0 by simp [ownS, ho], show pushS i a lo st = [(0, [])] by simp [pushS, ho]] at hP
  unfold actB w_Checker_act_j61 w_Works_isIn
  (repeat (first | refine itp (by decide) ?_ | refine itn (by decide) ?_))
  have hh := h.ht
  have e : st.take (st.length - ([] : List Wt).length) = st := List.take_of_length_le (by simp)
  exact c_push (κ := (0, [])) h kwf0 (fun z M' q => ⟨Or.inl rfl, hP.full takeS_nil (by rw [e, List.length_append, List.length_singleton]; omega) M' q⟩) (fun z M' q => ⟨Or.inr rfl, hP.good takeS_nil (by rw [e, List.length_append, List.length_singleton]; omega) M' (by rw [e]; exact q)⟩)
theorem k_act2 {i : Ins} {v : Int32} {n : Nat} (h : KA A W w c k br nq nk np nh nr this a lo st kn M) (ho : i.1 = 2) (hv : actV A w nr i v M) (hw : wfI n i) (hi : gin (co (gmt (gc W c) k)) a = i) (hP : KP A W w c k br nq nk np nh nr this a kn (actS W c (gmt (gc W c) k) i a lo st) Q) : actB this Q (Int32.ofNat 2) v M := by
  rw [actS_wc (by omega) (by omega) (fun q => by have := q.1; omega), show wlist W c (gmt (gc W c) k) i = [] by simp [wlist, ho], show ownS W c (gmt (gc W c) k) i lo st = 0 by simp [ownS, ho], show pushS i a lo st = [(-1, [])] by simp [pushS, ho]] at hP
  unfold actB w_Checker_act_j61 w_Works_isIn
  (repeat (first | refine itp (by decide) ?_ | refine itn (by decide) ?_))
  have hh := h.ht
  have e : st.take (st.length - ([] : List Wt).length) = st := List.take_of_length_le (by simp)
  exact c_push (κ := (-1, [])) h kwfN (fun z M' q => ⟨Or.inl rfl, hP.full takeS_nil (by rw [e, List.length_append, List.length_singleton]; omega) M' q⟩) (fun z M' q => ⟨Or.inr rfl, hP.good takeS_nil (by rw [e, List.length_append, List.length_singleton]; omega) M' (by rw [e]; exact q)⟩)
theorem k_act3 {i : Ins} {v : Int32} {n : Nat} (h : KA A W w c k br nq nk np nh nr this a lo st kn M) (ho : i.1 = 3) (hv : actV A w nr i v M) (hw : wfI n i) (hi : gin (co (gmt (gc W c) k)) a = i) (hP : KP A W w c k br nq nk np nh nr this a kn (actS W c (gmt (gc W c) k) i a lo st) Q) : actB this Q (Int32.ofNat 3) v M := by
  have hh := h.ht
  have hla := h.1.la
  have hlr := h.1.lr.2
  obtain ⟨ev, h19⟩ := hv.2.2 (by omega)
  subst ev
  have e0 : st.take (st.length - ([] : List Wt).length) = st := List.take_of_length_le (by simp)
  have eP : actS W c (gmt (gc W c) k) i a lo st = if lr (gmt (gc W c) k) ≤ iL i then .inl 33 else if (gk lo (iL i)).1 ≠ 0 then .inl 34 else if sr (gmt (gc W c) k) < (st ++ [(0, [])]).length then .inl 30 else .inr (lo, st ++ [(0, [])]) := by
    have e1 : wlist W c (gmt (gc W c) k) i = [] := by simp [wlist, ho]
    have e2 : ownS W c (gmt (gc W c) k) i lo st = 0 := by simp [ownS, ho]
    have e3 : pushS i a lo st = [(0, [])] := by simp [pushS, ho]
    have e4 : ¬ isMk i := fun q => by have := q.1; omega
    have e5 : loS W c i lo st = lo := by unfold loS; rw [if_neg (by omega), if_neg (by omega), if_neg e4]
    have e6 : stS W c (gmt (gc W c) k) i a lo st = st ++ [(0, [])] := by unfold stS restS; rw [if_neg (by omega), if_neg e4, e1, e3, e0]
    have e7 : takenS W c (gmt (gc W c) k) i lo st = if lr (gmt (gc W c) k) ≤ iL i then 33 else if (gk lo (iL i)).1 ≠ 0 then 34 else 0 := by
      unfold takenS
      rw [e1, takeS_nil]
      by_cases c1 : lr (gmt (gc W c) k) ≤ iL i
      · rw [if_pos ⟨by omega, c1⟩, if_pos c1]
      · rw [if_neg (fun q => c1 q.2), if_neg c1, if_neg (by simp)]
        simp [ho]
    unfold actS
    rw [e2, e5, e6, e7]
    by_cases c1 : lr (gmt (gc W c) k) ≤ iL i
    · rw [if_pos c1, if_pos c1, if_pos (by decide)]
    · rw [if_neg c1, if_neg c1]
      by_cases c2 : (gk lo (iL i)).1 ≠ 0
      · rw [if_pos c2, if_pos c2, if_pos (by decide)]
      · rw [if_neg c2, if_neg c2, if_neg (by simp), if_neg (by simp), if_neg (c := (i.1 = 5 ∨ i.1 = 6 ∨ isMk i) ∧ _) (fun q => by
          rcases q.1 with q | q | q
          · omega
          · omega
          · exact e4 q)]
  rw [eP] at hP
  unfold actB w_Checker_act_j61 w_Works_isIn
  (repeat (first | refine itp (by decide) ?_ | refine itn (by decide) ?_))
  refine c_isThere h (by omega) (fun z M' q => ?_) (fun z => ?_)
  · rw [if_pos z] at hP; exact itp rfl (hP M' q)
  rw [if_neg (by omega)] at hP
  obtain ⟨l1, l2⟩ := h.lv z
  refine itn (by decide) ?_
  rw [oN_tnc (by omega), l1, h.2.1.1.1]
  refine ⟨(vp_oN (by omega)).mpr (by omega), ?_⟩
  by_cases c1 : (gk lo (iL i)).1 = 0
  · rw [if_neg (fun q => q c1)] at hP
    refine itp ((kC_eq (n := 0) l2 hla (by omega)).mpr c1) ?_
    unfold w_Checker_act_j476
    refine c_push (κ := (0, [])) h kwf0 (fun y M' q => ?_) (fun y M' q => ?_)
    · rw [if_pos (by rw [List.length_append, List.length_singleton]; omega)] at hP; exact itp rfl (hP M' q)
    · rw [if_neg (by rw [List.length_append, List.length_singleton]; omega)] at hP; exact itn (by decide) (hP M' q)
  · rw [if_pos c1] at hP
    exact itn (fun q => c1 ((kC_eq (n := 0) l2 hla (by omega)).mp q)) (h.brk (r := 34) (fun M' q => itp rfl (hP M' q)))
theorem k_act4 {i : Ins} {v : Int32} {n : Nat} (h : KA A W w c k br nq nk np nh nr this a lo st kn M) (ho : i.1 = 4) (hv : actV A w nr i v M) (hw : wfI n i) (hi : gin (co (gmt (gc W c) k)) a = i) (hP : KP A W w c k br nq nk np nh nr this a kn (actS W c (gmt (gc W c) k) i a lo st) Q) : actB this Q (Int32.ofNat 4) v M := by
  have hh := h.ht
  have hla := h.1.la
  have hlr := h.1.lr.2
  obtain ⟨ev, h19⟩ := hv.2.2 (by omega)
  subst ev
  have e0 : st.take (st.length - ([] : List Wt).length) = st := List.take_of_length_le (by simp)
  have eP : actS W c (gmt (gc W c) k) i a lo st = if lr (gmt (gc W c) k) ≤ iL i then .inl 33 else if rfK (gk lo (iL i)) = false ∧ umK (gk lo (iL i)) = false then .inl 34 else if sr (gmt (gc W c) k) < (st ++ [gk lo (iL i)]).length then .inl 30 else .inr (lo, st ++ [gk lo (iL i)]) := by
    have e1 : wlist W c (gmt (gc W c) k) i = [] := by simp [wlist, ho]
    have e2 : ownS W c (gmt (gc W c) k) i lo st = 0 := by simp [ownS, ho]
    have e3 : pushS i a lo st = [gk lo (iL i)] := by simp [pushS, ho]
    have e4 : ¬ isMk i := fun q => by have := q.1; omega
    have e5 : loS W c i lo st = lo := by unfold loS; rw [if_neg (by omega), if_neg (by omega), if_neg e4]
    have e6 : stS W c (gmt (gc W c) k) i a lo st = st ++ [gk lo (iL i)] := by unfold stS restS; rw [if_neg (by omega), if_neg e4, e1, e3, e0]
    have e7 : takenS W c (gmt (gc W c) k) i lo st = if lr (gmt (gc W c) k) ≤ iL i then 33 else if rfK (gk lo (iL i)) = false ∧ umK (gk lo (iL i)) = false then 34 else 0 := by
      unfold takenS
      rw [e1, takeS_nil]
      by_cases c1 : lr (gmt (gc W c) k) ≤ iL i
      · rw [if_pos ⟨by omega, c1⟩, if_pos c1]
      · rw [if_neg (fun q => c1 q.2), if_neg c1, if_neg (by simp)]
        simp [ho]
    unfold actS
    rw [e2, e5, e6, e7]
    by_cases c1 : lr (gmt (gc W c) k) ≤ iL i
    · rw [if_pos c1, if_pos c1, if_pos (by decide)]
    · rw [if_neg c1, if_neg c1]
      by_cases c2 : rfK (gk lo (iL i)) = false ∧ umK (gk lo (iL i)) = false
      · rw [if_pos c2, if_pos c2, if_pos (by decide)]
      · rw [if_neg c2, if_neg c2, if_neg (by simp), if_neg (by simp), if_neg (c := (i.1 = 5 ∨ i.1 = 6 ∨ isMk i) ∧ _) (fun q => by
          rcases q.1 with q | q | q
          · omega
          · omega
          · exact e4 q)]
  rw [eP] at hP
  unfold actB w_Checker_act_j61 w_Works_isIn
  (repeat (first | refine itp (by decide) ?_ | refine itn (by decide) ?_))
  refine c_isThere h (by omega) (fun z M' q => ?_) (fun z => ?_)
  · rw [if_pos z] at hP; exact itp rfl (hP M' q)
  rw [if_neg (by omega)] at hP
  obtain ⟨l1, l2⟩ := h.lv z
  refine itn (by decide) ?_
  rw [oN_tnc (by omega), l1, h.2.1.1.1]
  refine ⟨(vp_oN (by omega)).mpr (by omega), ?_⟩
  have go : ¬ (rfK (gk lo (iL i)) = false ∧ umK (gk lo (iL i)) = false) → w_Checker_act_j564 this Q (Int32.ofNat (iL i)) M := fun hn => by
    rw [if_neg hn] at hP
    unfold w_Checker_act_j564
    rw [oN_tnc (by omega), l1, h.2.1.1.1]
    refine ⟨(vp_oN (by omega)).mpr (by omega), c_push h l2 (fun y M' q => ?_) (fun y M' q => ?_)⟩
    · rw [if_pos (by rw [List.length_append, List.length_singleton]; omega)] at hP; exact itp rfl (hP M' q)
    · rw [if_neg (by rw [List.length_append, List.length_singleton]; omega)] at hP; exact itn (by decide) (hP M' q)
  refine c_isReference l2 hla ?_
  cases c1 : rfK (gk lo (iL i)) with
  | true => exact itn (by decide) (go (fun q => by rw [c1] at q; exact absurd q.1 (by decide)))
  | false =>
    refine itp rfl ?_
    rw [l1, h.2.1.1.1]
    refine ⟨(vp_oN (by omega)).mpr (by omega), c_isUnmade l2 hla ?_⟩
    cases c2 : umK (gk lo (iL i)) with
    | true => exact itn (by decide) (go (fun q => by rw [c2] at q; exact absurd q.2 (by decide)))
    | false =>
      rw [if_pos ⟨c1, c2⟩] at hP
      exact itp rfl (h.brk (r := 34) (fun M' q => itp rfl (hP M' q)))
theorem k_act5 {i : Ins} {v : Int32} {n : Nat} (h : KA A W w c k br nq nk np nh nr this a lo st kn M) (ho : i.1 = 5) (hv : actV A w nr i v M) (hw : wfI n i) (hi : gin (co (gmt (gc W c) k)) a = i) (hP : KP A W w c k br nq nk np nh nr this a kn (actS W c (gmt (gc W c) k) i a lo st) Q) : actB this Q (Int32.ofNat 5) v M := by
  have hh := h.ht
  have hla := h.1.la
  have hlr := h.1.lr.2
  obtain ⟨ev, h19⟩ := hv.2.2 (by omega)
  subst ev
  have eP : actS W c (gmt (gc W c) k) i a lo st = if lr (gmt (gc W c) k) ≤ iL i then .inl 33 else if takeS W st [wNum] ≠ 0 then .inl (takeS W st [wNum]) else if sr (gmt (gc W c) k) < (st.take (st.length - 1)).length then .inl 30 else if handS W (gmt (gc W c) k) (lo.set (iL i) (0, [])) a (hs (gmt (gc W c) k)) ≠ 0 then .inl (handS W (gmt (gc W c) k) (lo.set (iL i) (0, [])) a (hs (gmt (gc W c) k))) else .inr (lo.set (iL i) (0, []), st.take (st.length - 1)) := by
    have e1 : wlist W c (gmt (gc W c) k) i = [wNum] := by simp [wlist, ho]
    have e2 : ownS W c (gmt (gc W c) k) i lo st = 0 := by simp [ownS, ho]
    have e3 : pushS i a lo st = [] := by simp [pushS, ho]
    have e4 : ¬ isMk i := fun q => by have := q.1; omega
    have e5 : loS W c i lo st = lo.set (iL i) (0, []) := by simp [loS, ho]
    have e6 : stS W c (gmt (gc W c) k) i a lo st = st.take (st.length - 1) := by unfold stS restS; rw [if_neg (by omega), if_neg e4, e1, e3, List.append_nil]; rfl
    have e7 : takenS W c (gmt (gc W c) k) i lo st = if lr (gmt (gc W c) k) ≤ iL i then 33 else takeS W st [wNum] := by
      unfold takenS
      rw [e1]
      by_cases c1 : lr (gmt (gc W c) k) ≤ iL i
      · rw [if_pos ⟨by omega, c1⟩, if_pos c1]
      · rw [if_neg (fun q => c1 q.2), if_neg c1]
        by_cases c2 : takeS W st [wNum] = 0
        · rw [c2, if_neg (by simp), if_neg (by
            rintro (q | q)
            · omega
            · omega)]
        · rw [if_pos c2]
    unfold actS
    rw [e2, e5, e6, e7]
    by_cases c1 : lr (gmt (gc W c) k) ≤ iL i
    · rw [if_pos c1, if_pos c1, if_pos (by decide)]
    · rw [if_neg c1, if_neg c1]
      by_cases c2 : takeS W st [wNum] = 0
      · rw [c2]
        simp only [ne_eq, not_true_eq_false, if_false]
        by_cases c3 : sr (gmt (gc W c) k) < (st.take (st.length - 1)).length
        · rw [if_pos c3, if_pos c3]
        · rw [if_neg c3, if_neg c3]
          by_cases c4 : handS W (gmt (gc W c) k) (lo.set (iL i) (0, [])) a (hs (gmt (gc W c) k)) = 0
          · rw [if_neg (fun q => q.2 c4), if_neg (fun q => q c4)]
          · rw [if_pos ⟨by omega, c4⟩, if_pos c4]
      · rw [if_pos c2, if_pos c2]
  rw [eP] at hP
  unfold actB w_Checker_act_j61 w_Works_isIn
  (repeat (first | refine itp (by decide) ?_ | refine itn (by decide) ?_))
  refine c_isThere h (by omega) (fun z M' q => ?_) (fun z => ?_)
  · rw [if_pos z] at hP; exact itp rfl (hP M' q)
  rw [if_neg (by omega)] at hP
  refine itn (by decide) ?_
  refine c_wants1 (t := wNum) h wokN (fun y M' q => ?_) (fun y1 y2 => ?_)
  · rw [if_pos y] at hP; exact itp rfl (hP M' q)
  have hl : (st.take (st.length - 1)).length = st.length - 1 := by rw [List.length_take]; omega
  rw [if_neg (by omega), if_neg (by omega)] at hP
  obtain ⟨s1, s2⟩ := h.sv (d := 0) y2
  have e0 : tp st 0 = (0, []) := by
    have hF : wOne W wNum (tp st 0) = 0 := Decidable.byContradiction (fun q => by
      by_cases q2 : wOne W wNum (tp st 0) = 39
      · have : wOne W wNum (tp st 0) = if (tp st 0).1 = 0 then 0 else 32 := rfl
        rw [this] at q2
        split at q2 <;> exact absurd q2 (by decide)
      · have hF : wFst W st 0 [wNum] = wOne W wNum (tp st 0) := by rw [wFst_cons, if_neg (by omega)]
        rw [takeS_fst (by simpa using y2) (by rw [hF]; exact q), hF] at y1
        exact q y1)
    have : wOne W wNum (tp st 0) = if (tp st 0).1 = 0 then 0 else 32 := rfl
    rw [this] at hF
    have h0 : (tp st 0).1 = 0 := Decidable.byContradiction (fun q => by rw [if_neg q] at hF; exact absurd hF (by decide))
    rcases s2.rg with q | q
    · omega
    · exact kd_ext h0 q.1
  refine itn (by decide) (c_store h z y2 (fun y M' q => ?_) (fun y M' q => ?_))
  · rw [e0] at y q
    rw [if_pos y] at hP; exact itp rfl (hP M' q)
  · rw [e0] at y q
    rw [if_neg (fun x => x y)] at hP; exact itn (by decide) (hP M' q)
theorem k_act6 {i : Ins} {v : Int32} {n : Nat} (h : KA A W w c k br nq nk np nh nr this a lo st kn M) (ho : i.1 = 6) (hv : actV A w nr i v M) (hw : wfI n i) (hi : gin (co (gmt (gc W c) k)) a = i) (hP : KP A W w c k br nq nk np nh nr this a kn (actS W c (gmt (gc W c) k) i a lo st) Q) : actB this Q (Int32.ofNat 6) v M := by
  have hh := h.ht
  have hla := h.1.la
  have hlr := h.1.lr.2
  obtain ⟨ev, h19⟩ := hv.2.2 (by omega)
  subst ev
  have eP : actS W c (gmt (gc W c) k) i a lo st = if lr (gmt (gc W c) k) ≤ iL i then .inl 33 else if takeS W st [wSto] ≠ 0 then .inl (takeS W st [wSto]) else if sr (gmt (gc W c) k) < (st.take (st.length - 1)).length then .inl 30 else if handS W (gmt (gc W c) k) (lo.set (iL i) (tp st 0)) a (hs (gmt (gc W c) k)) ≠ 0 then .inl (handS W (gmt (gc W c) k) (lo.set (iL i) (tp st 0)) a (hs (gmt (gc W c) k))) else .inr (lo.set (iL i) (tp st 0), st.take (st.length - 1)) := by
    have e1 : wlist W c (gmt (gc W c) k) i = [wSto] := by simp [wlist, ho]
    have e2 : ownS W c (gmt (gc W c) k) i lo st = 0 := by simp [ownS, ho]
    have e3 : pushS i a lo st = [] := by simp [pushS, ho]
    have e4 : ¬ isMk i := fun q => by have := q.1; omega
    have e5 : loS W c i lo st = lo.set (iL i) (tp st 0) := by simp [loS, ho]
    have e6 : stS W c (gmt (gc W c) k) i a lo st = st.take (st.length - 1) := by unfold stS restS; rw [if_neg (by omega), if_neg e4, e1, e3, List.append_nil]; rfl
    have e7 : takenS W c (gmt (gc W c) k) i lo st = if lr (gmt (gc W c) k) ≤ iL i then 33 else takeS W st [wSto] := by
      unfold takenS
      rw [e1]
      by_cases c1 : lr (gmt (gc W c) k) ≤ iL i
      · rw [if_pos ⟨by omega, c1⟩, if_pos c1]
      · rw [if_neg (fun q => c1 q.2), if_neg c1]
        by_cases c2 : takeS W st [wSto] = 0
        · rw [c2, if_neg (by simp), if_neg (by
            rintro (q | q)
            · omega
            · omega)]
        · rw [if_pos c2]
    unfold actS
    rw [e2, e5, e6, e7]
    by_cases c1 : lr (gmt (gc W c) k) ≤ iL i
    · rw [if_pos c1, if_pos c1, if_pos (by decide)]
    · rw [if_neg c1, if_neg c1]
      by_cases c2 : takeS W st [wSto] = 0
      · rw [c2]
        simp only [ne_eq, not_true_eq_false, if_false]
        by_cases c3 : sr (gmt (gc W c) k) < (st.take (st.length - 1)).length
        · rw [if_pos c3, if_pos c3]
        · rw [if_neg c3, if_neg c3]
          by_cases c4 : handS W (gmt (gc W c) k) (lo.set (iL i) (tp st 0)) a (hs (gmt (gc W c) k)) = 0
          · rw [if_neg (fun q => q.2 c4), if_neg (fun q => q c4)]
          · rw [if_pos ⟨by omega, c4⟩, if_pos c4]
      · rw [if_pos c2, if_pos c2]
  rw [eP] at hP
  unfold actB w_Checker_act_j61 w_Works_isIn
  (repeat (first | refine itp (by decide) ?_ | refine itn (by decide) ?_))
  refine c_isThere h (by omega) (fun z M' q => ?_) (fun z => ?_)
  · rw [if_pos z] at hP; exact itp rfl (hP M' q)
  rw [if_neg (by omega)] at hP
  refine itn (by decide) ?_
  have hrule : 1 ≤ st.length → takeS W st [wSto] = if (rfK (tp st 0) || umK (tp st 0)) = true then 0 else 32 := fun y => by
    have hW : wOne W wSto (tp st 0) = if (rfK (tp st 0) || umK (tp st 0)) = true then 0 else 32 := rfl
    by_cases c1 : (rfK (tp st 0) || umK (tp st 0)) = true
    · rw [if_pos c1] at hW
      have hF : wFst W st 0 [wSto] = 0 := by rw [wFst_cons, if_pos (Or.inl hW)]; rfl
      rw [takeS_un (by simpa using y) hF, wUn_cons, hW, if_pos c1]; rfl
    · rw [if_neg c1] at hW
      have hF : wFst W st 0 [wSto] = 32 := by rw [wFst_cons, hW]; rfl
      rw [takeS_fst (by simpa using y) (by rw [hF]; decide), hF, if_neg c1]
  refine c_needs (n := 1) h (by omega) (fun y M' q => ?_) (fun y => ?_)
  · rw [takeS_lt (by simpa using y), if_pos (by decide)] at hP; exact itp rfl (hP M' q)
  have hl : (st.take (st.length - 1)).length = st.length - 1 := by rw [List.length_take]; omega
  rw [hrule y, if_neg (c := sr (gmt (gc W c) k) < _) (by omega)] at hP
  obtain ⟨s1, s2⟩ := h.sv (d := 0) y
  rw [show st.length - 1 - 0 = st.length - 1 by omega] at s1
  refine itn (by decide) ?_
  rw [hh.1, show Int32.ofNat st.length - (1 : Int32) = Int32.ofNat (st.length - 1) from oN_sub (b := 1) y, oN_tnc (by omega), s1, h.2.1.1.2]
  refine ⟨(vp_oN (by omega)).mpr (by omega), c_isUnmade s2 hla ?_⟩
  have go : (rfK (tp st 0) || umK (tp st 0)) = true → w_Checker_act_j657 this Q (Int32.ofNat (iL i)) M := fun hn => by
    rw [if_pos hn, if_neg (by simp)] at hP
    unfold w_Checker_act_j657
    refine c_store h z y (fun y M' q => ?_) (fun y M' q => ?_)
    · rw [if_pos y] at hP; exact itp rfl (hP M' q)
    · rw [if_neg (fun x => x y)] at hP; exact itn (by decide) (hP M' q)
  cases c2 : umK (tp st 0) with
  | true => exact itn (by decide) (go (by rw [c2, Bool.or_true]))
  | false =>
    refine itp rfl (c_is (d := 0) (t := wRef) h (by omega) wokF (fun x => ?_) (fun x1 x2 M' q => ?_))
    · have hW : wOne W wRef (tp st 0) = if umK (tp st 0) = true then 39 else if rfK (tp st 0) = true then 0 else 32 := rfl
      rw [hW, c2, if_neg (by decide)] at x
      refine itn (by decide) (go ?_)
      cases c1 : rfK (tp st 0) with
      | true => rfl
      | false => rw [c1] at x; exact absurd x (by decide)
    · have hW : wOne W wRef (tp st 0) = if umK (tp st 0) = true then 39 else if rfK (tp st 0) = true then 0 else 32 := rfl
      rw [c2, if_neg (by decide)] at hW
      cases c1 : rfK (tp st 0) with
      | true => rw [c1, if_pos rfl] at hW; exact absurd hW x1
      | false =>
        rw [c1, if_neg (by decide)] at hW
        rw [hW] at q
        have e32 : (if (rfK (tp st 0) || umK (tp st 0)) = true then 0 else 32) = 32 := by rw [c1, c2]; rfl
        rw [e32, if_pos (by decide)] at hP
        exact itp rfl (hP M' q)
theorem k_act7 {i : Ins} {v : Int32} {n : Nat} (h : KA A W w c k br nq nk np nh nr this a lo st kn M) (ho : i.1 = 7) (hv : actV A w nr i v M) (hw : wfI n i) (hi : gin (co (gmt (gc W c) k)) a = i) (hP : KP A W w c k br nq nk np nh nr this a kn (actS W c (gmt (gc W c) k) i a lo st) Q) : actB this Q (Int32.ofNat 7) v M := by
  have hh := h.ht
  have hla := h.1.la
  have hlr := h.1.lr.2
  obtain ⟨ev, h19⟩ := hv.2.2 (by omega)
  subst ev
  have e0 : st.take (st.length - ([] : List Wt).length) = st := List.take_of_length_le (by simp)
  have eP : actS W c (gmt (gc W c) k) i a lo st = if lr (gmt (gc W c) k) ≤ iL i then .inl 33 else if (gk lo (iL i)).1 ≠ 0 then .inl 34 else if sr (gmt (gc W c) k) < (st ++ []).length then .inl 30 else .inr (lo, st ++ []) := by
    have e1 : wlist W c (gmt (gc W c) k) i = [] := by simp [wlist, ho]
    have e2 : ownS W c (gmt (gc W c) k) i lo st = 0 := by simp [ownS, ho]
    have e3 : pushS i a lo st = [] := by simp [pushS, ho]
    have e4 : ¬ isMk i := fun q => by have := q.1; omega
    have e5 : loS W c i lo st = lo := by unfold loS; rw [if_neg (by omega), if_neg (by omega), if_neg e4]
    have e6 : stS W c (gmt (gc W c) k) i a lo st = st ++ [] := by unfold stS restS; rw [if_neg (by omega), if_neg e4, e1, e3, e0]
    have e7 : takenS W c (gmt (gc W c) k) i lo st = if lr (gmt (gc W c) k) ≤ iL i then 33 else if (gk lo (iL i)).1 ≠ 0 then 34 else 0 := by
      unfold takenS
      rw [e1, takeS_nil]
      by_cases c1 : lr (gmt (gc W c) k) ≤ iL i
      · rw [if_pos ⟨by omega, c1⟩, if_pos c1]
      · rw [if_neg (fun q => c1 q.2), if_neg c1, if_neg (by simp)]
        simp [ho]
    unfold actS
    rw [e2, e5, e6, e7]
    by_cases c1 : lr (gmt (gc W c) k) ≤ iL i
    · rw [if_pos c1, if_pos c1, if_pos (by decide)]
    · rw [if_neg c1, if_neg c1]
      by_cases c2 : (gk lo (iL i)).1 ≠ 0
      · rw [if_pos c2, if_pos c2, if_pos (by decide)]
      · rw [if_neg c2, if_neg c2, if_neg (by simp), if_neg (by simp), if_neg (c := (i.1 = 5 ∨ i.1 = 6 ∨ isMk i) ∧ _) (fun q => by
          rcases q.1 with q | q | q
          · omega
          · omega
          · exact e4 q)]
  rw [eP] at hP
  unfold actB w_Checker_act_j61 w_Works_isIn
  (repeat (first | refine itp (by decide) ?_ | refine itn (by decide) ?_))
  refine c_isThere h (by omega) (fun z M' q => ?_) (fun z => ?_)
  · rw [if_pos z] at hP; exact itp rfl (hP M' q)
  rw [if_neg (by omega)] at hP
  obtain ⟨l1, l2⟩ := h.lv z
  refine itn (by decide) ?_
  rw [oN_tnc (by omega), l1, h.2.1.1.1]
  refine ⟨(vp_oN (by omega)).mpr (by omega), ?_⟩
  by_cases c1 : (gk lo (iL i)).1 = 0
  · rw [if_neg (fun q => q c1), List.append_nil, if_neg (by omega)] at hP
    exact itp ((kC_eq (n := 0) l2 hla (by omega)).mpr c1) (hP M h)
  · rw [if_pos c1] at hP
    exact itn (fun q => c1 ((kC_eq (n := 0) l2 hla (by omega)).mp q)) (h.brk (r := 34) (fun M' q => itp rfl (hP M' q)))
theorem k_act8 {i : Ins} {v : Int32} {n : Nat} (h : KA A W w c k br nq nk np nh nr this a lo st kn M) (ho : i.1 = 8) (hv : actV A w nr i v M) (hw : wfI n i) (hi : gin (co (gmt (gc W c) k)) a = i) (hP : KP A W w c k br nq nk np nh nr this a kn (actS W c (gmt (gc W c) k) i a lo st) Q) : actB this Q (Int32.ofNat 8) v M := by
  rw [actS_wc (by omega) (by omega) (fun q => by have := q.1; omega), show wlist W c (gmt (gc W c) k) i = [wNum, wNum] by simp [wlist, ho], show ownS W c (gmt (gc W c) k) i lo st = 0 by simp [ownS, ho], show pushS i a lo st = [(0, [])] by simp [pushS, ho]] at hP
  unfold actB w_Checker_act_j61 w_Works_isIn
  (repeat (first | refine itp (by decide) ?_ | refine itn (by decide) ?_))
  exact k_w2c1 (t := wNum) (u := wNum) (κ := (0, [])) h wokN wokN hP kwf0 (by decide)
theorem k_act9 {i : Ins} {v : Int32} {n : Nat} (h : KA A W w c k br nq nk np nh nr this a lo st kn M) (ho : i.1 = 9) (hv : actV A w nr i v M) (hw : wfI n i) (hi : gin (co (gmt (gc W c) k)) a = i) (hP : KP A W w c k br nq nk np nh nr this a kn (actS W c (gmt (gc W c) k) i a lo st) Q) : actB this Q (Int32.ofNat 9) v M := by
  rw [actS_wc (by omega) (by omega) (fun q => by have := q.1; omega), show wlist W c (gmt (gc W c) k) i = [wNum, wNum] by simp [wlist, ho], show ownS W c (gmt (gc W c) k) i lo st = 0 by simp [ownS, ho], show pushS i a lo st = [(0, [])] by simp [pushS, ho]] at hP
  unfold actB w_Checker_act_j61 w_Works_isIn
  (repeat (first | refine itp (by decide) ?_ | refine itn (by decide) ?_))
  exact k_w2c1 (t := wNum) (u := wNum) (κ := (0, [])) h wokN wokN hP kwf0 (by decide)
theorem k_act10 {i : Ins} {v : Int32} {n : Nat} (h : KA A W w c k br nq nk np nh nr this a lo st kn M) (ho : i.1 = 10) (hv : actV A w nr i v M) (hw : wfI n i) (hi : gin (co (gmt (gc W c) k)) a = i) (hP : KP A W w c k br nq nk np nh nr this a kn (actS W c (gmt (gc W c) k) i a lo st) Q) : actB this Q (Int32.ofNat 10) v M := by
  rw [actS_wc (by omega) (by omega) (fun q => by have := q.1; omega), show wlist W c (gmt (gc W c) k) i = [wNum, wNum] by simp [wlist, ho], show ownS W c (gmt (gc W c) k) i lo st = 0 by simp [ownS, ho], show pushS i a lo st = [(0, [])] by simp [pushS, ho]] at hP
  unfold actB w_Checker_act_j61 w_Works_isIn
  (repeat (first | refine itp (by decide) ?_ | refine itn (by decide) ?_))
  exact k_w2c1 (t := wNum) (u := wNum) (κ := (0, [])) h wokN wokN hP kwf0 (by decide)
theorem k_act11 {i : Ins} {v : Int32} {n : Nat} (h : KA A W w c k br nq nk np nh nr this a lo st kn M) (ho : i.1 = 11) (hv : actV A w nr i v M) (hw : wfI n i) (hi : gin (co (gmt (gc W c) k)) a = i) (hP : KP A W w c k br nq nk np nh nr this a kn (actS W c (gmt (gc W c) k) i a lo st) Q) : actB this Q (Int32.ofNat 11) v M := by
  rw [actS_wc (by omega) (by omega) (fun q => by have := q.1; omega), show wlist W c (gmt (gc W c) k) i = [wNum, wNum] by simp [wlist, ho], show ownS W c (gmt (gc W c) k) i lo st = 0 by simp [ownS, ho], show pushS i a lo st = [(0, [])] by simp [pushS, ho]] at hP
  unfold actB w_Checker_act_j61 w_Works_isIn
  (repeat (first | refine itp (by decide) ?_ | refine itn (by decide) ?_))
  exact k_w2c1 (t := wNum) (u := wNum) (κ := (0, [])) h wokN wokN hP kwf0 (by decide)
theorem k_act12 {i : Ins} {v : Int32} {n : Nat} (h : KA A W w c k br nq nk np nh nr this a lo st kn M) (ho : i.1 = 12) (hv : actV A w nr i v M) (hw : wfI n i) (hi : gin (co (gmt (gc W c) k)) a = i) (hP : KP A W w c k br nq nk np nh nr this a kn (actS W c (gmt (gc W c) k) i a lo st) Q) : actB this Q (Int32.ofNat 12) v M := by
  rw [actS_wc (by omega) (by omega) (fun q => by have := q.1; omega), show wlist W c (gmt (gc W c) k) i = [wNum, wNum] by simp [wlist, ho], show ownS W c (gmt (gc W c) k) i lo st = 0 by simp [ownS, ho], show pushS i a lo st = [(0, [])] by simp [pushS, ho]] at hP
  unfold actB w_Checker_act_j61 w_Works_isIn
  (repeat (first | refine itp (by decide) ?_ | refine itn (by decide) ?_))
  exact k_w2c1 (t := wNum) (u := wNum) (κ := (0, [])) h wokN wokN hP kwf0 (by decide)
theorem k_act13 {i : Ins} {v : Int32} {n : Nat} (h : KA A W w c k br nq nk np nh nr this a lo st kn M) (ho : i.1 = 13) (hv : actV A w nr i v M) (hw : wfI n i) (hi : gin (co (gmt (gc W c) k)) a = i) (hP : KP A W w c k br nq nk np nh nr this a kn (actS W c (gmt (gc W c) k) i a lo st) Q) : actB this Q (Int32.ofNat 13) v M := by
  rw [actS_wc (by omega) (by omega) (fun q => by have := q.1; omega), show wlist W c (gmt (gc W c) k) i = [wNum] by simp [wlist, ho], show ownS W c (gmt (gc W c) k) i lo st = 0 by simp [ownS, ho], show pushS i a lo st = [(0, [])] by simp [pushS, ho]] at hP
  unfold actB w_Checker_act_j61 w_Works_isIn
  (repeat (first | refine itp (by decide) ?_ | refine itn (by decide) ?_))
  exact k_w1c1 (t := wNum) (κ := (0, [])) h wokN hP kwf0 (by decide)
theorem k_act14 {i : Ins} {v : Int32} {n : Nat} (h : KA A W w c k br nq nk np nh nr this a lo st kn M) (ho : i.1 = 14) (hv : actV A w nr i v M) (hw : wfI n i) (hi : gin (co (gmt (gc W c) k)) a = i) (hP : KP A W w c k br nq nk np nh nr this a kn (actS W c (gmt (gc W c) k) i a lo st) Q) : actB this Q (Int32.ofNat 14) v M := by
  rw [actS_wc (by omega) (by omega) (fun q => by have := q.1; omega), show wlist W c (gmt (gc W c) k) i = [wNum, wNum] by simp [wlist, ho], show ownS W c (gmt (gc W c) k) i lo st = 0 by simp [ownS, ho], show pushS i a lo st = [(0, [])] by simp [pushS, ho]] at hP
  unfold actB w_Checker_act_j61 w_Works_isIn
  (repeat (first | refine itp (by decide) ?_ | refine itn (by decide) ?_))
  exact k_w2c1 (t := wNum) (u := wNum) (κ := (0, [])) h wokN wokN hP kwf0 (by decide)
theorem k_act15 {i : Ins} {v : Int32} {n : Nat} (h : KA A W w c k br nq nk np nh nr this a lo st kn M) (ho : i.1 = 15) (hv : actV A w nr i v M) (hw : wfI n i) (hi : gin (co (gmt (gc W c) k)) a = i) (hP : KP A W w c k br nq nk np nh nr this a kn (actS W c (gmt (gc W c) k) i a lo st) Q) : actB this Q (Int32.ofNat 15) v M := by
  rw [actS_wc (by omega) (by omega) (fun q => by have := q.1; omega), show wlist W c (gmt (gc W c) k) i = [wNum, wNum] by simp [wlist, ho], show ownS W c (gmt (gc W c) k) i lo st = 0 by simp [ownS, ho], show pushS i a lo st = [(0, [])] by simp [pushS, ho]] at hP
  unfold actB w_Checker_act_j61 w_Works_isIn
  (repeat (first | refine itp (by decide) ?_ | refine itn (by decide) ?_))
  exact k_w2c1 (t := wNum) (u := wNum) (κ := (0, [])) h wokN wokN hP kwf0 (by decide)
theorem k_act16 {i : Ins} {v : Int32} {n : Nat} (h : KA A W w c k br nq nk np nh nr this a lo st kn M) (ho : i.1 = 16) (hv : actV A w nr i v M) (hw : wfI n i) (hi : gin (co (gmt (gc W c) k)) a = i) (hP : KP A W w c k br nq nk np nh nr this a kn (actS W c (gmt (gc W c) k) i a lo st) Q) : actB this Q (Int32.ofNat 16) v M := by
  rw [actS_wc (by omega) (by omega) (fun q => by have := q.1; omega), show wlist W c (gmt (gc W c) k) i = [wNum, wNum] by simp [wlist, ho], show ownS W c (gmt (gc W c) k) i lo st = 0 by simp [ownS, ho], show pushS i a lo st = [(0, [])] by simp [pushS, ho]] at hP
  unfold actB w_Checker_act_j61 w_Works_isIn
  (repeat (first | refine itp (by decide) ?_ | refine itn (by decide) ?_))
  exact k_w2c1 (t := wNum) (u := wNum) (κ := (0, [])) h wokN wokN hP kwf0 (by decide)
theorem k_act17 {i : Ins} {v : Int32} {n : Nat} (h : KA A W w c k br nq nk np nh nr this a lo st kn M) (ho : i.1 = 17) (hv : actV A w nr i v M) (hw : wfI n i) (hi : gin (co (gmt (gc W c) k)) a = i) (hP : KP A W w c k br nq nk np nh nr this a kn (actS W c (gmt (gc W c) k) i a lo st) Q) : actB this Q (Int32.ofNat 17) v M := by
  rw [actS_wc (by omega) (by omega) (fun q => by have := q.1; omega), show wlist W c (gmt (gc W c) k) i = [wNum, wNum] by simp [wlist, ho], show ownS W c (gmt (gc W c) k) i lo st = 0 by simp [ownS, ho], show pushS i a lo st = [(0, [])] by simp [pushS, ho]] at hP
  unfold actB w_Checker_act_j61 w_Works_isIn
  (repeat (first | refine itp (by decide) ?_ | refine itn (by decide) ?_))
  exact k_w2c1 (t := wNum) (u := wNum) (κ := (0, [])) h wokN wokN hP kwf0 (by decide)
theorem k_act18 {i : Ins} {v : Int32} {n : Nat} (h : KA A W w c k br nq nk np nh nr this a lo st kn M) (ho : i.1 = 18) (hv : actV A w nr i v M) (hw : wfI n i) (hi : gin (co (gmt (gc W c) k)) a = i) (hP : KP A W w c k br nq nk np nh nr this a kn (actS W c (gmt (gc W c) k) i a lo st) Q) : actB this Q (Int32.ofNat 18) v M := by
  rw [actS_wc (by omega) (by omega) (fun q => by have := q.1; omega), show wlist W c (gmt (gc W c) k) i = [wNum, wNum] by simp [wlist, ho], show ownS W c (gmt (gc W c) k) i lo st = 0 by simp [ownS, ho], show pushS i a lo st = [(0, [])] by simp [pushS, ho]] at hP
  unfold actB w_Checker_act_j61 w_Works_isIn
  (repeat (first | refine itp (by decide) ?_ | refine itn (by decide) ?_))
  exact k_w2c1 (t := wNum) (u := wNum) (κ := (0, [])) h wokN wokN hP kwf0 (by decide)
theorem k_act19 {i : Ins} {v : Int32} {n : Nat} (h : KA A W w c k br nq nk np nh nr this a lo st kn M) (ho : i.1 = 19) (hv : actV A w nr i v M) (hw : wfI n i) (hi : gin (co (gmt (gc W c) k)) a = i) (hP : KP A W w c k br nq nk np nh nr this a kn (actS W c (gmt (gc W c) k) i a lo st) Q) : actB this Q (Int32.ofNat 19) v M := by
  rw [actS_wc (by omega) (by omega) (fun q => by have := q.1; omega), show wlist W c (gmt (gc W c) k) i = [wAny] by simp [wlist, ho], show ownS W c (gmt (gc W c) k) i lo st = 0 by simp [ownS, ho], show pushS i a lo st = [] by simp [pushS, ho]] at hP
  unfold actB w_Checker_act_j61 w_Works_isIn
  (repeat (first | refine itp (by decide) ?_ | refine itn (by decide) ?_))
  refine c_needs (n := 1) h (by omega) (fun z M' q => itp rfl ?_) (fun z => itn (by decide) ?_)
  · have e := takeS_lt (W := W) (st := st) (ws := [wAny]) (by simpa using z)
    have := hP.rule (by rw [e]; decide)
    rw [e] at this; exact this M' q
  · exact k_c0 h hP z (takeS_any (by simp) z)
theorem k_act20 {i : Ins} {v : Int32} {n : Nat} (h : KA A W w c k br nq nk np nh nr this a lo st kn M) (ho : i.1 = 20) (hv : actV A w nr i v M) (hw : wfI n i) (hi : gin (co (gmt (gc W c) k)) a = i) (hP : KP A W w c k br nq nk np nh nr this a kn (actS W c (gmt (gc W c) k) i a lo st) Q) : actB this Q (Int32.ofNat 20) v M := by
  rw [actS_wc (by omega) (by omega) (fun q => by have := q.1; omega), show wlist W c (gmt (gc W c) k) i = [wAny] by simp [wlist, ho], show ownS W c (gmt (gc W c) k) i lo st = 0 by simp [ownS, ho], show pushS i a lo st = [tp st 0, tp st 0] by simp [pushS, ho]] at hP
  unfold actB w_Checker_act_j61 w_Works_isIn
  (repeat (first | refine itp (by decide) ?_ | refine itn (by decide) ?_))
  have hh := h.ht
  refine c_needs (n := 1) h (by omega) (fun z M' q => itp rfl ?_) (fun z => itn (by decide) ?_)
  · have e := takeS_lt (W := W) (st := st) (ws := [wAny]) (by simpa using z)
    have := hP.rule (by rw [e]; decide)
    rw [e] at this; exact this M' q
  · have tk := takeS_any (W := W) (st := st) (ws := [wAny]) (by simp) z
    obtain ⟨s1, s2⟩ := h.sv (d := 0) z
    rw [show st.length - 1 - 0 = st.length - 1 by omega] at s1
    have el : (st.take (st.length - [wAny].length) ++ [tp st 0, tp st 0]).length = st.length + 1 := by rw [List.length_append, List.length_take]; simp; omega
    have es : st.take (st.length - [wAny].length) ++ [tp st 0, tp st 0] = st ++ [tp st 0] := by
      refine gk_ext (by rw [el, List.length_append, List.length_singleton]) (fun j h1 => ?_)
      rw [List.length_append, List.length_singleton] at h1
      show gk (st.take (st.length - 1) ++ [tp st 0, tp st 0]) j = gk (st ++ [tp st 0]) j
      rw [gk_take2 (by omega), gk_ap]
      by_cases c1 : j < st.length - 1
      · rw [if_pos c1, if_pos (by omega)]
      · rw [if_neg c1]
        by_cases c2 : j = st.length - 1
        · rw [if_pos c2, if_pos (by omega), c2]; rfl
        · rw [if_neg c2, if_pos (by omega), if_neg (by omega), show j - st.length = 0 by omega]; rfl
    rw [hh.1, show Int32.ofNat st.length - (1 : Int32) = Int32.ofNat (st.length - 1) from oN_sub (b := 1) z, oN_tnc (by omega), s1, h.2.1.1.2]
    refine ⟨(vp_oN (by omega)).mpr (by omega), c_push h s2 (fun y M' q => itp rfl (hP.full tk (by rw [el]; omega) M' q)) (fun y M' q => itn (by decide) (hP.good tk (by rw [el]; omega) M' (by rw [es]; exact q)))⟩
theorem k_act21 {i : Ins} {v : Int32} {n : Nat} (h : KA A W w c k br nq nk np nh nr this a lo st kn M) (ho : i.1 = 21) (hv : actV A w nr i v M) (hw : wfI n i) (hi : gin (co (gmt (gc W c) k)) a = i) (hP : KP A W w c k br nq nk np nh nr this a kn (actS W c (gmt (gc W c) k) i a lo st) Q) : actB this Q (Int32.ofNat 21) v M := by
  rw [actS_wc (by omega) (by omega) (fun q => by have := q.1; omega), show wlist W c (gmt (gc W c) k) i = [wAny, wAny] by simp [wlist, ho], show ownS W c (gmt (gc W c) k) i lo st = 0 by simp [ownS, ho], show pushS i a lo st = [tp st 0, tp st 1, tp st 0] by simp [pushS, ho]] at hP
  unfold actB w_Checker_act_j61 w_Works_isIn
  (repeat (first | refine itp (by decide) ?_ | refine itn (by decide) ?_))
  have hh := h.ht
  refine c_needs (n := 2) h (by omega) (fun z M' q => itp rfl ?_) (fun z => itn (by decide) ?_)
  · have e := takeS_lt (W := W) (st := st) (ws := [wAny, wAny]) (by simpa using z)
    have := hP.rule (by rw [e]; decide)
    rw [e] at this; exact this M' q
  · have tk := takeS_any (W := W) (st := st) (ws := [wAny, wAny]) (by simp) z
    have el : (st.take (st.length - [wAny, wAny].length) ++ [tp st 0, tp st 1, tp st 0]).length = st.length + 1 := by rw [List.length_append, List.length_take]; simp; omega
    exact c_under h z (fun y M' q => itp rfl (hP.full tk (by rw [el]; omega) M' q)) (fun y M' q => itn (by decide) (hP.good tk (by rw [el]; omega) M' q))
theorem k_act22 {i : Ins} {v : Int32} {n : Nat} (h : KA A W w c k br nq nk np nh nr this a lo st kn M) (ho : i.1 = 22) (hv : actV A w nr i v M) (hw : wfI n i) (hi : gin (co (gmt (gc W c) k)) a = i) (hP : KP A W w c k br nq nk np nh nr this a kn (actS W c (gmt (gc W c) k) i a lo st) Q) : actB this Q (Int32.ofNat 22) v M := by
  rw [actS_wc (by omega) (by omega) (fun q => by have := q.1; omega), show wlist W c (gmt (gc W c) k) i = [wAny, wAny] by simp [wlist, ho], show ownS W c (gmt (gc W c) k) i lo st = 0 by simp [ownS, ho], show pushS i a lo st = [tp st 0, tp st 1] by simp [pushS, ho]] at hP
  unfold actB w_Checker_act_j61 w_Works_isIn
  (repeat (first | refine itp (by decide) ?_ | refine itn (by decide) ?_))
  have hh := h.ht
  refine c_needs (n := 2) h (by omega) (fun z M' q => itp rfl ?_) (fun z => itn (by decide) ?_)
  · have e := takeS_lt (W := W) (st := st) (ws := [wAny, wAny]) (by simpa using z)
    have := hP.rule (by rw [e]; decide)
    rw [e] at this; exact this M' q
  · have tk := takeS_any (W := W) (st := st) (ws := [wAny, wAny]) (by simp) z
    have el : (st.take (st.length - [wAny, wAny].length) ++ [tp st 0, tp st 1]).length = st.length := by rw [List.length_append, List.length_take]; simp; omega
    exact c_swap h z (fun M' q => itn (by decide) (hP.good tk (by rw [el]; omega) M' q))
theorem k_act23 {i : Ins} {v : Int32} {n : Nat} (h : KA A W w c k br nq nk np nh nr this a lo st kn M) (ho : i.1 = 23) (hv : actV A w nr i v M) (hw : wfI n i) (hi : gin (co (gmt (gc W c) k)) a = i) (hP : KP A W w c k br nq nk np nh nr this a kn (actS W c (gmt (gc W c) k) i a lo st) Q) : actB this Q (Int32.ofNat 23) v M := by
  rw [actS_wc (by omega) (by omega) (fun q => by have := q.1; omega), show wlist W c (gmt (gc W c) k) i = [] by simp [wlist, ho], show ownS W c (gmt (gc W c) k) i lo st = 0 by simp [ownS, ho], show pushS i a lo st = [] by simp [pushS, ho]] at hP
  unfold actB w_Checker_act_j61 w_Works_isIn
  (repeat (first | refine itp (by decide) ?_ | refine itn (by decide) ?_))
  have hh := h.ht
  have e : st.take (st.length - ([] : List Wt).length) ++ [] = st := by rw [List.append_nil]; exact List.take_of_length_le (by simp)
  exact hP.good takeS_nil (by rw [e]; omega) M (by rw [e]; exact h)
theorem k_act24 {i : Ins} {v : Int32} {n : Nat} (h : KA A W w c k br nq nk np nh nr this a lo st kn M) (ho : i.1 = 24) (hv : actV A w nr i v M) (hw : wfI n i) (hi : gin (co (gmt (gc W c) k)) a = i) (hP : KP A W w c k br nq nk np nh nr this a kn (actS W c (gmt (gc W c) k) i a lo st) Q) : actB this Q (Int32.ofNat 24) v M := by
  rw [actS_wc (by omega) (by omega) (fun q => by have := q.1; omega), show wlist W c (gmt (gc W c) k) i = [wNum] by simp [wlist, ho], show ownS W c (gmt (gc W c) k) i lo st = 0 by simp [ownS, ho], show pushS i a lo st = [] by simp [pushS, ho]] at hP
  unfold actB w_Checker_act_j61 w_Checker_act_j78 w_Works_isIn
  (repeat (first | refine itp (by decide) ?_ | refine itn (by decide) ?_))
  exact k_w1c0 (t := wNum) h wokN hP
theorem k_act25 {i : Ins} {v : Int32} {n : Nat} (h : KA A W w c k br nq nk np nh nr this a lo st kn M) (ho : i.1 = 25) (hv : actV A w nr i v M) (hw : wfI n i) (hi : gin (co (gmt (gc W c) k)) a = i) (hP : KP A W w c k br nq nk np nh nr this a kn (actS W c (gmt (gc W c) k) i a lo st) Q) : actB this Q (Int32.ofNat 25) v M := by
  rw [actS_wc (by omega) (by omega) (fun q => by have := q.1; omega), show wlist W c (gmt (gc W c) k) i = [wNum] by simp [wlist, ho], show ownS W c (gmt (gc W c) k) i lo st = 0 by simp [ownS, ho], show pushS i a lo st = [] by simp [pushS, ho]] at hP
  unfold actB w_Checker_act_j61 w_Checker_act_j78 w_Works_isIn
  (repeat (first | refine itp (by decide) ?_ | refine itn (by decide) ?_))
  exact k_w1c0 (t := wNum) h wokN hP
theorem k_act26 {i : Ins} {v : Int32} {n : Nat} (h : KA A W w c k br nq nk np nh nr this a lo st kn M) (ho : i.1 = 26) (hv : actV A w nr i v M) (hw : wfI n i) (hi : gin (co (gmt (gc W c) k)) a = i) (hP : KP A W w c k br nq nk np nh nr this a kn (actS W c (gmt (gc W c) k) i a lo st) Q) : actB this Q (Int32.ofNat 26) v M := by
  rw [actS_wc (by omega) (by omega) (fun q => by have := q.1; omega), show wlist W c (gmt (gc W c) k) i = [wNum] by simp [wlist, ho], show ownS W c (gmt (gc W c) k) i lo st = 0 by simp [ownS, ho], show pushS i a lo st = [] by simp [pushS, ho]] at hP
  unfold actB w_Checker_act_j61 w_Checker_act_j78 w_Works_isIn
  (repeat (first | refine itp (by decide) ?_ | refine itn (by decide) ?_))
  exact k_w1c0 (t := wNum) h wokN hP
theorem k_act27 {i : Ins} {v : Int32} {n : Nat} (h : KA A W w c k br nq nk np nh nr this a lo st kn M) (ho : i.1 = 27) (hv : actV A w nr i v M) (hw : wfI n i) (hi : gin (co (gmt (gc W c) k)) a = i) (hP : KP A W w c k br nq nk np nh nr this a kn (actS W c (gmt (gc W c) k) i a lo st) Q) : actB this Q (Int32.ofNat 27) v M := by
  rw [actS_wc (by omega) (by omega) (fun q => by have := q.1; omega), show wlist W c (gmt (gc W c) k) i = [wNum] by simp [wlist, ho], show ownS W c (gmt (gc W c) k) i lo st = 0 by simp [ownS, ho], show pushS i a lo st = [] by simp [pushS, ho]] at hP
  unfold actB w_Checker_act_j61 w_Checker_act_j78 w_Works_isIn
  (repeat (first | refine itp (by decide) ?_ | refine itn (by decide) ?_))
  exact k_w1c0 (t := wNum) h wokN hP
theorem k_act28 {i : Ins} {v : Int32} {n : Nat} (h : KA A W w c k br nq nk np nh nr this a lo st kn M) (ho : i.1 = 28) (hv : actV A w nr i v M) (hw : wfI n i) (hi : gin (co (gmt (gc W c) k)) a = i) (hP : KP A W w c k br nq nk np nh nr this a kn (actS W c (gmt (gc W c) k) i a lo st) Q) : actB this Q (Int32.ofNat 28) v M := by
  rw [actS_wc (by omega) (by omega) (fun q => by have := q.1; omega), show wlist W c (gmt (gc W c) k) i = [wNum] by simp [wlist, ho], show ownS W c (gmt (gc W c) k) i lo st = 0 by simp [ownS, ho], show pushS i a lo st = [] by simp [pushS, ho]] at hP
  unfold actB w_Checker_act_j61 w_Checker_act_j78 w_Works_isIn
  (repeat (first | refine itp (by decide) ?_ | refine itn (by decide) ?_))
  exact k_w1c0 (t := wNum) h wokN hP
theorem k_act29 {i : Ins} {v : Int32} {n : Nat} (h : KA A W w c k br nq nk np nh nr this a lo st kn M) (ho : i.1 = 29) (hv : actV A w nr i v M) (hw : wfI n i) (hi : gin (co (gmt (gc W c) k)) a = i) (hP : KP A W w c k br nq nk np nh nr this a kn (actS W c (gmt (gc W c) k) i a lo st) Q) : actB this Q (Int32.ofNat 29) v M := by
  rw [actS_wc (by omega) (by omega) (fun q => by have := q.1; omega), show wlist W c (gmt (gc W c) k) i = [wNum] by simp [wlist, ho], show ownS W c (gmt (gc W c) k) i lo st = 0 by simp [ownS, ho], show pushS i a lo st = [] by simp [pushS, ho]] at hP
  unfold actB w_Checker_act_j61 w_Checker_act_j78 w_Works_isIn
  (repeat (first | refine itp (by decide) ?_ | refine itn (by decide) ?_))
  exact k_w1c0 (t := wNum) h wokN hP
theorem k_act30 {i : Ins} {v : Int32} {n : Nat} (h : KA A W w c k br nq nk np nh nr this a lo st kn M) (ho : i.1 = 30) (hv : actV A w nr i v M) (hw : wfI n i) (hi : gin (co (gmt (gc W c) k)) a = i) (hP : KP A W w c k br nq nk np nh nr this a kn (actS W c (gmt (gc W c) k) i a lo st) Q) : actB this Q (Int32.ofNat 30) v M := by
  rw [actS_wc (by omega) (by omega) (fun q => by have := q.1; omega), show wlist W c (gmt (gc W c) k) i = [wNum, wNum] by simp [wlist, ho], show ownS W c (gmt (gc W c) k) i lo st = 0 by simp [ownS, ho], show pushS i a lo st = [] by simp [pushS, ho]] at hP
  unfold actB w_Checker_act_j61 w_Works_isIn
  (repeat (first | refine itp (by decide) ?_ | refine itn (by decide) ?_))
  exact k_w2c0 (t := wNum) (u := wNum) h wokN wokN hP
theorem k_act31 {i : Ins} {v : Int32} {n : Nat} (h : KA A W w c k br nq nk np nh nr this a lo st kn M) (ho : i.1 = 31) (hv : actV A w nr i v M) (hw : wfI n i) (hi : gin (co (gmt (gc W c) k)) a = i) (hP : KP A W w c k br nq nk np nh nr this a kn (actS W c (gmt (gc W c) k) i a lo st) Q) : actB this Q (Int32.ofNat 31) v M := by
  rw [actS_wc (by omega) (by omega) (fun q => by have := q.1; omega), show wlist W c (gmt (gc W c) k) i = [wNum, wNum] by simp [wlist, ho], show ownS W c (gmt (gc W c) k) i lo st = 0 by simp [ownS, ho], show pushS i a lo st = [] by simp [pushS, ho]] at hP
  unfold actB w_Checker_act_j61 w_Works_isIn
  (repeat (first | refine itp (by decide) ?_ | refine itn (by decide) ?_))
  exact k_w2c0 (t := wNum) (u := wNum) h wokN wokN hP
theorem k_act32 {i : Ins} {v : Int32} {n : Nat} (h : KA A W w c k br nq nk np nh nr this a lo st kn M) (ho : i.1 = 32) (hv : actV A w nr i v M) (hw : wfI n i) (hi : gin (co (gmt (gc W c) k)) a = i) (hP : KP A W w c k br nq nk np nh nr this a kn (actS W c (gmt (gc W c) k) i a lo st) Q) : actB this Q (Int32.ofNat 32) v M := by
  rw [actS_wc (by omega) (by omega) (fun q => by have := q.1; omega), show wlist W c (gmt (gc W c) k) i = [wNum, wNum] by simp [wlist, ho], show ownS W c (gmt (gc W c) k) i lo st = 0 by simp [ownS, ho], show pushS i a lo st = [] by simp [pushS, ho]] at hP
  unfold actB w_Checker_act_j61 w_Works_isIn
  (repeat (first | refine itp (by decide) ?_ | refine itn (by decide) ?_))
  exact k_w2c0 (t := wNum) (u := wNum) h wokN wokN hP
theorem k_act33 {i : Ins} {v : Int32} {n : Nat} (h : KA A W w c k br nq nk np nh nr this a lo st kn M) (ho : i.1 = 33) (hv : actV A w nr i v M) (hw : wfI n i) (hi : gin (co (gmt (gc W c) k)) a = i) (hP : KP A W w c k br nq nk np nh nr this a kn (actS W c (gmt (gc W c) k) i a lo st) Q) : actB this Q (Int32.ofNat 33) v M := by
  rw [actS_wc (by omega) (by omega) (fun q => by have := q.1; omega), show wlist W c (gmt (gc W c) k) i = [wNum, wNum] by simp [wlist, ho], show ownS W c (gmt (gc W c) k) i lo st = 0 by simp [ownS, ho], show pushS i a lo st = [] by simp [pushS, ho]] at hP
  unfold actB w_Checker_act_j61 w_Works_isIn
  (repeat (first | refine itp (by decide) ?_ | refine itn (by decide) ?_))
  exact k_w2c0 (t := wNum) (u := wNum) h wokN wokN hP
theorem k_act34 {i : Ins} {v : Int32} {n : Nat} (h : KA A W w c k br nq nk np nh nr this a lo st kn M) (ho : i.1 = 34) (hv : actV A w nr i v M) (hw : wfI n i) (hi : gin (co (gmt (gc W c) k)) a = i) (hP : KP A W w c k br nq nk np nh nr this a kn (actS W c (gmt (gc W c) k) i a lo st) Q) : actB this Q (Int32.ofNat 34) v M := by
  rw [actS_wc (by omega) (by omega) (fun q => by have := q.1; omega), show wlist W c (gmt (gc W c) k) i = [wNum, wNum] by simp [wlist, ho], show ownS W c (gmt (gc W c) k) i lo st = 0 by simp [ownS, ho], show pushS i a lo st = [] by simp [pushS, ho]] at hP
  unfold actB w_Checker_act_j61 w_Works_isIn
  (repeat (first | refine itp (by decide) ?_ | refine itn (by decide) ?_))
  exact k_w2c0 (t := wNum) (u := wNum) h wokN wokN hP
theorem k_act35 {i : Ins} {v : Int32} {n : Nat} (h : KA A W w c k br nq nk np nh nr this a lo st kn M) (ho : i.1 = 35) (hv : actV A w nr i v M) (hw : wfI n i) (hi : gin (co (gmt (gc W c) k)) a = i) (hP : KP A W w c k br nq nk np nh nr this a kn (actS W c (gmt (gc W c) k) i a lo st) Q) : actB this Q (Int32.ofNat 35) v M := by
  rw [actS_wc (by omega) (by omega) (fun q => by have := q.1; omega), show wlist W c (gmt (gc W c) k) i = [wNum, wNum] by simp [wlist, ho], show ownS W c (gmt (gc W c) k) i lo st = 0 by simp [ownS, ho], show pushS i a lo st = [] by simp [pushS, ho]] at hP
  unfold actB w_Checker_act_j61 w_Works_isIn
  (repeat (first | refine itp (by decide) ?_ | refine itn (by decide) ?_))
  exact k_w2c0 (t := wNum) (u := wNum) h wokN wokN hP
theorem k_act36 {i : Ins} {v : Int32} {n : Nat} (h : KA A W w c k br nq nk np nh nr this a lo st kn M) (ho : i.1 = 36) (hv : actV A w nr i v M) (hw : wfI n i) (hi : gin (co (gmt (gc W c) k)) a = i) (hP : KP A W w c k br nq nk np nh nr this a kn (actS W c (gmt (gc W c) k) i a lo st) Q) : actB this Q (Int32.ofNat 36) v M := by
  rw [actS_wc (by omega) (by omega) (fun q => by have := q.1; omega), show wlist W c (gmt (gc W c) k) i = [wRef] by simp [wlist, ho], show ownS W c (gmt (gc W c) k) i lo st = 0 by simp [ownS, ho], show pushS i a lo st = [] by simp [pushS, ho]] at hP
  unfold actB w_Checker_act_j61 w_Works_isIn
  (repeat (first | refine itp (by decide) ?_ | refine itn (by decide) ?_))
  exact k_w1c0 (t := wRef) h wokF hP
theorem k_act37 {i : Ins} {v : Int32} {n : Nat} (h : KA A W w c k br nq nk np nh nr this a lo st kn M) (ho : i.1 = 37) (hv : actV A w nr i v M) (hw : wfI n i) (hi : gin (co (gmt (gc W c) k)) a = i) (hP : KP A W w c k br nq nk np nh nr this a kn (actS W c (gmt (gc W c) k) i a lo st) Q) : actB this Q (Int32.ofNat 37) v M := by
  rw [actS_wc (by omega) (by omega) (fun q => by have := q.1; omega), show wlist W c (gmt (gc W c) k) i = [wRef] by simp [wlist, ho], show ownS W c (gmt (gc W c) k) i lo st = 0 by simp [ownS, ho], show pushS i a lo st = [] by simp [pushS, ho]] at hP
  unfold actB w_Checker_act_j61 w_Works_isIn
  (repeat (first | refine itp (by decide) ?_ | refine itn (by decide) ?_))
  exact k_w1c0 (t := wRef) h wokF hP
theorem k_act38 {i : Ins} {v : Int32} {n : Nat} (h : KA A W w c k br nq nk np nh nr this a lo st kn M) (ho : i.1 = 38) (hv : actV A w nr i v M) (hw : wfI n i) (hi : gin (co (gmt (gc W c) k)) a = i) (hP : KP A W w c k br nq nk np nh nr this a kn (actS W c (gmt (gc W c) k) i a lo st) Q) : actB this Q (Int32.ofNat 38) v M := by
  rw [actS_wc (by omega) (by omega) (fun q => by have := q.1; omega), show wlist W c (gmt (gc W c) k) i = [wRef, wRef] by simp [wlist, ho], show ownS W c (gmt (gc W c) k) i lo st = 0 by simp [ownS, ho], show pushS i a lo st = [] by simp [pushS, ho]] at hP
  unfold actB w_Checker_act_j61 w_Works_isIn
  (repeat (first | refine itp (by decide) ?_ | refine itn (by decide) ?_))
  exact k_w2c0 (t := wRef) (u := wRef) h wokF wokF hP
theorem k_act39 {i : Ins} {v : Int32} {n : Nat} (h : KA A W w c k br nq nk np nh nr this a lo st kn M) (ho : i.1 = 39) (hv : actV A w nr i v M) (hw : wfI n i) (hi : gin (co (gmt (gc W c) k)) a = i) (hP : KP A W w c k br nq nk np nh nr this a kn (actS W c (gmt (gc W c) k) i a lo st) Q) : actB this Q (Int32.ofNat 39) v M := by
  rw [actS_wc (by omega) (by omega) (fun q => by have := q.1; omega), show wlist W c (gmt (gc W c) k) i = [wRef, wRef] by simp [wlist, ho], show ownS W c (gmt (gc W c) k) i lo st = 0 by simp [ownS, ho], show pushS i a lo st = [] by simp [pushS, ho]] at hP
  unfold actB w_Checker_act_j61 w_Works_isIn
  (repeat (first | refine itp (by decide) ?_ | refine itn (by decide) ?_))
  exact k_w2c0 (t := wRef) (u := wRef) h wokF wokF hP
theorem k_act40 {i : Ins} {v : Int32} {n : Nat} (h : KA A W w c k br nq nk np nh nr this a lo st kn M) (ho : i.1 = 40) (hv : actV A w nr i v M) (hw : wfI n i) (hi : gin (co (gmt (gc W c) k)) a = i) (hP : KP A W w c k br nq nk np nh nr this a kn (actS W c (gmt (gc W c) k) i a lo st) Q) : actB this Q (Int32.ofNat 40) v M := by
  rw [actS_wc (by omega) (by omega) (fun q => by have := q.1; omega), show wlist W c (gmt (gc W c) k) i = [wNum] by simp [wlist, ho], show ownS W c (gmt (gc W c) k) i lo st = 0 by simp [ownS, ho], show pushS i a lo st = [] by simp [pushS, ho]] at hP
  unfold actB w_Checker_act_j61 w_Checker_act_j78 w_Works_isIn
  (repeat (first | refine itp (by decide) ?_ | refine itn (by decide) ?_))
  exact k_w1c0 (t := wNum) h wokN hP
theorem k_act41 {i : Ins} {v : Int32} {n : Nat} (h : KA A W w c k br nq nk np nh nr this a lo st kn M) (ho : i.1 = 41) (hv : actV A w nr i v M) (hw : wfI n i) (hi : gin (co (gmt (gc W c) k)) a = i) (hP : KP A W w c k br nq nk np nh nr this a kn (actS W c (gmt (gc W c) k) i a lo st) Q) : actB this Q (Int32.ofNat 41) v M := by
  rw [actS_wc (by omega) (by omega) (fun q => by have := q.1; omega), show wlist W c (gmt (gc W c) k) i = [] by simp [wlist, ho], show ownS W c (gmt (gc W c) k) i lo st = 0 by simp [ownS, ho], show pushS i a lo st = [(-10 - (a : Int), [])] by simp [pushS, ho]] at hP
  unfold actB w_Checker_act_j61 w_Works_isIn
  (repeat (first | refine itp (by decide) ?_ | refine itn (by decide) ?_))
  have hh := h.ht
  have h80 := h.1.wf.2.2.1.1
  have ha := h.2.2.2.2
  have e : st.take (st.length - ([] : List Wt).length) = st := List.take_of_length_le (by simp)
  have hk : kwf A (co (gmt (gc W c) k)) (-10 - (a : Int), []) := Or.inr ⟨rfl, Or.inr ⟨a, rfl, ha, by omega, by rw [hi]; exact ho⟩⟩
  have ek : (-10 : Int32) - mI M 4 this 7 = kC A (-10 - (a : Int), []) := by
    rw [h.2.2.2.1]
    show _ = if (-10 - (a : Int)) = 2 then _ else Int32.ofInt (-10 - (a : Int))
    rw [if_neg (by omega), Int32.ofInt_sub]; rfl
  rw [ek]
  exact c_push h hk (fun z M' q => ⟨Or.inl rfl, hP.full takeS_nil (by rw [e, List.length_append, List.length_singleton]; omega) M' q⟩) (fun z M' q => ⟨Or.inr rfl, hP.good takeS_nil (by rw [e, List.length_append, List.length_singleton]; omega) M' (by rw [e]; exact q)⟩)
theorem k_act42 {i : Ins} {v : Int32} {n : Nat} (h : KA A W w c k br nq nk np nh nr this a lo st kn M) (ho : i.1 = 42) (hv : actV A w nr i v M) (hw : wfI n i) (hi : gin (co (gmt (gc W c) k)) a = i) (hP : KP A W w c k br nq nk np nh nr this a kn (actS W c (gmt (gc W c) k) i a lo st) Q) : actB this Q (Int32.ofNat 42) v M := by
  rw [actS_wc (by omega) (by omega) (fun q => by have := q.1; omega), show wlist W c (gmt (gc W c) k) i = [wNum] by simp [wlist, ho], show ownS W c (gmt (gc W c) k) i lo st = 0 by simp [ownS, ho], show pushS i a lo st = [(1, [])] by simp [pushS, ho]] at hP
  unfold actB w_Checker_act_j61 w_Works_isIn
  (repeat (first | refine itp (by decide) ?_ | refine itn (by decide) ?_))
  exact k_w1c1 (t := wNum) (κ := (1, [])) h wokN hP kwf1 (by decide)
theorem k_act43 {i : Ins} {v : Int32} {n : Nat} (h : KA A W w c k br nq nk np nh nr this a lo st kn M) (ho : i.1 = 43) (hv : actV A w nr i v M) (hw : wfI n i) (hi : gin (co (gmt (gc W c) k)) a = i) (hP : KP A W w c k br nq nk np nh nr this a kn (actS W c (gmt (gc W c) k) i a lo st) Q) : actB this Q (Int32.ofNat 43) v M := by
  rw [actS_wc (by omega) (by omega) (fun q => by have := q.1; omega), show wlist W c (gmt (gc W c) k) i = [wNum, wRow] by simp [wlist, ho], show ownS W c (gmt (gc W c) k) i lo st = 0 by simp [ownS, ho], show pushS i a lo st = [(0, [])] by simp [pushS, ho]] at hP
  unfold actB w_Checker_act_j61 w_Works_isIn
  (repeat (first | refine itp (by decide) ?_ | refine itn (by decide) ?_))
  exact k_w2c1 (t := wNum) (u := wRow) (κ := (0, [])) h wokN wokR hP kwf0 (by decide)
theorem k_act44 {i : Ins} {v : Int32} {n : Nat} (h : KA A W w c k br nq nk np nh nr this a lo st kn M) (ho : i.1 = 44) (hv : actV A w nr i v M) (hw : wfI n i) (hi : gin (co (gmt (gc W c) k)) a = i) (hP : KP A W w c k br nq nk np nh nr this a kn (actS W c (gmt (gc W c) k) i a lo st) Q) : actB this Q (Int32.ofNat 44) v M := by
  rw [actS_wc (by omega) (by omega) (fun q => by have := q.1; omega), show wlist W c (gmt (gc W c) k) i = [wNum, wNum, wRow] by simp [wlist, ho], show ownS W c (gmt (gc W c) k) i lo st = 0 by simp [ownS, ho], show pushS i a lo st = [] by simp [pushS, ho]] at hP
  unfold actB w_Checker_act_j61 w_Works_isIn
  (repeat (first | refine itp (by decide) ?_ | refine itn (by decide) ?_))
  exact k_w3c0 (t := wNum) (u := wNum) (v := wRow) h wokN wokN wokR hP
theorem k_act45 {i : Ins} {v : Int32} {n : Nat} (h : KA A W w c k br nq nk np nh nr this a lo st kn M) (ho : i.1 = 45) (hv : actV A w nr i v M) (hw : wfI n i) (hi : gin (co (gmt (gc W c) k)) a = i) (hP : KP A W w c k br nq nk np nh nr this a kn (actS W c (gmt (gc W c) k) i a lo st) Q) : actB this Q (Int32.ofNat 45) v M := by
  rw [actS_wc (by omega) (by omega) (fun q => by have := q.1; omega), show wlist W c (gmt (gc W c) k) i = [wRow] by simp [wlist, ho], show ownS W c (gmt (gc W c) k) i lo st = 0 by simp [ownS, ho], show pushS i a lo st = [(0, [])] by simp [pushS, ho]] at hP
  unfold actB w_Checker_act_j61 w_Works_isIn
  (repeat (first | refine itp (by decide) ?_ | refine itn (by decide) ?_))
  exact k_w1c1 (t := wRow) (κ := (0, [])) h wokR hP kwf0 (by decide)
theorem k_act46 {i : Ins} {v : Int32} {n : Nat} (h : KA A W w c k br nq nk np nh nr this a lo st kn M) (ho : i.1 = 46) (hv : actV A w nr i v M) (hw : wfI n i) (hi : gin (co (gmt (gc W c) k)) a = i) (hP : KP A W w c k br nq nk np nh nr this a kn (actS W c (gmt (gc W c) k) i a lo st) Q) : actB this Q (Int32.ofNat 46) v M := by
  rw [actS_wc (by omega) (by omega) (fun q => by have := q.1; omega), show wlist W c (gmt (gc W c) k) i = [(0, (2, iK i))] by simp [wlist, ho], show ownS W c (gmt (gc W c) k) i lo st = 0 by simp [ownS, ho], show pushS i a lo st = [iR i] by simp [pushS, ho]] at hP
  obtain ⟨r, hr, ev, hR⟩ := hv.2.1 (by omega)
  subst ev
  have hty := hw.2.1.2.2.2.2.2.2 (by omega)
  have h0 : 0 ≤ (iR i).1 := by
    rcases hty with q | q | q
    · rw [q]; decide
    · rw [q]; decide
    · rw [q]; decide
  unfold actB w_Checker_act_j61 w_Works_isIn
  (repeat (first | refine itp (by decide) ?_ | refine itn (by decide) ?_))
  exact c_fieldK (o := 46) h hR hr (kwf_kd hty.kd hR.2.2.1.2) h0 (by omega) hP.q
theorem k_act47 {i : Ins} {v : Int32} {n : Nat} (h : KA A W w c k br nq nk np nh nr this a lo st kn M) (ho : i.1 = 47) (hv : actV A w nr i v M) (hw : wfI n i) (hi : gin (co (gmt (gc W c) k)) a = i) (hP : KP A W w c k br nq nk np nh nr this a kn (actS W c (gmt (gc W c) k) i a lo st) Q) : actB this Q (Int32.ofNat 47) v M := by
  rw [actS_wc (by omega) (by omega) (fun q => by have := q.1; omega), show wlist W c (gmt (gc W c) k) i = [(0, iR i), (0, (2, iK i))] by simp [wlist, ho], show ownS W c (gmt (gc W c) k) i lo st = 0 by simp [ownS, ho], show pushS i a lo st = [] by simp [pushS, ho]] at hP
  obtain ⟨r, hr, ev, hR⟩ := hv.2.1 (by omega)
  subst ev
  have hty := hw.2.1.2.2.2.2.2.2 (by omega)
  have h0 : 0 ≤ (iR i).1 := by
    rcases hty with q | q | q
    · rw [q]; decide
    · rw [q]; decide
    · rw [q]; decide
  unfold actB w_Checker_act_j61 w_Works_isIn
  (repeat (first | refine itp (by decide) ?_ | refine itn (by decide) ?_))
  exact c_fieldK (o := 47) h hR hr (kwf_kd hty.kd hR.2.2.1.2) h0 (by omega) hP.q
theorem k_act48 {i : Ins} {v : Int32} {n : Nat} (h : KA A W w c k br nq nk np nh nr this a lo st kn M) (ho : i.1 = 48) (hv : actV A w nr i v M) (hw : wfI n i) (hi : gin (co (gmt (gc W c) k)) a = i) (hP : KP A W w c k br nq nk np nh nr this a kn (actS W c (gmt (gc W c) k) i a lo st) Q) : actB this Q (Int32.ofNat 48) v M := by
  rw [actS_wc (by omega) (by omega) (fun q => by have := q.1; omega), show wlist W c (gmt (gc W c) k) i = [] by simp [wlist, ho], show ownS W c (gmt (gc W c) k) i lo st = 0 by simp [ownS, ho], show pushS i a lo st = [iR i] by simp [pushS, ho]] at hP
  obtain ⟨r, hr, ev, hR⟩ := hv.2.1 (by omega)
  subst ev
  have hty := hw.2.1.2.2.2.2.2.2 (by omega)
  have h0 : 0 ≤ (iR i).1 := by
    rcases hty with q | q | q
    · rw [q]; decide
    · rw [q]; decide
    · rw [q]; decide
  unfold actB w_Checker_act_j61 w_Works_isIn
  (repeat (first | refine itp (by decide) ?_ | refine itn (by decide) ?_))
  exact c_fieldK (o := 48) h hR hr (kwf_kd hty.kd hR.2.2.1.2) h0 (by omega) hP.q
theorem k_act49 {i : Ins} {v : Int32} {n : Nat} (h : KA A W w c k br nq nk np nh nr this a lo st kn M) (ho : i.1 = 49) (hv : actV A w nr i v M) (hw : wfI n i) (hi : gin (co (gmt (gc W c) k)) a = i) (hP : KP A W w c k br nq nk np nh nr this a kn (actS W c (gmt (gc W c) k) i a lo st) Q) : actB this Q (Int32.ofNat 49) v M := by
  rw [actS_wc (by omega) (by omega) (fun q => by have := q.1; omega), show wlist W c (gmt (gc W c) k) i = [(0, iR i)] by simp [wlist, ho], show ownS W c (gmt (gc W c) k) i lo st = 0 by simp [ownS, ho], show pushS i a lo st = [] by simp [pushS, ho]] at hP
  obtain ⟨r, hr, ev, hR⟩ := hv.2.1 (by omega)
  subst ev
  have hty := hw.2.1.2.2.2.2.2.2 (by omega)
  have h0 : 0 ≤ (iR i).1 := by
    rcases hty with q | q | q
    · rw [q]; decide
    · rw [q]; decide
    · rw [q]; decide
  unfold actB w_Checker_act_j61 w_Works_isIn
  (repeat (first | refine itp (by decide) ?_ | refine itn (by decide) ?_))
  exact c_fieldK (o := 49) h hR hr (kwf_kd hty.kd hR.2.2.1.2) h0 (by omega) hP.q
theorem k_act50 {i : Ins} {v : Int32} {n : Nat} (h : KA A W w c k br nq nk np nh nr this a lo st kn M) (ho : i.1 = 50) (hv : actV A w nr i v M) (hw : wfI n i) (hi : gin (co (gmt (gc W c) k)) a = i) (hP : KP A W w c k br nq nk np nh nr this a kn (actS W c (gmt (gc W c) k) i a lo st) Q) : actB this Q (Int32.ofNat 50) v M := by
  obtain ⟨r, hr, ev, hR⟩ := hv.2.1 (by omega)
  subst ev
  have := c_callK h hR hr (by omega) hw hP.q
  rw [ho] at this
  unfold actB w_Checker_act_j61 w_Works_isIn
  (repeat (first | refine itp (by decide) ?_ | refine itn (by decide) ?_))
  exact this
theorem k_act51 {i : Ins} {v : Int32} {n : Nat} (h : KA A W w c k br nq nk np nh nr this a lo st kn M) (ho : i.1 = 51) (hv : actV A w nr i v M) (hw : wfI n i) (hi : gin (co (gmt (gc W c) k)) a = i) (hP : KP A W w c k br nq nk np nh nr this a kn (actS W c (gmt (gc W c) k) i a lo st) Q) : actB this Q (Int32.ofNat 51) v M := by
  obtain ⟨r, hr, ev, hR⟩ := hv.2.1 (by omega)
  subst ev
  have := c_callK h hR hr (by omega) hw hP.q
  rw [ho] at this
  unfold actB w_Checker_act_j61 w_Works_isIn
  (repeat (first | refine itp (by decide) ?_ | refine itn (by decide) ?_))
  exact this
theorem k_act52 {i : Ins} {v : Int32} {n : Nat} (h : KA A W w c k br nq nk np nh nr this a lo st kn M) (ho : i.1 = 52) (hv : actV A w nr i v M) (hw : wfI n i) (hi : gin (co (gmt (gc W c) k)) a = i) (hP : KP A W w c k br nq nk np nh nr this a kn (actS W c (gmt (gc W c) k) i a lo st) Q) : actB this Q (Int32.ofNat 52) v M := by
  obtain ⟨r, hr, ev, hR⟩ := hv.2.1 (by omega)
  subst ev
  have := c_callK h hR hr (by omega) hw hP.q
  rw [ho] at this
  unfold actB w_Checker_act_j61 w_Works_isIn
  (repeat (first | refine itp (by decide) ?_ | refine itn (by decide) ?_))
  exact this
theorem k_act53 {i : Ins} {v : Int32} {n : Nat} (h : KA A W w c k br nq nk np nh nr this a lo st kn M) (ho : i.1 = 53) (hv : actV A w nr i v M) (hw : wfI n i) (hi : gin (co (gmt (gc W c) k)) a = i) (hP : KP A W w c k br nq nk np nh nr this a kn (actS W c (gmt (gc W c) k) i a lo st) Q) : actB this Q (Int32.ofNat 53) v M := by
  obtain ⟨r, hr, ev, hR⟩ := hv.2.1 (by omega)
  subst ev
  have := c_callK h hR hr (by omega) hw hP.q
  rw [ho] at this
  unfold actB w_Checker_act_j61 w_Works_isIn
  (repeat (first | refine itp (by decide) ?_ | refine itn (by decide) ?_))
  exact this
theorem k_act54 {i : Ins} {v : Int32} {n : Nat} (h : KA A W w c k br nq nk np nh nr this a lo st kn M) (ho : i.1 = 54) (hv : actV A w nr i v M) (hw : wfI n i) (hi : gin (co (gmt (gc W c) k)) a = i) (hP : KP A W w c k br nq nk np nh nr this a kn (actS W c (gmt (gc W c) k) i a lo st) Q) : actB this Q (Int32.ofNat 54) v M := by
  rw [actS_wc (by omega) (by omega) (fun q => by have := q.1; omega), show wlist W c (gmt (gc W c) k) i = [wRef] by simp [wlist, ho], show ownS W c (gmt (gc W c) k) i lo st = 0 by simp [ownS, ho], show pushS i a lo st = [(2, iK i)] by simp [pushS, ho]] at hP
  obtain ⟨ev, hK⟩ := hv.1 (by omega)
  subst ev
  unfold actB w_Checker_act_j61 w_Works_isIn
  (repeat (first | refine itp (by decide) ?_ | refine itn (by decide) ?_))
  unfold w_Works_kindOf
  rw [show nc A (iK i) + 2 = kC A (2, iK i) from oN_add _ 2]
  exact k_w1c1 (t := wRef) (κ := (2, iK i)) h wokF hP (kwf_cls hK) (by show (2 : Int) ≠ -4; decide)
theorem k_act55 {i : Ins} {v : Int32} {n : Nat} (h : KA A W w c k br nq nk np nh nr this a lo st kn M) (ho : i.1 = 55) (hv : actV A w nr i v M) (hw : wfI n i) (hi : gin (co (gmt (gc W c) k)) a = i) (hP : KP A W w c k br nq nk np nh nr this a kn (actS W c (gmt (gc W c) k) i a lo st) Q) : actB this Q (Int32.ofNat 55) v M := by
  rw [actS_wc (by omega) (by omega) (fun q => by have := q.1; omega), show wlist W c (gmt (gc W c) k) i = [wRef] by simp [wlist, ho], show ownS W c (gmt (gc W c) k) i lo st = 0 by simp [ownS, ho], show pushS i a lo st = [(0, [])] by simp [pushS, ho]] at hP
  unfold actB w_Checker_act_j61 w_Works_isIn
  (repeat (first | refine itp (by decide) ?_ | refine itn (by decide) ?_))
  exact k_w1c1 (t := wRef) (κ := (0, [])) h wokF hP kwf0 (by decide)
theorem k_act56 {i : Ins} {v : Int32} {n : Nat} (h : KA A W w c k br nq nk np nh nr this a lo st kn M) (ho : i.1 = 56) (hv : actV A w nr i v M) (hw : wfI n i) (hi : gin (co (gmt (gc W c) k)) a = i) (hP : KP A W w c k br nq nk np nh nr this a kn (actS W c (gmt (gc W c) k) i a lo st) Q) : actB this Q (Int32.ofNat 56) v M := by
  rw [actS_wc (by omega) (by omega) (fun q => by have := q.1; omega), show wlist W c (gmt (gc W c) k) i = [(0, (2, nFault))] by simp [wlist, ho], show ownS W c (gmt (gc W c) k) i lo st = 0 by simp [ownS, ho], show pushS i a lo st = [] by simp [pushS, ho]] at hP
  unfold actB w_Checker_act_j61 w_Works_isIn
  (repeat (first | refine itp (by decide) ?_ | refine itn (by decide) ?_))
  have hF := h.1.na.fault
  unfold w_Works_kindOf
  have ek : (82 : Int32) + 2 = wvN A (0, (2, nFault)) := by
    rw [← hF.1]; exact oN_add _ 2
  rw [ek]
  exact k_w1c0 (t := (0, (2, nFault))) h (Or.inl ⟨rfl, kwf_cls hF.2, by show (0 : Int) ≤ 2; decide⟩) hP
theorem k_act57 {i : Ins} {v : Int32} {n : Nat} (h : KA A W w c k br nq nk np nh nr this a lo st kn M) (ho : i.1 = 57) (hv : actV A w nr i v M) (hw : wfI n i) (hi : gin (co (gmt (gc W c) k)) a = i) (hP : KP A W w c k br nq nk np nh nr this a kn (actS W c (gmt (gc W c) k) i a lo st) Q) : actB this Q (Int32.ofNat 57) v M := by
  have hh := h.ht
  have eP : actS W c (gmt (gc W c) k) i a lo st = if takeS W st [] ≠ 0 then .inl (takeS W st []) else if (if (gmt (gc W c) k).1 = nMake ∧ (unM lo || unM st) = true then 40 else if (gmt (gc W c) k).2.2.1.1 = -4 then 0 else 41) ≠ 0 then .inl (if (gmt (gc W c) k).1 = nMake ∧ (unM lo || unM st) = true then 40 else if (gmt (gc W c) k).2.2.1.1 = -4 then 0 else 41) else .inr (lo, st) := by
    have e1 : wlist W c (gmt (gc W c) k) i = [] := by simp [wlist, ho]
    have e2 : ownS W c (gmt (gc W c) k) i lo st = (if (gmt (gc W c) k).1 = nMake ∧ (unM lo || unM st) = true then 40 else if (gmt (gc W c) k).2.2.1.1 = -4 then 0 else 41) := by simp [ownS, ho]
    have e3 : pushS i a lo st = [] := by simp [pushS, ho]
    have e4 : ¬ isMk i := fun q => by have := q.1; omega
    have e5 : loS W c i lo st = lo := by unfold loS; rw [if_neg (by omega), if_neg (by omega), if_neg e4]
    have e6 : stS W c (gmt (gc W c) k) i a lo st = st := by unfold stS restS; rw [if_pos (by omega), e3, List.append_nil]
    unfold actS
    rw [takenS_w (by omega), e1, e2, e5, e6, if_neg (c := sr _ < st.length) (by omega), if_neg (c := (i.1 = 5 ∨ i.1 = 6 ∨ isMk i) ∧ _) (fun q => by
      rcases q.1 with q | q | q
      · omega
      · omega
      · exact e4 q)]
  rw [eP] at hP
  unfold actB w_Checker_act_j61 w_Works_isIn
  (repeat (first | refine itp (by decide) ?_ | refine itn (by decide) ?_))
  exact c_leaves (o := 57) h (by omega) (by simp) (by simp) hP.q
theorem k_act58 {i : Ins} {v : Int32} {n : Nat} (h : KA A W w c k br nq nk np nh nr this a lo st kn M) (ho : i.1 = 58) (hv : actV A w nr i v M) (hw : wfI n i) (hi : gin (co (gmt (gc W c) k)) a = i) (hP : KP A W w c k br nq nk np nh nr this a kn (actS W c (gmt (gc W c) k) i a lo st) Q) : actB this Q (Int32.ofNat 58) v M := by
  have hh := h.ht
  have eP : actS W c (gmt (gc W c) k) i a lo st = if takeS W st [wNum] ≠ 0 then .inl (takeS W st [wNum]) else if (if (gmt (gc W c) k).2.2.1.1 = 0 then 0 else 41) ≠ 0 then .inl (if (gmt (gc W c) k).2.2.1.1 = 0 then 0 else 41) else .inr (lo, st) := by
    have e1 : wlist W c (gmt (gc W c) k) i = [wNum] := by simp [wlist, ho]
    have e2 : ownS W c (gmt (gc W c) k) i lo st = (if (gmt (gc W c) k).2.2.1.1 = 0 then 0 else 41) := by simp [ownS, ho]
    have e3 : pushS i a lo st = [] := by simp [pushS, ho]
    have e4 : ¬ isMk i := fun q => by have := q.1; omega
    have e5 : loS W c i lo st = lo := by unfold loS; rw [if_neg (by omega), if_neg (by omega), if_neg e4]
    have e6 : stS W c (gmt (gc W c) k) i a lo st = st := by unfold stS restS; rw [if_pos (by omega), e3, List.append_nil]
    unfold actS
    rw [takenS_w (by omega), e1, e2, e5, e6, if_neg (c := sr _ < st.length) (by omega), if_neg (c := (i.1 = 5 ∨ i.1 = 6 ∨ isMk i) ∧ _) (fun q => by
      rcases q.1 with q | q | q
      · omega
      · omega
      · exact e4 q)]
  rw [eP] at hP
  unfold actB w_Checker_act_j61 w_Works_isIn
  (repeat (first | refine itp (by decide) ?_ | refine itn (by decide) ?_))
  exact c_leaves (o := 58) h (by omega) (by simp) (by simp) hP.q
theorem k_act59 {i : Ins} {v : Int32} {n : Nat} (h : KA A W w c k br nq nk np nh nr this a lo st kn M) (ho : i.1 = 59) (hv : actV A w nr i v M) (hw : wfI n i) (hi : gin (co (gmt (gc W c) k)) a = i) (hP : KP A W w c k br nq nk np nh nr this a kn (actS W c (gmt (gc W c) k) i a lo st) Q) : actB this Q (Int32.ofNat 59) v M := by
  have hh := h.ht
  have eP : actS W c (gmt (gc W c) k) i a lo st = if takeS W st [if (gmt (gc W c) k).2.2.1.1 = 1 ∨ (gmt (gc W c) k).2.2.1.1 = 2 then (0, (gmt (gc W c) k).2.2.1) else wRef] ≠ 0 then .inl (takeS W st [if (gmt (gc W c) k).2.2.1.1 = 1 ∨ (gmt (gc W c) k).2.2.1.1 = 2 then (0, (gmt (gc W c) k).2.2.1) else wRef]) else if (if (gmt (gc W c) k).2.2.1.1 = 1 ∨ (gmt (gc W c) k).2.2.1.1 = 2 then 0 else 41) ≠ 0 then .inl (if (gmt (gc W c) k).2.2.1.1 = 1 ∨ (gmt (gc W c) k).2.2.1.1 = 2 then 0 else 41) else .inr (lo, st) := by
    have e1 : wlist W c (gmt (gc W c) k) i = [if (gmt (gc W c) k).2.2.1.1 = 1 ∨ (gmt (gc W c) k).2.2.1.1 = 2 then (0, (gmt (gc W c) k).2.2.1) else wRef] := by simp [wlist, ho]
    have e2 : ownS W c (gmt (gc W c) k) i lo st = (if (gmt (gc W c) k).2.2.1.1 = 1 ∨ (gmt (gc W c) k).2.2.1.1 = 2 then 0 else 41) := by simp [ownS, ho]
    have e3 : pushS i a lo st = [] := by simp [pushS, ho]
    have e4 : ¬ isMk i := fun q => by have := q.1; omega
    have e5 : loS W c i lo st = lo := by unfold loS; rw [if_neg (by omega), if_neg (by omega), if_neg e4]
    have e6 : stS W c (gmt (gc W c) k) i a lo st = st := by unfold stS restS; rw [if_pos (by omega), e3, List.append_nil]
    unfold actS
    rw [takenS_w (by omega), e1, e2, e5, e6, if_neg (c := sr _ < st.length) (by omega), if_neg (c := (i.1 = 5 ∨ i.1 = 6 ∨ isMk i) ∧ _) (fun q => by
      rcases q.1 with q | q | q
      · omega
      · omega
      · exact e4 q)]
  rw [eP] at hP
  unfold actB w_Checker_act_j61 w_Works_isIn
  (repeat (first | refine itp (by decide) ?_ | refine itn (by decide) ?_))
  exact c_leaves (o := 59) h (by omega) (by simp) (by simp) hP.q
theorem k_act60 {i : Ins} {v : Int32} {n : Nat} (h : KA A W w c k br nq nk np nh nr this a lo st kn M) (ho : i.1 = 60) (hv : actV A w nr i v M) (hw : wfI n i) (hi : gin (co (gmt (gc W c) k)) a = i) (hP : KP A W w c k br nq nk np nh nr this a kn (actS W c (gmt (gc W c) k) i a lo st) Q) : actB this Q (Int32.ofNat 60) v M := by
  rw [actS_wc (by omega) (by omega) (fun q => by have := q.1; omega), show wlist W c (gmt (gc W c) k) i = [wRef] by simp [wlist, ho], show ownS W c (gmt (gc W c) k) i lo st = 0 by simp [ownS, ho], show pushS i a lo st = [] by simp [pushS, ho]] at hP
  unfold actB w_Checker_act_j61 w_Works_isIn
  (repeat (first | refine itp (by decide) ?_ | refine itn (by decide) ?_))
  exact k_w1c0 (t := wRef) h wokF hP
theorem k_act61 {i : Ins} {v : Int32} {n : Nat} (h : KA A W w c k br nq nk np nh nr this a lo st kn M) (ho : i.1 = 61) (hv : actV A w nr i v M) (hw : wfI n i) (hi : gin (co (gmt (gc W c) k)) a = i) (hP : KP A W w c k br nq nk np nh nr this a kn (actS W c (gmt (gc W c) k) i a lo st) Q) : actB this Q (Int32.ofNat 61) v M := by
  rw [actS_wc (by omega) (by omega) (fun q => by have := q.1; omega), show wlist W c (gmt (gc W c) k) i = [wRef] by simp [wlist, ho], show ownS W c (gmt (gc W c) k) i lo st = 0 by simp [ownS, ho], show pushS i a lo st = [] by simp [pushS, ho]] at hP
  unfold actB w_Checker_act_j61 w_Works_isIn
  (repeat (first | refine itp (by decide) ?_ | refine itn (by decide) ?_))
  exact k_w1c0 (t := wRef) h wokF hP
end
