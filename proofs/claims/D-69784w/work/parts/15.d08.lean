/-! B: the works' checker: wants, and what comes -/
theorem takeS_lt {W : List Cls} {st : List Kd} {ws : List Wt} (h : st.length < ws.length) : takeS W st ws = 31 := by unfold takeS; rw [if_pos h]
theorem takeS_nil {W : List Cls} {st : List Kd} : takeS W st [] = 0 := by
  unfold takeS
  rw [if_neg (by simp), if_neg (by simp [wFst]), if_neg (by simp [wUn])]
theorem wFst_cons {W : List Cls} {st : List Kd} {k : Nat} {t : Wt} {ts : List Wt} : wFst W st k (t :: ts) = if wOne W t (tp st k) = 0 ∨ wOne W t (tp st k) = 39 then wFst W st (k + 1) ts else wOne W t (tp st k) := rfl
theorem wUn_cons {W : List Cls} {st : List Kd} {k : Nat} {t : Wt} {ts : List Wt} : wUn W st k (t :: ts) = (decide (wOne W t (tp st k) = 39) || wUn W st (k + 1) ts) := rfl
theorem takeS_fst {W : List Cls} {st : List Kd} {ws : List Wt} (h : ws.length ≤ st.length) (h1 : wFst W st 0 ws ≠ 0) : takeS W st ws = wFst W st 0 ws := by
  unfold takeS; rw [if_neg (by omega), if_pos h1]
theorem takeS_un {W : List Cls} {st : List Kd} {ws : List Wt} (h : ws.length ≤ st.length) (h1 : wFst W st 0 ws = 0) : takeS W st ws = if wUn W st 0 ws then 39 else 0 := by
  unfold takeS; rw [if_neg (by omega), if_neg (by omega)]
section
variable {A : List Nm} {W : List Cls} {w c k this : Nat} {br : Int32} {nq nk np nh nr a : Nat} {lo st : List Kd} {kn : Bool} {M M' : Mem} {Q : Int32 → Mem → Prop}
theorem KP.rule {ws : List Wt} {own : Nat} {p : List Kd} (hP : KP A W w c k br nq nk np nh nr this a kn (wcS W (gmt (gc W c) k) lo st ws own p) Q) (h : takeS W st ws ≠ 0) : ∀ M', KZ A W w c k br nq nk np nh nr this a (takeS W st ws) M' → Q 0 M' := by
  unfold wcS at hP; rw [if_pos h] at hP; exact hP
theorem KP.own {ws : List Wt} {own : Nat} {p : List Kd} (hP : KP A W w c k br nq nk np nh nr this a kn (wcS W (gmt (gc W c) k) lo st ws own p) Q) (h : takeS W st ws = 0) (ho : own ≠ 0) : ∀ M', KZ A W w c k br nq nk np nh nr this a own M' → Q 0 M' := by
  unfold wcS at hP; rw [if_neg (by omega), if_pos ho] at hP; exact hP
theorem KP.full {ws : List Wt} {p : List Kd} (hP : KP A W w c k br nq nk np nh nr this a kn (wcS W (gmt (gc W c) k) lo st ws 0 p) Q) (h : takeS W st ws = 0) (hl : sr (gmt (gc W c) k) < (st.take (st.length - ws.length) ++ p).length) : ∀ M', KZ A W w c k br nq nk np nh nr this a 30 M' → Q 0 M' := by
  unfold wcS at hP; rw [if_neg (by omega), if_neg (by omega), if_pos hl] at hP; exact hP
theorem KP.good {ws : List Wt} {p : List Kd} (hP : KP A W w c k br nq nk np nh nr this a kn (wcS W (gmt (gc W c) k) lo st ws 0 p) Q) (h : takeS W st ws = 0) (hl : (st.take (st.length - ws.length) ++ p).length ≤ sr (gmt (gc W c) k)) : ∀ M', KA A W w c k br nq nk np nh nr this a lo (st.take (st.length - ws.length) ++ p) kn M' → Q 1 M' := by
  unfold wcS at hP; rw [if_neg (by omega), if_neg (by omega), if_neg (by omega)] at hP; exact hP
theorem KP.q {res : Nat ⊕ (List Kd × List Kd)} (hP : KP A W w c k br nq nk np nh nr this a kn res Q) : KP A W w c k br nq nk np nh nr this a kn res (fun r M => (r = 0 ∨ r = 1) ∧ Q r M) := by
  cases res with
  | inl r => exact fun M' q => ⟨Or.inl rfl, hP M' q⟩
  | inr s => exact fun M' q => ⟨Or.inr rfl, hP M' q⟩
theorem c_wants1 {t : Wt} (h : KA A W w c k br nq nk np nh nr this a lo st kn M) (ht : wok A (co (gmt (gc W c) k)) t) (hX : takeS W st [t] ≠ 0 → ∀ M', KZ A W w c k br nq nk np nh nr this a (takeS W st [t]) M' → Q 0 M') (hQ : takeS W st [t] = 0 → 1 ≤ st.length → Q 1 M) : w_Checker_wants1 this (wvN A t) Q M := by
  unfold w_Checker_wants1
  refine c_needs (n := 1) h (by omega) (fun z M' y => ?_) (fun z => ?_)
  · rw [takeS_lt (by simpa using z)] at hX
    exact itp rfl (hX (by decide) M' y)
  refine itn (by decide) (c_is (d := 0) h (by omega) ht (fun y => ?_) (fun y1 y2 M' x => ?_))
  · have hF : wFst W st 0 [t] = 0 := by rw [wFst_cons, if_pos y]; rfl
    rw [takeS_un (by simpa using z) hF, wUn_cons] at hX hQ
    refine itn (by decide) (c_isMade (d := 0) h (by omega) ht (fun x => ?_) (fun x M' u => ?_))
    · rw [decide_eq_false x] at hQ
      exact itn (by decide) (hQ (by simp [wUn]) z)
    · rw [decide_eq_true x] at hX
      exact itp rfl (hX (by simp) M' (by simpa using u))
  · have hF : wFst W st 0 [t] = wOne W t (tp st 0) := by rw [wFst_cons, if_neg (by omega)]
    rw [takeS_fst (by simpa using z) (by rw [hF]; exact y1), hF] at hX
    exact itp rfl (hX y1 M' x)
theorem c_wants2 {t u : Wt} (h : KA A W w c k br nq nk np nh nr this a lo st kn M) (ht : wok A (co (gmt (gc W c) k)) t) (hu : wok A (co (gmt (gc W c) k)) u) (hX : takeS W st [t, u] ≠ 0 → ∀ M', KZ A W w c k br nq nk np nh nr this a (takeS W st [t, u]) M' → Q 0 M') (hQ : takeS W st [t, u] = 0 → 2 ≤ st.length → Q 1 M) : w_Checker_wants2 this (wvN A t) (wvN A u) Q M := by
  unfold w_Checker_wants2
  refine c_needs (n := 2) h (by omega) (fun z M' y => ?_) (fun z => ?_)
  · rw [takeS_lt (by simpa using z)] at hX
    exact itp rfl (hX (by decide) M' y)
  refine itn (by decide) (c_is (d := 0) h (by omega) ht (fun y => ?_) (fun y1 y2 M' x => ?_))
  · refine itn (by decide) (c_is (d := 1) h (by omega) hu (fun y' => ?_) (fun y1 y2 M' x => ?_))
    · have hF : wFst W st 0 [t, u] = 0 := by rw [wFst_cons, if_pos y, wFst_cons, if_pos y']; rfl
      rw [takeS_un (by simpa using z) hF, wUn_cons, wUn_cons] at hX hQ
      refine itn (by decide) (c_isMade (d := 0) h (by omega) ht (fun x => ?_) (fun x M' v => ?_))
      · rw [decide_eq_false x] at hQ hX
        refine itn (by decide) (c_isMade (d := 1) h (by omega) hu (fun x' => ?_) (fun x' M' v => ?_))
        · rw [decide_eq_false x'] at hQ
          exact itn (by decide) (hQ (by simp [wUn]) z)
        · rw [decide_eq_true x'] at hX
          exact itp rfl (hX (by simp) M' (by simpa using v))
      · rw [decide_eq_true x] at hX
        exact itp rfl (hX (by simp) M' (by simpa using v))
    · have hF : wFst W st 0 [t, u] = wOne W u (tp st 1) := by rw [wFst_cons, if_pos y, wFst_cons, if_neg (fun q => q.elim y1 y2)]
      rw [takeS_fst (by simpa using z) (by rw [hF]; exact y1), hF] at hX
      exact itp rfl (hX y1 M' x)
  · have hF : wFst W st 0 [t, u] = wOne W t (tp st 0) := by rw [wFst_cons, if_neg (by omega)]
    rw [takeS_fst (by simpa using z) (by rw [hF]; exact y1), hF] at hX
    exact itp rfl (hX y1 M' x)
theorem c_wants3 {t u v : Wt} (h : KA A W w c k br nq nk np nh nr this a lo st kn M) (ht : wok A (co (gmt (gc W c) k)) t) (hu : wok A (co (gmt (gc W c) k)) u) (hv : wok A (co (gmt (gc W c) k)) v) (hX : takeS W st [t, u, v] ≠ 0 → ∀ M', KZ A W w c k br nq nk np nh nr this a (takeS W st [t, u, v]) M' → Q 0 M') (hQ : takeS W st [t, u, v] = 0 → 3 ≤ st.length → Q 1 M) : w_Checker_wants3 this (wvN A t) (wvN A u) (wvN A v) Q M := by
  unfold w_Checker_wants3
  refine c_needs (n := 3) h (by omega) (fun z M' y => ?_) (fun z => ?_)
  · rw [takeS_lt (by simpa using z)] at hX
    exact itp rfl (hX (by decide) M' y)
  refine itn (by decide) (c_is (d := 0) h (by omega) ht (fun y => ?_) (fun y1 y2 M' x => ?_))
  · refine itn (by decide) (c_is (d := 1) h (by omega) hu (fun y' => ?_) (fun y1 y2 M' x => ?_))
    · refine itn (by decide) (c_is (d := 2) h (by omega) hv (fun y'' => ?_) (fun y1 y2 M' x => ?_))
      · have hF : wFst W st 0 [t, u, v] = 0 := by rw [wFst_cons, if_pos y, wFst_cons, if_pos y', wFst_cons, if_pos y'']; rfl
        rw [takeS_un (by simpa using z) hF, wUn_cons, wUn_cons, wUn_cons] at hX hQ
        refine itn (by decide) (c_isMade (d := 0) h (by omega) ht (fun x => ?_) (fun x M' v => ?_))
        · rw [decide_eq_false x] at hQ hX
          refine itn (by decide) (c_isMade (d := 1) h (by omega) hu (fun x' => ?_) (fun x' M' v => ?_))
          · rw [decide_eq_false x'] at hQ hX
            refine itn (by decide) (c_isMade (d := 2) h (by omega) hv (fun x'' => ?_) (fun x'' M' v => ?_))
            · rw [decide_eq_false x''] at hQ
              exact itn (by decide) (hQ (by simp [wUn]) z)
            · rw [decide_eq_true x''] at hX
              exact itp rfl (hX (by simp) M' (by simpa using v))
          · rw [decide_eq_true x'] at hX
            exact itp rfl (hX (by simp) M' (by simpa using v))
        · rw [decide_eq_true x] at hX
          exact itp rfl (hX (by simp) M' (by simpa using v))
      · have hF : wFst W st 0 [t, u, v] = wOne W v (tp st 2) := by rw [wFst_cons, if_pos y, wFst_cons, if_pos y', wFst_cons, if_neg (fun q => q.elim y1 y2)]
        rw [takeS_fst (by simpa using z) (by rw [hF]; exact y1), hF] at hX
        exact itp rfl (hX y1 M' x)
    · have hF : wFst W st 0 [t, u, v] = wOne W u (tp st 1) := by rw [wFst_cons, if_pos y, wFst_cons, if_neg (fun q => q.elim y1 y2)]
      rw [takeS_fst (by simpa using z) (by rw [hF]; exact y1), hF] at hX
      exact itp rfl (hX y1 M' x)
  · have hF : wFst W st 0 [t, u, v] = wOne W t (tp st 0) := by rw [wFst_cons, if_neg (by omega)]
    rw [takeS_fst (by simpa using z) (by rw [hF]; exact y1), hF] at hX
    exact itp rfl (hX y1 M' x)
theorem len_take {n : Nat} {l p : List Kd} (h : n ≤ l.length) : (l.take (l.length - n) ++ p).length = l.length - n + p.length := by
  rw [List.length_append, List.length_take]; omega
/-- one comes, or none, where so many were wanted -/
theorem k_c1 {ws : List Wt} {κ : Kd} (h : KA A W w c k br nq nk np nh nr this a lo st kn M) (hP : KP A W w c k br nq nk np nh nr this a kn (wcS W (gmt (gc W c) k) lo st ws 0 [κ]) Q) (hκ : kwf A (co (gmt (gc W c) k)) κ) (h4 : κ.1 ≠ -4) (hn : ws.length ≤ st.length) (ht : takeS W st ws = 0) : w_Checker_comes this (Int32.ofNat ws.length) (kC A κ) (fun r M => if r = 0 then Q 0 M else Q 1 M) M := by
  have hh := h.ht
  refine c_comes1 h hκ h4 hn (fun e M' q => itp rfl (hP.full ht (by rw [len_take hn, List.length_singleton]; omega) M' q)) (fun e M' q => itn (by decide) (hP.good ht (by rw [len_take hn, List.length_singleton]; omega) M' q))
theorem k_c0 {ws : List Wt} (h : KA A W w c k br nq nk np nh nr this a lo st kn M) (hP : KP A W w c k br nq nk np nh nr this a kn (wcS W (gmt (gc W c) k) lo st ws 0 []) Q) (hn : ws.length ≤ st.length) (ht : takeS W st ws = 0) : w_Checker_comes this (Int32.ofNat ws.length) (-4) (fun r M => if r = 0 then Q 0 M else Q 1 M) M := by
  have hh := h.ht
  refine c_comes0 h hn (fun M' q => itn (by decide) (hP.good ht (by rw [len_take hn, List.length_nil]; omega) M' (by rw [List.append_nil]; exact q)))
theorem k_w1c1 {t : Wt} {κ : Kd} (h : KA A W w c k br nq nk np nh nr this a lo st kn M) (ht : wok A (co (gmt (gc W c) k)) t) (hP : KP A W w c k br nq nk np nh nr this a kn (wcS W (gmt (gc W c) k) lo st [t] 0 [κ]) Q) (hκ : kwf A (co (gmt (gc W c) k)) κ) (h4 : κ.1 ≠ -4) : w_Checker_wants1 this (wvN A t) (fun r M => if r = 0 then Q 0 M else w_Checker_comes this 1 (kC A κ) (fun r M => if r = 0 then Q 0 M else Q 1 M) M) M :=
  c_wants1 h ht (fun z M' q => itp rfl (hP.rule z M' q)) (fun z y => itn (by decide) (k_c1 (ws := [t]) (κ := κ) h hP hκ h4 y z))
theorem k_w1c0 {t : Wt} (h : KA A W w c k br nq nk np nh nr this a lo st kn M) (ht : wok A (co (gmt (gc W c) k)) t) (hP : KP A W w c k br nq nk np nh nr this a kn (wcS W (gmt (gc W c) k) lo st [t] 0 []) Q) : w_Checker_wants1 this (wvN A t) (fun r M => if r = 0 then Q 0 M else w_Checker_comes this 1 (-4) (fun r M => if r = 0 then Q 0 M else Q 1 M) M) M :=
  c_wants1 h ht (fun z M' q => itp rfl (hP.rule z M' q)) (fun z y => itn (by decide) (k_c0 (ws := [t]) h hP y z))
theorem k_w2c1 {t u : Wt} {κ : Kd} (h : KA A W w c k br nq nk np nh nr this a lo st kn M) (ht : wok A (co (gmt (gc W c) k)) t) (hu : wok A (co (gmt (gc W c) k)) u) (hP : KP A W w c k br nq nk np nh nr this a kn (wcS W (gmt (gc W c) k) lo st [t, u] 0 [κ]) Q) (hκ : kwf A (co (gmt (gc W c) k)) κ) (h4 : κ.1 ≠ -4) : w_Checker_wants2 this (wvN A t) (wvN A u) (fun r M => if r = 0 then Q 0 M else w_Checker_comes this 2 (kC A κ) (fun r M => if r = 0 then Q 0 M else Q 1 M) M) M :=
  c_wants2 h ht hu (fun z M' q => itp rfl (hP.rule z M' q)) (fun z y => itn (by decide) (k_c1 (ws := [t, u]) (κ := κ) h hP hκ h4 y z))
theorem k_w2c0 {t u : Wt} (h : KA A W w c k br nq nk np nh nr this a lo st kn M) (ht : wok A (co (gmt (gc W c) k)) t) (hu : wok A (co (gmt (gc W c) k)) u) (hP : KP A W w c k br nq nk np nh nr this a kn (wcS W (gmt (gc W c) k) lo st [t, u] 0 []) Q) : w_Checker_wants2 this (wvN A t) (wvN A u) (fun r M => if r = 0 then Q 0 M else w_Checker_comes this 2 (-4) (fun r M => if r = 0 then Q 0 M else Q 1 M) M) M :=
  c_wants2 h ht hu (fun z M' q => itp rfl (hP.rule z M' q)) (fun z y => itn (by decide) (k_c0 (ws := [t, u]) h hP y z))
theorem k_w3c0 {t u v : Wt} (h : KA A W w c k br nq nk np nh nr this a lo st kn M) (ht : wok A (co (gmt (gc W c) k)) t) (hu : wok A (co (gmt (gc W c) k)) u) (hv : wok A (co (gmt (gc W c) k)) v) (hP : KP A W w c k br nq nk np nh nr this a kn (wcS W (gmt (gc W c) k) lo st [t, u, v] 0 []) Q) : w_Checker_wants3 this (wvN A t) (wvN A u) (wvN A v) (fun r M => if r = 0 then Q 0 M else w_Checker_comes this 3 (-4) (fun r M => if r = 0 then Q 0 M else Q 1 M) M) M :=
  c_wants3 h ht hu hv (fun z M' q => itp rfl (hP.rule z M' q)) (fun z y => itn (by decide) (k_c0 (ws := [t, u, v]) h hP y z))
/-- one is pushed alone -/
theorem k_p1 {κ : Kd} (h : KA A W w c k br nq nk np nh nr this a lo st kn M) (hP : KP A W w c k br nq nk np nh nr this a kn (wcS W (gmt (gc W c) k) lo st [] 0 [κ]) Q) (hκ : kwf A (co (gmt (gc W c) k)) κ) : w_Checker_push this (kC A κ) Q M := by
  have hh := h.ht
  have e : st.take (st.length - ([] : List Wt).length) = st := List.take_of_length_le (by simp)
  refine c_push h hκ (fun z M' q => hP.full takeS_nil (by rw [e, List.length_append, List.length_singleton]; omega) M' q) (fun z M' q => hP.good takeS_nil (by rw [e, List.length_append, List.length_singleton]; omega) M' (by rw [e]; exact q))
end
