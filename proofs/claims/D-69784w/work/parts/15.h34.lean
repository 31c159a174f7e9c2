/-! NO INSTRUCTION NAMES THE START (printed by gen/ns.py) -/
def okL (l : List Tok) : Prop := ∀ t ∈ l, t.1 = 2 → t.2.1 ≠ nStart
def nsM (m : Mth) : Prop := ∀ i ∈ co m, iM i ≠ nStart
def NSw (W : List Cls) : Prop := ∀ c, 21 ≤ c → c < W.length → ∀ m ∈ (gc W c).2.2.2.2.2, nsM m
def nsP (p : PM) : Prop := ∀ i ∈ p.2.1, i.2.1.2.2.2.2.1 ≠ nStart
theorem okL.tail {l : List Tok} (h : okL l) : okL l.tail := fun t ht => h t (List.mem_of_mem_tail ht)
theorem okL.hdn {l : List Tok} (h : okL l) (h2 : (hd l).1 = 2) : (hd l).2.1 ≠ nStart := by
  cases l with
  | nil => exact absurd h2 (by decide)
  | cons t l => exact h t (List.mem_cons_self ..) h2
theorem ns_nil : ([] : Nm) ≠ nStart := by decide
theorem pMember_ns {b : Bool} {ts t' : List Tok} {k m : Nm} {ks : List Kd} {κ : Kd} (h : okL ts) (e : pMember b ts = .inr ((k, m, ks, κ), t')) : m ≠ nStart := by
  unfold pMember at e
  split at e
  · cases e
  · rename_i k1 t1 e1
    have h1 : t1 = ts.tail := by
      unfold pCls at e1
      split at e1
      · cases e1; rfl
      · cases e1
    split at e
    · cases e
    · rename_i t2 e2
      have h2 : t2 = t1.tail := by
        unfold pSign at e2
        split at e2
        · cases e2; rfl
        · cases e2
      have h3 : okL t2 := by rw [h2, h1]; exact h.tail.tail
      split at e
      · rename_i c
        have hm : (hd t2).2.1 ≠ nStart := by
          rcases c with c | c
          · exact h3.hdn c
          · rw [c.2.2]; decide
        split at e
        · split at e
          · cases e
          · cases e; exact hm
        · split at e
          · cases e
          · cases e; exact hm
      · cases e
theorem pOpr_ns {o : Nat} {ts t1 : List Tok} {x : Opr} (h : okL ts) (e : pOpr o ts = .inr (x, t1)) : x.2.2.2.2.1 ≠ nStart := by
  unfold pOpr at e
  by_cases c1 : o = 1
  · rw [if_pos c1] at e
    split at e
    · cases e
    · cases e; exact ns_nil
  rw [if_neg c1] at e
  by_cases c2 : 3 ≤ o ∧ o ≤ 6
  · rw [if_pos c2] at e
    split at e
    · cases e
    · cases e; exact ns_nil
  rw [if_neg c2] at e
  by_cases c3 : o = 7
  · rw [if_pos c3] at e
    split at e
    · cases e
    · split at e
      · cases e
      · cases e; exact ns_nil
  rw [if_neg c3] at e
  by_cases c4 : isJ o
  · rw [if_pos c4] at e
    split at e
    · cases e
    · cases e; exact ns_nil
  rw [if_neg c4] at e
  by_cases c5 : o = 40
  · rw [if_pos c5] at e
    split at e
    · cases e
    · split at e
      · cases e
      · cases e; exact ns_nil
  rw [if_neg c5] at e
  by_cases c6 : isN o
  · rw [if_pos c6] at e
    split at e
    · cases e
    · cases e; exact ns_nil
  rw [if_neg c6] at e
  by_cases c7 : isFo o
  · rw [if_pos c7] at e
    split at e
    · cases e
    · rename_i e1
      cases e; exact pMember_ns h e1
  rw [if_neg c7] at e
  by_cases c8 : isMo o
  · rw [if_pos c8] at e
    split at e
    · cases e
    · rename_i e1
      cases e; exact pMember_ns h e1
  rw [if_neg c8] at e
  cases e; exact ns_nil
theorem pLabels_ns : ∀ (n : Nat) (acc : List Nm) (ts : List Tok), okL ts → okL (pLabels n acc ts).2
  | 0, _, _, h => h
  | n + 1, acc, ts, h => by
    unfold pLabels
    by_cases c : (hd ts).1 = 2 ∧ (hd ts.tail).1 = 58
    · rw [if_pos c]; exact pLabels_ns n _ _ h.tail.tail
    · rw [if_neg c]; exact h
theorem nsP.fin {p : PM} {line : Nat} {m : Mth} (h : nsP p) (he : endM line p = .inr m) : nsM m := by
  unfold endM at he
  split at he
  · cases he
  split at he
  · cases he
  by_cases c0 : p.2.1.length = 0
  · rw [if_pos c0] at he; cases he
  rw [if_neg c0] at he
  cases he
  intro i hi
  obtain ⟨j, hj, e⟩ := List.mem_map.mp (show i ∈ p.2.1.map (insOf p.2.2.2.1) from hi)
  subst e
  exact h j hj
theorem NSw.addM {W : List Cls} {m : Mth} (h : NSw W) (hm : nsM m) (h1 : 1 ≤ W.length) : NSw (addM W m) := fun c h21 hc x hx => by
  rw [addM_len] at hc
  rw [gc_addM (c := W.length - 1) (by omega)] at hx
  by_cases e : c = W.length - 1
  · rw [if_pos e] at hx
    rcases List.mem_append.mp hx with q | q
    · rw [← e] at q; exact h c h21 hc x q
    · rw [List.mem_singleton.mp q]; exact hm
  · rw [if_neg e] at hx; exact h c h21 hc x hx
theorem NSw.addF {W : List Cls} {f : Fld} {d : Nat} (h : NSw W) (hd' : d < W.length) : NSw (addF W d f) := fun c h21 hc x hx => by
  rw [addF_len] at hc
  rw [gc_addF hd'] at hx
  by_cases e : c = d
  · rw [if_pos e] at hx
    rw [← e] at hx; exact h c h21 hc x hx
  · rw [if_neg e] at hx; exact h c h21 hc x hx
theorem NSw.addC {W : List Cls} {k : Cls} (h : NSw W) (hk : k.2.2.2.2.2 = []) : NSw (W ++ [k]) := fun c h21 hc x hx => by
  rw [List.length_append, List.length_singleton] at hc
  by_cases e : c < W.length
  · refine h c h21 e x ?_
    have : gc (W ++ [k]) c = gc W c := by
      show (W ++ [k]).getD c _ = W.getD c _
      rw [List.getD_eq_getElem?_getD, List.getD_eq_getElem?_getD, List.getElem?_append_left e]
    rw [this] at hx; exact hx
  · have e2 : c = W.length := by omega
    have : gc (W ++ [k]) c = k := by
      show (W ++ [k]).getD c _ = k
      rw [List.getD_eq_getElem?_getD, e2]; simp
    rw [this, hk] at hx; cases hx
def nsS (st : PSt) : Prop := NSw st.2.1 ∧ 21 ≤ st.2.1.length ∧ (1 ≤ st.1 → 22 ≤ st.2.1.length) ∧ (3 ≤ st.1 → nsP st.2.2)
theorem bLine_ns {br : Int32} {W : List Cls} {l : List Tok} {st : PSt} (h : NSw W) (hl : 22 ≤ W.length) (hb : bLine br W l = .inr st) : nsS st := by
  unfold bLine at hb
  split at hb
  · split at hb
    · cases hb
    · split at hb
      · cases hb
        exact ⟨h.addF (by omega), by show 21 ≤ (addF W _ _).length; rw [addF_len]; omega, fun _ => by show 22 ≤ (addF W _ _).length; rw [addF_len]; exact hl, fun q => absurd q (by show ¬ (3 ≤ 1); omega)⟩
      · cases hb
  split at hb
  · split at hb
    · cases hb
    · split at hb
      · split at hb
        · cases hb
          exact ⟨h, by show 21 ≤ W.length; omega, fun _ => hl, fun q => absurd q (by show ¬ (3 ≤ 2); omega)⟩
        · cases hb
          refine ⟨h.addM (fun i hi => by cases hi) (by omega), ?_, fun _ => ?_, fun q => absurd q (by show ¬ (3 ≤ 1); omega)⟩
          · show 21 ≤ (addM W _).length; rw [addM_len]; omega
          · show 22 ≤ (addM W _).length; rw [addM_len]; omega
      · cases hb
  split at hb
  · split at hb
    · cases hb
      exact ⟨h, by show 21 ≤ W.length; omega, fun q => absurd q (by show ¬ (1 ≤ 0); omega), fun q => absurd q (by show ¬ (3 ≤ 0); omega)⟩
    · cases hb
  · cases hb
theorem stp_ns {br : Int32} {st st' : PSt} {l : List Tok} (h : nsS st) (hl : okL l) (hs : stp br st l = .inr st') : nsS st' := by
  obtain ⟨h1, h2, h3, h5⟩ := h
  unfold stp at hs
  by_cases c0 : st.1 = 0
  · rw [if_pos c0] at hs
    unfold cLine at hs
    split at hs
    · cases hs
    · split at hs
      · cases hs
        exact ⟨h1.addC rfl, by show 21 ≤ (st.2.1 ++ _).length; rw [List.length_append]; omega, fun _ => by show 22 ≤ (st.2.1 ++ _).length; rw [List.length_append, List.length_singleton]; omega, fun q => absurd q (by show ¬ (3 ≤ 1); omega)⟩
      · cases hs
  rw [if_neg c0] at hs
  have h22 := h3 (by omega)
  by_cases c1 : st.1 = 1
  · rw [if_pos c1] at hs
    exact bLine_ns h1 h22 hs
  rw [if_neg c1] at hs
  by_cases c2 : st.1 = 2
  · rw [if_pos c2] at hs
    unfold rLine at hs
    split at hs
    · cases hs
    · rename_i a b _ hq
      by_cases hlt : b < Int32.ofNat (st.2.2.1.2.1.length + (if st.2.2.1.2.2.2.1 &&& 1 = 0 then 1 else 0))
      · rw [if_pos hlt] at hs; cases hs
      · rw [if_neg hlt] at hs
        cases hs
        exact ⟨h1, h2, fun _ => h22, fun _ => fun i hi => absurd hi List.not_mem_nil⟩
  rw [if_neg c2] at hs
  have hP := h5 (by omega)
  unfold kLine at hs
  split at hs
  · split at hs
    · cases hs
    · rename_i m he
      exact bLine_ns (h1.addM (hP.fin he) (by omega)) (by rw [addM_len]; exact h22) hs
  split at hs
  · split at hs
    · cases hs
    · split at hs
      · cases hs
      · cases hs
        exact ⟨h1, h2, fun _ => h22, fun _ => hP⟩
  split at hs
  · split at hs
    · cases hs
    · split at hs
      · cases hs
      · cases hs
        exact ⟨h1, h2, fun _ => h22, fun _ => hP⟩
  have hlb := pLabels_ns (l.length + 1) [] l hl
  unfold iLine at hs
  split at hs
  rename_i ls t1 hlq
  rw [hlq] at hlb
  split at hs
  · cases hs
    exact ⟨h1, h2, fun _ => h22, fun _ => hP⟩
  · split at hs
    · cases hs
    · rename_i o x t2 hq
      split at hs
      · cases hs
      · cases hs
        refine ⟨h1, h2, fun _ => h22, fun _ => fun i hi => ?_⟩
        rcases List.mem_append.mp (show i ∈ st.2.2.2.1 ++ _ from hi) with q | q
        · exact hP i q
        · rw [List.mem_singleton.mp q]
          unfold pInstr at hq
          split at hq
          · split at hq
            · cases hq
            · rename_i e1
              split at hq
              · cases hq
                exact pOpr_ns (okL.tail hlb) e1
              · cases hq
          · cases hq
theorem runL_ns {br : Int32} {n : Nat} : ∀ {ls : List (List Tok)} {st : PSt} {W' : List Cls}, nsS st → (∀ l ∈ ls, okL l) → runL br n st ls = .inr W' → NSw W'
  | [], st, W', h, _, e => by
    unfold runL at e
    split at e
    · cases e; exact h.1
    · cases e
  | l :: ls, st, W', h, hl, e => by
    unfold runL at e
    split at e
    · cases e
    · rename_i hq
      exact runL_ns (stp_ns h (hl l (List.mem_cons_self ..)) hq) (fun l' hl' => hl l' (List.mem_cons_of_mem _ hl')) e
theorem NSw.run {br : Int32} {n : Nat} {ls : List (List Tok)} {W W' : List Cls} (h : NSw W) (h21 : 21 ≤ W.length) (hl : ∀ l ∈ ls, okL l) (e : runL br n (0, W, noM) ls = .inr W') : NSw W' :=
  runL_ns (st := (0, W, noM)) ⟨h, h21, fun q => absurd q (by show ¬ (1 ≤ 0); omega), fun q => absurd q (by show ¬ (3 ≤ 0); omega)⟩ hl e
theorem NSw.i {W : List Cls} (h : NSw W) (hB : BI W) : NSi W := by
  intro c j a hc
  have d0 : ∀ k, iM (gin [] k) ≠ nStart := fun k => by rw [show gin [] k = gin [] 0 from rfl]; decide
  by_cases c21 : c < 21
  · have e : co (gmt (gc W c) j) = [] := by
      rw [hB.2 c c21]
      have hm : (gc W21 c).2.2.2.2.2 = [(nMake, [], (-4, []), 0, 0, 0, [], [])] := by
        show (W21.getD c _).2.2.2.2.2 = _
        unfold W21
        rw [List.getD_eq_getElem?_getD, List.getElem?_map, List.getElem?_range c21]
        rfl
      show co ((gc W21 c).2.2.2.2.2.getD j _) = []
      rw [hm]
      cases j with
      | zero => rfl
      | succ j => rfl
    rw [e]; exact d0 a
  · by_cases hj : j < (gc W c).2.2.2.2.2.length
    · by_cases ha : a < (co (gmt (gc W c) j)).length
      · exact h c (by omega) hc _ (getD_mem hj) _ (getD_mem ha)
      · rw [show gin (co (gmt (gc W c) j)) a = gin [] a from by
          show List.getD _ a _ = List.getD [] a _
          rw [List.getD_eq_getElem?_getD, List.getElem?_eq_none (by omega)]; rfl]
        exact d0 a
    · rw [show gmt (gc W c) j = gmt (gc [] 0) 0 from by
        show List.getD _ j _ = _
        rw [List.getD_eq_getElem?_getD, List.getElem?_eq_none (by omega)]; rfl]
      exact d0 a
