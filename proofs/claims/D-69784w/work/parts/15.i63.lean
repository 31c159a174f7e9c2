/-! METHODS OUT OF A TEXT ARE AS WRITING ASKS: lines -/
def nxM (x : Mth) : Prop := nfM x ∧ x.2.2.2.1 ∈ f16 ∧ (¬ x.2.2.2.1 &&& 8 = 0 → x.2.2.2.2 = (0, 0, [], []))
def NXw (W : List Cls) : Prop := ∀ c, 21 ≤ c → c < W.length → ∀ m ∈ (gc W c).2.2.2.2.2, nxM m
def nxP (p : PM) : Prop := ((wcL p.1.1 ∧ (∀ κ ∈ p.1.2.1, kNf κ) ∧ kNf p.1.2.2.1) ∧ p.1.2.2.2.1 ∈ f16 ∧ p.1.2.2.2.1 &&& 8 = 0) ∧ (∀ i ∈ p.2.1, nfPI i) ∧ (∀ h ∈ p.2.2.1, wcL h.2.2.2.1) ∧ ∀ f, p.2.2.2.2 = some f → (∀ κ ∈ f.1, kNf κ) ∧ ∀ κ ∈ f.2.1, kNf κ
theorem nxP.fin {p : PM} {line : Nat} {m : Mth} (h : nxP p) (he : endM line p = .inr m) : nxM m := by
  obtain ⟨em, -⟩ := told_ex he
  subst em
  obtain ⟨⟨h1, h2, h3⟩, h4, h5, -⟩ := h
  refine ⟨⟨h1, fun i hi => ?_, fun y hy => ?_⟩, h2, fun z => absurd h3 z⟩
  · obtain ⟨j, hj, e⟩ := List.mem_map.mp (show i ∈ p.2.1.map (insOf p.2.2.2.1) from hi)
    rw [← e]; exact h4 j hj _
  · obtain ⟨j, hj, e⟩ := List.mem_map.mp (show y ∈ p.2.2.1.map (hndOf p.2.2.2.1) from hy)
    rw [← e]; exact h5 j hj
theorem NXw.addM {W : List Cls} {m : Mth} (h : NXw W) (hm : nxM m) (h1 : 1 ≤ W.length) : NXw (addM W m) := fun c h21 hc x hx => by
  rw [addM_len] at hc
  rw [gc_addM (c := W.length - 1) (by omega)] at hx
  by_cases e : c = W.length - 1
  · rw [if_pos e] at hx
    rcases List.mem_append.mp hx with q | q
    · rw [← e] at q; exact h c h21 hc x q
    · rw [List.mem_singleton.mp q]; exact hm
  · rw [if_neg e] at hx; exact h c h21 hc x hx
theorem NXw.addF {W : List Cls} {f : Fld} {d : Nat} (h : NXw W) (hd' : d < W.length) : NXw (addF W d f) := fun c h21 hc x hx => by
  rw [addF_len] at hc
  rw [gc_addF hd'] at hx
  by_cases e : c = d
  · rw [if_pos e] at hx
    rw [← e] at hx; exact h c h21 hc x hx
  · rw [if_neg e] at hx; exact h c h21 hc x hx
theorem NXw.addC {W : List Cls} {k : Cls} (h : NXw W) (hk : k.2.2.2.2.2 = []) : NXw (W ++ [k]) := fun c h21 hc x hx => by
  rw [List.length_append, List.length_singleton] at hc
  by_cases e : c < W.length
  · refine h c h21 e x ?_
    have : gc (W ++ [k]) c = gc W c := by
      show (W ++ [k]).getD c _ = W.getD c _
      rw [List.getD_eq_getElem?_getD, List.getD_eq_getElem?_getD, List.getElem?_append_left e]
    rw [this] at hx; exact hx
  · have e2 : c = W.length := by omega
    have : gc (W ++ [k]) c = k := by
      show (W ++ [k]).getD c _ = k
      rw [List.getD_eq_getElem?_getD, e2]; simp
    rw [this, hk] at hx; cases hx
def nxS (st : PSt) : Prop := NXw st.2.1 ∧ 21 ≤ st.2.1.length ∧ (1 ≤ st.1 → 22 ≤ st.2.1.length) ∧ (2 ≤ st.1 → nxP st.2.2)
theorem bLine_nx {br : Int32} {W : List Cls} {l : List Tok} {st : PSt} (h : NXw W) (hl : 22 ≤ W.length) (ho : okN l) (hb : bLine br W l = .inr st) : nxS st := by
  unfold bLine at hb
  split at hb
  · split at hb
    · cases hb
    · split at hb
      · cases hb
        exact ⟨h.addF (by omega), by show 21 ≤ (addF W _ _).length; rw [addF_len]; omega, fun _ => by show 22 ≤ (addF W _ _).length; rw [addF_len]; exact hl, fun q => absurd q (by show ¬ (2 ≤ 1); omega)⟩
      · cases hb
  split at hb
  · split at hb
    · cases hb
    · rename_i bits own ks κ t e
      obtain ⟨m1, m2, m3, m4⟩ := pMethod_n ho.tail e
      split at hb
      · split at hb
        · rename_i c8
          cases hb
          exact ⟨h, by show 21 ≤ W.length; omega, fun _ => hl, fun _ => ⟨⟨⟨m2, m3, m4⟩, m1, c8⟩, fun i hi => (by cases hi), fun i hi => (by cases hi), fun f hf => (by cases hf)⟩⟩
        · rename_i c8
          cases hb
          refine ⟨h.addM ⟨⟨⟨m2, m3, m4⟩, fun i hi => (by cases hi), fun i hi => (by cases hi)⟩, m1, fun _ => rfl⟩ (by omega), ?_, fun _ => ?_, fun q => absurd q (by show ¬ (2 ≤ 1); omega)⟩
          · show 21 ≤ (addM W _).length; rw [addM_len]; omega
          · show 22 ≤ (addM W _).length; rw [addM_len]; omega
      · cases hb
  split at hb
  · split at hb
    · cases hb
      exact ⟨h, by show 21 ≤ W.length; omega, fun q => absurd q (by show ¬ (1 ≤ 0); omega), fun q => absurd q (by show ¬ (2 ≤ 0); omega)⟩
    · cases hb
  · cases hb
theorem pLabels_n : ∀ (n : Nat) (acc : List Nm) (ts : List Tok), okN ts → okN (pLabels n acc ts).2
  | 0, _, _, h => h
  | n + 1, acc, ts, h => by
    unfold pLabels
    by_cases c : (hd ts).1 = 2 ∧ (hd ts.tail).1 = 58
    · rw [if_pos c]; exact pLabels_n n _ _ h.tail.tail
    · rw [if_neg c]; exact h
theorem stp_nx {br : Int32} {st st' : PSt} {l : List Tok} (h : nxS st) (hl : okN l) (hs : stp br st l = .inr st') : nxS st' := by
  obtain ⟨h1, h2, h3, h5⟩ := h
  unfold stp at hs
  by_cases c0 : st.1 = 0
  · rw [if_pos c0] at hs
    unfold cLine at hs
    split at hs
    · cases hs
    · split at hs
      · cases hs
        exact ⟨h1.addC rfl, by show 21 ≤ (st.2.1 ++ _).length; rw [List.length_append]; omega, fun _ => by show 22 ≤ (st.2.1 ++ _).length; rw [List.length_append, List.length_singleton]; omega, fun q => absurd q (by show ¬ (2 ≤ 1); omega)⟩
      · cases hs
  rw [if_neg c0] at hs
  have h22 := h3 (by omega)
  by_cases c1 : st.1 = 1
  · rw [if_pos c1] at hs
    exact bLine_nx h1 h22 hl hs
  rw [if_neg c1] at hs
  have hP := h5 (by omega)
  by_cases c2 : st.1 = 2
  · rw [if_pos c2] at hs
    unfold rLine at hs
    split at hs
    · cases hs
    · rename_i a b _ hq
      by_cases hlt : b < Int32.ofNat (st.2.2.1.2.1.length + (if st.2.2.1.2.2.2.1 &&& 1 = 0 then 1 else 0))
      · rw [if_pos hlt] at hs; cases hs
      · rw [if_neg hlt] at hs
        cases hs
        exact ⟨h1, h2, fun _ => h22, fun _ => ⟨hP.1, fun i hi => absurd hi List.not_mem_nil, fun i hi => absurd hi List.not_mem_nil, fun f hf => by cases hf⟩⟩
  rw [if_neg c2] at hs
  unfold kLine at hs
  split at hs
  · split at hs
    · cases hs
    · rename_i m he
      exact bLine_nx (h1.addM (hP.fin he) (by omega)) (by rw [addM_len]; exact h22) hl hs
  split at hs
  · split at hs
    · cases hs
    · split at hs
      · cases hs
      · rename_i ls ss t e
        cases hs
        obtain ⟨f1, f2⟩ := pFrame_n hl.tail e
        refine ⟨h1, h2, fun _ => h22, fun _ => ⟨hP.1, hP.2.1, hP.2.2.1, fun f hf => ?_⟩⟩
        cases hf
        exact ⟨f1, f2⟩
  split at hs
  · split at hs
    · cases hs
    · rename_i a b g k t e
      have f1 := pHandler_n hl.tail e
      split at hs
      · cases hs
      · cases hs
        refine ⟨h1, h2, fun _ => h22, fun _ => ⟨hP.1, hP.2.1, fun z hz => ?_, hP.2.2.2⟩⟩
        rcases List.mem_append.mp (show z ∈ st.2.2.2.2.1 ++ _ from hz) with q | q
        · exact hP.2.2.1 z q
        · rw [List.mem_singleton.mp q]; exact f1
  have hlb := pLabels_n (l.length + 1) [] l hl
  unfold iLine at hs
  split at hs
  rename_i ls t1 hlq
  rw [hlq] at hlb
  split at hs
  · cases hs
    exact ⟨h1, h2, fun _ => h22, fun _ => hP⟩
  · split at hs
    · cases hs
    · rename_i o x t2 hq
      split at hs
      · cases hs
      · cases hs
        refine ⟨h1, h2, fun _ => h22, fun _ => ⟨hP.1, fun i hi => ?_, hP.2.2.1, fun f hf => by cases hf⟩⟩
        rcases List.mem_append.mp (show i ∈ st.2.2.2.1 ++ _ from hi) with q | q
        · exact hP.2.1 i q
        · rw [List.mem_singleton.mp q]
          unfold pInstr at hq
          split at hq
          · rename_i c62
            split at hq
            · cases hq
            · rename_i e1
              split at hq
              · cases hq
                refine pOpr_nf (okN.tail hlb) c62 (fun f hf => ?_) e1
                cases ep : st.2.2.2.2.2.2 with
                | none => rw [ep] at hf; cases hf
                | some g =>
                  rw [ep] at hf
                  cases hf
                  exact hP.2.2.2 g ep
              · cases hq
          · cases hq
theorem runL_nx {br : Int32} {n : Nat} : ∀ {ls : List (List Tok)} {st : PSt} {W' : List Cls}, nxS st → (∀ l ∈ ls, okN l) → runL br n st ls = .inr W' → NXw W'
  | [], st, W', h, _, e => by
    unfold runL at e
    split at e
    · cases e; exact h.1
    · cases e
  | l :: ls, st, W', h, hl, e => by
    unfold runL at e
    split at e
    · cases e
    · rename_i hq
      exact runL_nx (stp_nx h (hl l (List.mem_cons_self ..)) hq) (fun l' hl' => hl l' (List.mem_cons_of_mem _ hl')) e
theorem NXw.run {br : Int32} {n : Nat} {ls : List (List Tok)} {W W' : List Cls} (h : NXw W) (h21 : 21 ≤ W.length) (hl : ∀ l ∈ ls, okN l) (e : runL br n (0, W, noM) ls = .inr W') : NXw W' :=
  runL_nx (st := (0, W, noM)) ⟨h, h21, fun q => absurd q (by show ¬ (1 ≤ 0); omega), fun q => absurd q (by show ¬ (2 ≤ 0); omega)⟩ hl e
/-! words of a text are of letters -/
theorem lexN_k {p : Nat → Int32} {n k : Nat} {less : Bool} : ¬ ((lexN p n k less).1.1 = 2 ∨ (lexN p n k less).1.1 = 3) := by
  unfold lexN
  dsimp only
  repeat' split
  all_goals simp
theorem lex1_w {p : Nat → Int32} {n k : Nat} (hp : tend p n) (h : (lex1 p n k).1.1 = 2 ∨ (lex1 p n k).1.1 = 3) : wcL (lex1 p n k).1.2.1 := by
  have hmk : wcL nMake ∧ wcL nStart := by
    have h1 : nMake ≠ [] ∧ nStart ≠ [] := by decide +kernel
    have h2 : (∀ c ∈ nMake, wc c = true) ∧ ∀ c ∈ nStart, wc c = true := by decide +kernel
    exact ⟨⟨h1.1, h2.1⟩, ⟨h1.2, h2.2⟩⟩
  unfold lex1 at h ⊢
  split at h
  · exact absurd h (by simp)
  rename_i c1
  rw [if_neg c1]
  split at h
  · rename_i c2
    rw [if_pos c2]
    split at h
    · rename_i c3
      rw [if_pos c3]
      obtain ⟨s1, s2, s3, s4⟩ := scn_spec (q := isW) hp (by decide) k
      show wcL (bytes p k (scn isW p n k))
      refine ⟨fun e => ?_, fun c hc => ?_⟩
      · have := congrArg List.length e
        rw [bytes_len, List.length_nil] at this
        have e2 : scn isW p n k = k := by omega
        rw [e2] at s4
        have : isW (p k) = true := by unfold isW; rw [c2]; rfl
        rw [s4] at this; cases this
      · unfold bytes at hc
        obtain ⟨i, hi, e⟩ := List.mem_map.1 hc
        have hi2 : i < scn isW p n k - k := List.mem_range.1 hi
        have := s3 (k + i) (by omega) (by omega)
        rw [← e]
        unfold wc
        rw [this]; rfl
    · exact absurd h (by simp)
  rename_i c2
  rw [if_neg c2]
  split at h
  · exact absurd h lexN_k
  rename_i c3
  rw [if_neg c3]
  split at h
  · rename_i c4
    rw [if_pos c4]
    split at h
    · rename_i c5
      rw [if_pos c5]; exact hmk.1
    rename_i c5
    rw [if_neg c5]
    split at h
    · rename_i c6
      rw [if_pos c6]; exact hmk.2
    · exact absurd h (by simp)
  rename_i c4
  rw [if_neg c4]
  split at h
  · rename_i c5
    exfalso
    unfold isSg at c5
    simp only [Bool.or_eq_true, beq_iff_eq] at c5
    have h : (p k).toNatClampNeg = 2 ∨ (p k).toNatClampNeg = 3 := h
    rcases c5 with (((((z | z) | z) | z) | z) | z) | z <;> rw [z] at h <;> exact absurd h (by decide)
  · exact absurd h (by simp)
