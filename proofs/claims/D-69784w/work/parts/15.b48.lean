/-! B: the flags of a method's line in the twin -/
/-- the flags in front: up to the first word that is none, or was told -/
theorem ct_methodFlags {A : List Nm} {L ts : List Tok} {Q X : Mem → Prop} {M : Mem} (hz : lz L) (h : TQ A L ts M) (hne : ts ≠ [])
    (hQ : ∀ bits t1 M' n, pFlags (flg nStatic nFinal nPrivate (some nAbstract)) (ts.length + 1) 0 ts = (bits, t1) → TQ A L t1 M' → t1 ≠ [] → Fr F_Model_takes M M' → w_Model_methodLine_L4 0 Q X (n + 1) bits 0 M') : w_Model_methodLine 0 Q X M := by
  have kf := fun (M' : Mem) (hq : TKs A M') => (⟨hq (29, nStatic) (by simp [kF]), hq (10, nFinal) (by simp [kF]), hq (15, nPrivate) (by simp [kF]), hq (11, nAbstract) (by simp [kF])⟩ : (mI M' 11 0 29 = nc A nStatic ∧ nStatic ∈ A) ∧ (mI M' 11 0 10 = nc A nFinal ∧ nFinal ∈ A) ∧ (mI M' 11 0 15 = nc A nPrivate ∧ nPrivate ∈ A) ∧ (mI M' 11 0 11 = nc A nAbstract ∧ nAbstract ∈ A))
  have main : ∀ d bits t M1, t.length < d → TQ A L t M1 → t ≠ [] → Fr F_Model_takes M M1 → pFlags (flg nStatic nFinal nPrivate (some nAbstract)) (ts.length + 1) 0 ts = pFlags (flg nStatic nFinal nPrivate (some nAbstract)) d bits t → w_Model_methodLine_L4 0 Q X (d + 2) bits 1 M1 := by
    intro d
    induction d with
    | zero => intro bits t M1 h; omega
    | succ d ih =>
      intro bits t M1 hlt hq hne1 hfr hp
      obtain ⟨k10, k11, k12, k13⟩ := kf M1 hq.1.2.1
      unfold w_Model_methodLine_L4
      refine itn (by decide) ?_
      rw [k10.1]
      -- one word looked at
      have j54 : ∀ s0 : Int32, (s0 = if (hd t).1 = 2 then flg nStatic nFinal nPrivate (some nAbstract) (hd t).2.1 else 0) → w_Model_methodLine_j70 0 Q X (w_Model_methodLine_L4 0 Q X (d + 2)) bits s0 M1 := by
        intro s0 hs
        have stop : ¬ ((hd t).1 = 2 ∧ flg nStatic nFinal nPrivate (some nAbstract) (hd t).2.1 ≠ 0 ∧ bits &&& flg nStatic nFinal nPrivate (some nAbstract) (hd t).2.1 = 0) → w_Model_methodLine_j85 0 Q X (w_Model_methodLine_L4 0 Q X (d + 2)) bits s0 M1 := fun hc => by
          unfold w_Model_methodLine_j85 w_Model_methodLine_j86
          refine itp rfl ?_
          unfold w_Model_methodLine_j97
          refine itp rfl ?_
          unfold w_Model_methodLine_j113
          have e0 : (bits ||| 0) = bits := Int32.or_zero
          rw [e0]
          refine hQ bits t _ (d + 1) (hp.trans ?_) hq.same hne1 (Fr.wI rfl hfr)
          show (if _ then _ else _) = _
          rw [if_neg hc]
        unfold w_Model_methodLine_j70
        by_cases c0 : s0 = 0
        · refine itp c0 (stop (fun q => q.2.1 ?_))
          rw [if_pos q.1] at hs; rw [← hs]; exact c0
        · refine itn c0 ?_
          have c2 : (hd t).1 = 2 := Classical.byContradiction (fun q => c0 (by rw [hs, if_neg q]))
          rw [if_pos c2] at hs
          by_cases c1 : bits &&& s0 = 0
          · refine itp c1 ?_
            unfold w_Model_methodLine_j86
            refine itn (by decide) ?_
            unfold w_Model_methodLine_j97
            refine itn (by decide) ?_
            unfold w_Model_methodLine_j113
            refine ih (bits ||| s0) t.tail _ (by have := tail_lt hne1; omega) (hq.next hne1) (tl_ne hq hz hne1 (by omega)) (Fr.wI rfl hfr) (hp.trans ?_)
            show (if _ then _ else _) = _
            rw [← hs, if_pos ⟨c2, c0, c1⟩]
          · exact itn c1 (stop (fun q => c1 (by rw [hs]; exact q.2.2)))
      refine ct_isWord hq hne1 k10.2 ?_
      cases c1 : isWd nStatic t with
      | true =>
        have q := of_decide_eq_true c1
        exact itn (by decide) (j54 1 (by rw [if_pos q.1]; unfold flg; rw [if_pos q.2]))
      | false =>
        refine itp (by decide) ?_
        rw [k11.1]
        refine ct_isWord hq hne1 k11.2 ?_
        have n1 : (hd t).1 = 2 → (hd t).2.1 ≠ nStatic := fun a b => of_decide_eq_false c1 ⟨a, b⟩
        cases c2 : isWd nFinal t with
        | true =>
          have q := of_decide_eq_true c2
          exact itn (by decide) (j54 2 (by rw [if_pos q.1]; unfold flg; rw [if_neg (n1 q.1), if_pos q.2]))
        | false =>
          refine itp (by decide) ?_
          rw [k12.1]
          refine ct_isWord hq hne1 k12.2 ?_
          have n2 : (hd t).1 = 2 → (hd t).2.1 ≠ nFinal := fun a b => of_decide_eq_false c2 ⟨a, b⟩
          cases c3 : isWd nPrivate t with
          | true =>
            have q := of_decide_eq_true c3
            exact itn (by decide) (j54 4 (by rw [if_pos q.1]; unfold flg; rw [if_neg (n1 q.1), if_neg (n2 q.1), if_pos q.2]))
          | false =>
            have n3 : (hd t).1 = 2 → (hd t).2.1 ≠ nPrivate := fun a b => of_decide_eq_false c3 ⟨a, b⟩
            refine itp (by decide) ?_
            rw [k13.1]
            refine ct_isWord hq hne1 k13.2 ?_
            cases c4 : isWd nAbstract t with
            | true =>
              have q := of_decide_eq_true c4
              exact itn (by decide) (j54 8 (by rw [if_pos q.1]; unfold flg; rw [if_neg (n1 q.1), if_neg (n2 q.1), if_neg (n3 q.1), if_pos (by rw [q.2])]))
            | false =>
              have n4 : (hd t).1 = 2 → (hd t).2.1 ≠ nAbstract := fun a b => of_decide_eq_false c4 ⟨a, b⟩
              refine itp (by decide) (j54 0 ?_)
              by_cases e : (hd t).1 = 2
              · rw [if_pos e]; unfold flg; rw [if_neg (n1 e), if_neg (n2 e), if_neg (n3 e), if_neg (fun q => n4 e (Option.some.inj q))]
              · rw [if_neg e]
  unfold w_Model_methodLine
  exact ⟨ts.length + 3, main (ts.length + 1) 0 ts M (by omega) h hne (Fr.rf _ _) rfl⟩
