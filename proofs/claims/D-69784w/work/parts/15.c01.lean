theorem JM.oprs {G : List Sl} {US : UST} {A : List Nm} {S : List Sg} {W : List Cls} {w c : Nat} {br : Int32} {q0 nl0 nq nl nf nk : Nat} {p : PM} {NL : List Nine} {z : Nat × Nat × Nat × Nat × Nat × Nat} {L ts : List Tok} {M0 M : Mem} {o n : Nat} {Q X : Mem → Prop} (h : JM G US A S W w c br q0 nl0 nq nl nf nk p NL z L ts M0 M) (hx : Gx G w) (hz : lz L) (hUL : UL US L) (hLl : L.length ≤ 1500) (hne : ts ≠ []) (h2 : (hd ts).1 = 2) (ho : o < 62) (h99 : z.2.2.2.2.2 = 99) (hNL : NL.length + L.length ≤ 3900) (hnl : nl + L.length ≤ 3900) (hz1 : z.2.2.1 ≤ nl)
    (E : ∀ e M', pOpr o ts.tail = .inl e → ThT e M' → JE G US A w z M0 M' → X M')
    (F : ∀ S' nl' x l v3 v4 v5 t1 M', pOpr o ts.tail = .inr (x, t1) → S <+: S' → nl' = nl + (if o = 40 then x.2.2.1.length else 0) → JM G US A S' W w c br q0 nl0 nq nl' nf nk p (NL ++ x.2.2.1.map (niU L)) (zl z l) L t1 M0 M' → l = (if 6 < x.2.2.2.2.2.1.length then 12 else 99) → (l = 99 → tOv A S' w nl' o x.1 x.2.1 (x.2.2.1.map (nc A)) x.2.2.2.1 x.2.2.2.2.1 x.2.2.2.2.2.1 x.2.2.2.2.2.2 v3 v4 v5 M') → ((∀ nm ∈ x.2.2.1, nm ∈ A) ∧ lbOk o x.2.2.1) → t1 ≠ [] → (o = 40 → v4 = Int32.ofNat nl) → w_Model_codeLine_j789 0 Q X (Int32.ofNat n) (Int32.ofNat o) v3 v4 v5 M') : w_Model_codeLine_j272 0 Q X (Int32.ofNat n) (Int32.ofNat o) M := by
  have hne1 : ts.tail ≠ [] := tl_ne h.1 hz hne (by omega)
  have fr1 : Fr (17389053285336317351878766778946691247926315637433987075884339777880653544094723917497633246098469356064467316082920052339526209205733843653638669902010930385949833498519558291612183209877345334721187468785395836462447016175738653219365616526169355422362022073520194443491340543649827011081791104273022211507760511819591395146491680113786491784146359021958493496126338281653387684097045395696473328773557372182515739487102426063214317132305268844321266765688898833232275971716324287705144232512156053419943308695266159775854512115681890789558400281675948065540754596760574171857608728799031332671444279929441992504835451725495377632091591414252850109970946771223437807481207361788192449115581535321167734412726568607199341903406613506712074662242342321745994792379802244019458599889347574237235304974906399408040330771840424131500216443067063826980777549485244368600222849212629386052754199887344981513785643319350775236522874608073632419213605020338439358619295359869499998208) M (sI M 11 0 43 (mI M 11 0 43 + 1)) := Fr.wI rfl (Fr.rf _ _)
  have h1 := h.fr hx fr1 (h.1.next hne)
  have hsl := h.1.suf.length_le
  have htl : ts.tail.length ≤ ts.length := by rw [List.length_tail]; omega
  have ez : zl z 99 = z := by rw [← h99]
  unfold w_Model_codeLine_j272
  generalize sI M 11 0 43 (mI M 11 0 43 + 1) = M1 at h1 ⊢
  clear fr1
  -- nothing behind it
  have sN : (∀ t, pOpr o t = .inr (noO, t)) → ¬ isJ o → o ≠ 40 → ¬ isN o → ¬ isFo o → ¬ isMo o → w_Model_codeLine_j789 0 Q X (Int32.ofNat n) (Int32.ofNat o) 0 0 0 M1 := by
    intro hp d1 d2 d3 d4 d5
    refine F S nl noO 99 0 0 0 ts.tail M1 (hp _) (List.prefix_refl _) (by rw [if_neg d2]; rfl) ?_ rfl (fun _ => ?_) ⟨(fun nm hm => by cases hm), fun q => absurd q d1, fun _ _ => rfl⟩ hne1 (fun q => absurd q d2)
    · rw [ez]; show JM G US A S W w c br q0 nl0 nq nl nf nk p (NL ++ []) z L ts.tail M0 M1; rw [List.append_nil]; exact h1
    · have d6 : ¬ (isN o ∨ isFo o ∨ isMo o) := fun q => q.elim d3 (fun q => q.elim d4 d5)
      have d7 : ¬ (isFo o ∨ isMo o) := fun q => q.elim d4 d5
      exact ⟨by rw [if_neg d1, if_neg d6], fun _ => ⟨by rw [if_neg d7], by rw [if_neg d4, if_neg d5]⟩, fun q => absurd q d2, fun q => absurd q d6, fun q => absurd q d7, fun q => absurd q d4, fun q => absurd q d5⟩
  -- one number
  have sB : ∀ lo hi, (∀ t, pOpr o t = match pNum lo hi t with
      | .inl e => .inl e
      | .inr (v, t1) => .inr ((v, 0, [], [], [], [], (0, [])), t1)) → ¬ isJ o → o ≠ 40 → ¬ isN o → ¬ isFo o → ¬ isMo o → w_Model_numberIn 0 lo hi (fun r M2 => w_Model_codeLine_j789 0 Q X (Int32.ofNat n) (Int32.ofNat o) r 0 0 M2) X M1 := by
    intro lo hi hp d1 d2 d3 d4 d5
    have hp := hp ts.tail
    refine h1.num hx hz hne1 (fun v t2 M' a hn hj => ?_) (fun e M' a b hj => E e M' (by rw [hp, a]) b hj)
    rw [a] at hp
    refine F S nl (v, 0, [], [], [], [], (0, [])) 99 v 0 0 t2 M' hp (List.prefix_refl _) (by rw [if_neg d2]; rfl) ?_ rfl (fun _ => ?_) ⟨(fun nm hm => by cases hm), fun q => absurd q d1, fun _ _ => rfl⟩ hn (fun q => absurd q d2)
    · rw [ez]; show JM G US A S W w c br q0 nl0 nq nl nf nk p (NL ++ []) z L t2 M0 M'; rw [List.append_nil]; exact hj
    · have d6 : ¬ (isN o ∨ isFo o ∨ isMo o) := fun q => q.elim d3 (fun q => q.elim d4 d5)
      have d7 : ¬ (isFo o ∨ isMo o) := fun q => q.elim d4 d5
      exact ⟨by rw [if_neg d1, if_neg d6], fun _ => ⟨by rw [if_neg d7], by rw [if_neg d4, if_neg d5]⟩, fun q => absurd q d2, fun q => absurd q d6, fun q => absurd q d7, fun q => absurd q d4, fun q => absurd q d5⟩
  -- a label
  have sD : (∀ t, pOpr o t = match pName t with
      | .inl e => .inl e
      | .inr (nm, t1) => .inr ((0, 0, [nm], [], [], [], (0, [])), t1)) → isJ o → o ≠ 40 → ¬ isN o → ¬ isFo o → ¬ isMo o → w_Model_usedLabel 0 (fun r M2 => w_Model_codeLine_j789 0 Q X (Int32.ofNat n) (Int32.ofNat o) r 0 0 M2) X M1 := by
    intro hp d1 d2 d3 d4 d5
    have hp := hp ts.tail
    refine h1.usedLabel hx hz hne1 (by omega) (fun nm t2 M' a b hn hj _ => ?_) (fun e M' a b hj => E e M' (by rw [hp, a]) b hj)
    rw [a] at hp
    refine F S nl (0, 0, [nm], [], [], [], (0, [])) 99 (nc A nm) 0 0 t2 M' hp (List.prefix_refl _) (by rw [if_neg d2]; rfl) ?_ rfl (fun _ => ?_) ⟨(fun x hm => by rw [List.mem_singleton] at hm; rw [hm]; exact b), fun _ => rfl, fun q => absurd d1 q⟩ hn (fun q => absurd q d2)
    · rw [ez]; exact hj
    · have d6 : ¬ (isN o ∨ isFo o ∨ isMo o) := fun q => q.elim d3 (fun q => q.elim d4 d5)
      have d7 : ¬ (isFo o ∨ isMo o) := fun q => q.elim d4 d5
      exact ⟨by rw [if_pos d1]; rfl, fun _ => ⟨by rw [if_neg d7], by rw [if_neg d4, if_neg d5]⟩, fun q => absurd q d2, fun q => absurd q d6, fun q => absurd q d7, fun q => absurd q d4, fun q => absurd q d5⟩
  -- a class
  have sC' : (∀ t, pOpr o t = match pCls t with
      | .inl e => .inl e
      | .inr (k, t1) => .inr ((0, 0, [], k, [], [], (0, [])), t1)) → ¬ isJ o → o ≠ 40 → isN o → ¬ isFo o → ¬ isMo o → w_Model_className 0 (fun r M2 => w_Model_codeLine_j789 0 Q X (Int32.ofNat n) (Int32.ofNat o) r 0 0 M2) X M1 := by
    intro hp d1 d2 d3 d4 d5
    have hp := hp ts.tail
    refine h1.cls hx hz hne1 (fun k t2 M' a b hn hj => ?_) (fun e M' a b hj => E e M' (by rw [hp, a]) b hj)
    rw [a] at hp
    refine F S nl (0, 0, [], k, [], [], (0, [])) 99 (nc A k) 0 0 t2 M' hp (List.prefix_refl _) (by rw [if_neg d2]; rfl) ?_ rfl (fun _ => ?_) ⟨(fun x hm => by cases hm), fun q => absurd q d1, fun _ _ => rfl⟩ hn (fun q => absurd q d2)
    · rw [ez]; show JM G US A S W w c br q0 nl0 nq nl nf nk p (NL ++ []) z L t2 M0 M'; rw [List.append_nil]; exact hj
    · have d7 : ¬ (isFo o ∨ isMo o) := fun q => q.elim d4 d5
      exact ⟨by rw [if_neg d1, if_pos (Or.inl d3)], fun _ => ⟨by rw [if_neg d7], by rw [if_neg d4, if_neg d5]⟩, fun q => absurd q d2, fun _ => b, fun q => absurd q d7, fun q => absurd q d4, fun q => absurd q d5⟩
  -- a field
  have sF' : (∀ t, pOpr o t = match pMember false t with
      | .inl e => .inl e
      | .inr ((k, m, ks, κ), t1) => .inr ((0, 0, [], k, m, ks, κ), t1)) → ¬ isJ o → o ≠ 40 → ¬ isN o → isFo o → ¬ isMo o → w_Model_className 0 (fun r1 M2 => w_Model_need 0 46 (fun M3 => w_Model_plainName 0 (fun r2 M4 => w_Model_type 0 (fun r3 M5 => w_Model_codeLine_j789 0 Q X (Int32.ofNat n) (Int32.ofNat o) r1 r2 r3 M5) X M4) X M3) X M2) X M1 := by
    intro hp d1 d2 d3 d4 d5
    have hp := hp ts.tail
    unfold pMember at hp
    refine h1.cls hx hz hne1 (fun k t2 M2 a b hn hj => ?_) (fun e M' a b hj => E e M' (by rw [hp, a]) b hj)
    simp only [a] at hp
    refine hj.need (b := 46) hx hz hn (by omega) (fun M3 a3 hn3 hj3 => ?_) (fun M' a3 b3 hj3 => E _ M' (by rw [hp, pSign, if_neg a3]) b3 hj3)
    rw [pSign, if_pos a3] at hp
    refine hj3.name hx hz (hn3 (by omega)) (fun m t4 M4 a4 b4 hn4 hj4 => ?_) (fun e M' a4 b4 hj4 => ?_)
    · obtain ⟨q1, q2⟩ := pName_tail a4
      have q3 : (hd t2.tail).2.1 = m := by
        unfold pName at a4; rw [if_pos q2] at a4; exact (Prod.mk.inj (Sum.inr.inj a4)).1
      simp only [q2, true_or, if_true, Bool.false_eq_true, if_false, q3, ← q1] at hp
      refine hj4.typ hx hz hn4 (fun κ t5 M5 a5 b5 hn5 hj5 => ?_) (fun e M' a5 b5 hj5 => E e M' (by rw [hp, a5]) b5 hj5)
      simp only [a5] at hp
      refine F S nl (0, 0, [], k, m, [], κ) 99 (nc A k) (nc A m) (kt A κ) t5 M5 hp (List.prefix_refl _) (by rw [if_neg d2]; rfl) ?_ rfl (fun _ => ?_) ⟨(fun x hm => by cases hm), fun q => absurd q d1, fun _ _ => rfl⟩ hn5 (fun q => absurd q d2)
      · rw [ez]; show JM G US A S W w c br q0 nl0 nq nl nf nk p (NL ++ []) z L t5 M0 M5; rw [List.append_nil]; exact hj5
      · exact ⟨by rw [if_neg d1, if_pos (Or.inr (Or.inl d4))], fun _ => ⟨by rw [if_pos (Or.inl d4)], by rw [if_pos d4]⟩, fun q => absurd q d2, fun _ => b, fun _ => b4, fun _ => ⟨b5, pType_kd a5⟩, fun q => absurd q d5⟩
    · unfold pName at a4
      by_cases q2 : (hd t2.tail).1 = 2
      · rw [if_pos q2] at a4; cases a4
      · rw [if_neg q2] at a4
        simp only [q2, false_or, Bool.false_eq_true, false_and, if_false] at hp
        exact E e M' (by rw [hp, Sum.inl.inj a4]) b4 hj4
  -- a number and another one
  have sI' : (∀ t, pOpr o t = match pNum 0 19 t with
      | .inl e => .inl e
      | .inr (v, t1) => match pNum i32min i32max t1 with
        | .inl e => .inl e
        | .inr (u, t2) => .inr ((v, u, [], [], [], [], (0, [])), t2)) → ¬ isJ o → o ≠ 40 → ¬ isN o → ¬ isFo o → ¬ isMo o → w_Model_numberIn 0 0 19 (fun r1 M2 => w_Model_numberIn 0 (-2147483648) 2147483647 (fun r2 M3 => w_Model_codeLine_j789 0 Q X (Int32.ofNat n) (Int32.ofNat o) r1 r2 0 M3) X M2) X M1 := by
    intro hp d1 d2 d3 d4 d5
    have hp := hp ts.tail
    refine h1.num hx hz hne1 (fun v t2 M' a hn hj => ?_) (fun e M' a b hj => E e M' (by rw [hp, a]) b hj)
    simp only [a] at hp
    refine hj.num (lo := i32min) (hi := i32max) hx hz hn (fun u t3 M3 a3 hn3 hj3 => ?_) (fun e M' a3 b3 hj3 => E e M' (by rw [hp, a3]) b3 hj3)
    rw [a3] at hp
    refine F S nl (v, u, [], [], [], [], (0, [])) 99 v u 0 t3 M3 hp (List.prefix_refl _) (by rw [if_neg d2]; rfl) ?_ rfl (fun _ => ?_) ⟨(fun nm hm => by cases hm), fun q => absurd q d1, fun _ _ => rfl⟩ hn3 (fun q => absurd q d2)
    · rw [ez]; show JM G US A S W w c br q0 nl0 nq nl nf nk p (NL ++ []) z L t3 M0 M3; rw [List.append_nil]; exact hj3
    · have d6 : ¬ (isN o ∨ isFo o ∨ isMo o) := fun q => q.elim d3 (fun q => q.elim d4 d5)
      have d7 : ¬ (isFo o ∨ isMo o) := fun q => q.elim d4 d5
      exact ⟨by rw [if_neg d1, if_neg d6], fun _ => ⟨by rw [if_neg d7], by rw [if_neg d4, if_neg d5]⟩, fun q => absurd q d2, fun q => absurd q d6, fun q => absurd q d7, fun q => absurd q d4, fun q => absurd q d5⟩
  -- a pick
  have sP : (∀ t, pOpr o t = match pNum i32min i32max t with
      | .inl e => .inl e
      | .inr (v, t1) => match pPicks (t1.length + 1) [] t1 with
        | .inl e => .inl e
        | .inr (ls, t2) => .inr ((v, 0, ls, [], [], [], (0, [])), t2)) → o = 40 → w_Model_numberIn 0 (-2147483648) 2147483647 (fun r1 M2 => ∃ i219, mR M2 11 0 45 = some (12, i219) ∧ w_Model_usedLabel 0 (fun r2 M3 => w_Model_addList 0 r2 (fun M4 => ∃ n229 : Nat, w_Model_codeLine_L608 0 Q X n229 (Int32.ofNat n) (Int32.ofNat o) r1 (mI M2 12 i219 37) M4) M3) X M2) X M1 := by
    intro hp d2
    have hp := hp ts.tail
    refine h1.num (lo := i32min) (hi := i32max) hx hz hne1 (fun v t2 M2 a hn hj => ?_) (fun e M' a b hj => E e M' (by rw [hp, a]) b hj)
    simp only [a] at hp
    refine ⟨w, hj.2.1.1.1.2.1, ?_⟩
    have e37 : mI M2 12 w 37 = Int32.ofNat nl := hj.2.1.2.1.2.1
    rw [e37]
    have et2 := (pNum_tail a).1
    have hl2 : t2.length ≤ ts.length := by rw [et2, List.length_tail, List.length_tail]; omega
    have hl0 : 0 < t2.length := List.length_pos_iff.mpr hn
    have hp0 : pPicks (t2.length + 1) [] t2 = match pName t2 with
        | .inl e => .inl e
        | .inr (nm, t2') => pPicks t2.length ([] ++ [nm]) t2' := by
      rw [pPicks]
      simp only [List.length_nil, ne_eq, not_true_eq_false, false_and, if_false, if_true]
      cases pName t2 <;> rfl
    refine hj.usedLabel hx hz hn (by omega) (fun nm t3 M3 a3 b3 hn3 hj3 r3 => ?_) (fun e M' a3 b3 hj3 => E e M' (by rw [hp, hp0, a3]) b3 hj3)
    refine hj3.addList hx (by omega) hz1 (fun M4 hj4 r4 r5 => ⟨t2.length, ?_⟩)
    subst d2
    have et3 := (pName_tail a3).1
    have hl3 : t3.length < t2.length := by rw [et3, List.length_tail]; omega
    refine JM.picks (t0 := t2) (nl := nl) (NL := NL) hx hz hNL hnl hz1 (fun e M' a b hj' => E e M' (by rw [hp, a]) b hj') (fun acc t1 M' a hn1 hA hr hj' => ?_) t2.length [nm] t3 M4 hl3 hn3 (by simp) (by simp; omega) (fun x hm => by rw [List.mem_singleton] at hm; rw [hm]; exact b3) (fun j hj' => ?_) hj4 ?_
    · rw [a] at hp
      refine F S (nl + acc.length) (v, 0, acc, [], [], [], (0, [])) 99 v (Int32.ofNat nl) (Int32.ofNat acc.length) t1 M' hp (List.prefix_refl _) (by rw [if_pos rfl]) (by rw [ez]; exact hj') rfl (fun _ => ?_) ⟨hA, fun q => absurd q (by decide), fun _ q => absurd rfl q⟩ hn1 (fun _ => rfl)
      refine ⟨rfl, fun q => absurd rfl q, fun _ => ⟨nl, rfl, by rw [List.length_map], by rw [List.length_map]; exact Nat.le_refl _, fun j hj => ?_⟩, fun q => absurd q (by decide), fun q => absurd q (by decide), fun q => absurd q (by decide), fun q => absurd q (by decide)⟩
      rw [List.length_map] at hj; exact hr j hj
    · have : j = 0 := by simp at hj'; omega
      subst this
      rw [Nat.add_zero, r5]; rfl
    · rw [hp0, a3]; rfl
  -- a call
  have sM : (∀ t, pOpr o t = match pMember true t with
      | .inl e => .inl e
      | .inr ((k, m, ks, κ), t1) => .inr ((0, 0, [], k, m, ks, κ), t1)) → ¬ isJ o → o ≠ 40 → ¬ isN o → ¬ isFo o → isMo o → w_Model_className 0 (fun r180 M179 => w_Model_need 0 46 (fun M181 => vp_in (mI M181 11 0 43) (mL M181 411 0) ∧ if (mI M181 411 0 (mI M181 11 0 43).toNatClampNeg) = (3 : Int32) then (vp_in (mI M181 11 0 43) (mL M181 107 0) ∧ if (mI M181 107 0 (mI M181 11 0 43).toNatClampNeg) = (mI M181 11 0 6) then (∃ x186 : Int32, x186 = (mI (sI M181 11 0 43 ((mI M181 11 0 43) + (1 : Int32))) 11 0 6) ∧ w_Model_codeLine_j757 0 Q X (Int32.ofNat n) (Int32.ofNat o) r180 x186 (sI M181 11 0 43 ((mI M181 11 0 43) + (1 : Int32)))) else (w_Model_codeLine_j751 0 Q X (Int32.ofNat n) (Int32.ofNat o) r180 M181)) else (w_Model_codeLine_j751 0 Q X (Int32.ofNat n) (Int32.ofNat o) r180 M181)) X M179) X M1 := by
    intro hp d1 d2 d3 d4 d5
    have hp := hp ts.tail
    unfold pMember at hp
    refine h1.cls hx hz hne1 (fun k t2 M2 a hk hn hj => ?_) (fun e M' a b hj => E e M' (by rw [hp, a]) b hj)
    rw [a] at hp
    dsimp only at hp
    refine hj.need (b := 46) hx hz hn (by omega) (fun M3 a3 hn3 hj3 => ?_) (fun M' a3 b3 hj3 => E _ M' (by rw [hp, pSign, if_neg a3]) b3 hj3)
    rw [pSign, if_pos a3] at hp
    dsimp only at hp
    have hn3 := hn3 (by omega)
    -- behind the member's name
    have j757 : ∀ m t4 M4, m ∈ A → t4 ≠ [] → JM G US A S W w c br q0 nl0 nq nl nf nk p NL z L t4 M0 M4 → (pOpr o ts.tail = match pSig t4 with
          | .inl e => .inl e
          | .inr ((ks, κ), t3) => .inr ((0, 0, [], k, m, ks, κ), t3)) → w_Model_codeLine_j757 0 Q X (Int32.ofNat n) (Int32.ofNat o) (nc A k) (nc A m) M4 := by
      intro m t4 M4 hm hn4 hj4 hp4
      unfold w_Model_codeLine_j757
      refine hj4.sig hx hz hUL (by omega) hn4 (fun ks κ t5 S' M5 a5 hS hs5 hks hκ hκ' hn5 hrow hj5 => ?_) (fun e M' a5 b5 hj5 => E e M' (by rw [hp4, a5]) b5 hj5)
      rw [a5] at hp4
      obtain ⟨i, r1, r2, r3, r4⟩ := hrow
      refine ⟨i, r1, ?_⟩
      rw [oN_tnc (by omega), r4]
      refine ⟨(vp_oN (by omega)).mpr r2, ?_⟩
      have kl : ks.length < 10000 := by
        have := (pSig_kd a5 hz hj4.1.suf).2.2.1
        have := hj4.1.suf.length_le
        omega
      have j783 : ∀ b : Bool, b = decide (6 < ks.length) → w_Model_codeLine_j783 0 Q X (Int32.ofNat n) (Int32.ofNat o) (nc A k) (nc A m) (Int32.ofNat (S'.idxOf (sg A ks κ))) (b2 b) 12 M5 := by
        intro b hb
        unfold w_Model_codeLine_j783
        refine hj5.asks (rule := 12) hx (by omega) (by omega) (fun M6 hj6 _ => ?_)
        have el : lst z.2.2.2.2.2 12 b = if 6 < ks.length then 12 else 99 := by
          rw [h99, hb]; unfold lst
          by_cases q : 6 < ks.length
          · rw [decide_eq_true q, if_pos ⟨rfl, by omega⟩, if_pos q]
          · rw [decide_eq_false q, if_neg (fun x => by cases x.1), if_neg q]
        rw [el] at hj6
        refine F S' nl (0, 0, [], k, m, ks, κ) _ _ _ _ t5 M6 hp4 hS (by rw [if_neg d2]; rfl) ?_ rfl (fun h9 => ?_) ⟨(fun x hm => by cases hm), fun q => absurd q d1, fun _ _ => rfl⟩ hn5 (fun q => absurd q d2)
        · show JM G US A S' W w c br q0 nl0 nq nl nf nk p (NL ++ []) _ L t5 M0 M6; rw [List.append_nil]; exact hj6
        · have h6 : ks.length ≤ 6 := by
            by_cases q : 6 < ks.length
            · have h9 : (if 6 < ks.length then 12 else 99) = 99 := h9
              rw [if_pos q] at h9; omega
            · omega
          exact ⟨by rw [if_neg d1, if_pos (Or.inr (Or.inr d5))], fun _ => ⟨by rw [if_pos (Or.inr d5)], by rw [if_neg d4, if_pos d5]⟩, fun q => absurd q d2, fun _ => hk, fun _ => hm, fun q => absurd q d4, fun _ => ⟨hs5, hks, hκ, hκ', h6⟩⟩
      by_cases c6 : ks.length ≤ 6
      · exact itp (le_oN (b := 6) c6 (by omega)) (j783 false (decide_eq_false (by omega)).symm)
      · exact itn (nle_oN (b := 6) (by omega) (by omega)) (j783 true (decide_eq_true (by omega)).symm)
    have hl0 : 0 < t2.tail.length := List.length_pos_iff.mpr hn3
    obtain ⟨k', k1, k2, ⟨k3, k4, k5, k6⟩, k7, k8⟩ := hj3.1.at hl0
    rw [gt0 hn3] at k7 k8
    rw [Nat.add_zero] at k7
    have tk : (Int32.ofNat k').toNatClampNeg = k' := oN_tnc (by omega)
    have ek : mI M3 411 0 (mI M3 11 0 43).toNatClampNeg = Int32.ofNat (hd t2.tail).1 := by rw [k1, tk]; exact k7.1
    have vk : vp_in (mI M3 11 0 43) 6002 := by rw [k1]; exact (vp_oN (by omega)).mpr (by omega)
    -- a name
    have j751 : (¬ ((hd t2.tail).1 = 3 ∧ (hd t2.tail).2.1 = nMake)) → w_Model_codeLine_j751 0 Q X (Int32.ofNat n) (Int32.ofNat o) (nc A k) M3 := by
      intro hno
      unfold w_Model_codeLine_j751
      refine hj3.name hx hz hn3 (fun m t4 M4 a4 b4 hn4 hj4 => ?_) (fun e M' a4 b4 hj4 => ?_)
      · obtain ⟨q1, q2⟩ := pName_tail a4
        have q3 : (hd t2.tail).2.1 = m := by
          unfold pName at a4; rw [if_pos q2] at a4; exact (Prod.mk.inj (Sum.inr.inj a4)).1
        simp only [q2, true_or, if_true, q3, ← q1] at hp
        refine j757 m t4 M4 b4 hn4 hj4 ?_
        rw [hp]; cases pSig t4 <;> rfl
      · unfold pName at a4
        by_cases q2 : (hd t2.tail).1 = 2
        · rw [if_pos q2] at a4; cases a4
        · rw [if_neg q2] at a4
          have e0 : ¬ ((hd t2.tail).1 = 2 ∨ (true = true ∧ (hd t2.tail).1 = 3 ∧ (hd t2.tail).2.1 = nMake)) := fun q => q.elim q2 (fun q => hno q.2)
          rw [if_neg e0] at hp
          exact E e M' (by rw [hp, Sum.inl.inj a4]) b4 hj4
    rw [k4, k5, ek]
    refine ⟨vk, ?_⟩
    have hmk := hj3.1.1.2.1 (6, nMake) (by simp [kF])
    by_cases c3 : (hd t2.tail).1 = 3
    · refine itp (by rw [c3]; rfl) ⟨vk, ?_⟩
      have hv := k7.2.2.1 (Or.inr c3)
      have e107 : mI M3 107 0 (mI M3 11 0 43).toNatClampNeg = nc A (hd t2.tail).2.1 := by rw [k1, tk]; exact hv.1
      rw [e107, hmk.1]
      have hAl := hj3.1.1.2.2.1
      by_cases cm : (hd t2.tail).2.1 = nMake
      · refine itp (by rw [cm]) ⟨_, rfl, ?_⟩
        have fr4 : Fr (17389053285336317351878766778946691247926315637433987075884339777880653544094723917497633246098469356064467316082920052339526209205733843653638669902010930385949833498519558291612183209877345334721187468785395836462447016175738653219365616526169355422362022073520194443491340543649827011081791104273022211507760511819591395146491680113786491784146359021958493496126338281653387684097045395696473328773557372182515739487102426063214317132305268844321266765688898833232275971716324287705144232512156053419943308695266159775854512115681890789558400281675948065540754596760574171857608728799031332671444279929441992504835451725495377632091591414252850109970946771223437807481207361788192449115581535321167734412726568607199341903406613506712074662242342321745994792379802244019458599889347574237235304974906399408040330771840424131500216443067063826980777549485244368600222849212629386052754199887344981513785643319350775236522874608073632419213605020338439358619295359869499998208) M3 (sI M3 11 0 43 (mI M3 11 0 43 + 1)) := Fr.wI rfl (Fr.rf _ _)
        have hj4 := hj3.fr hx fr4 (hj3.1.next hn3)
        have e6 : mI (sI M3 11 0 43 (mI M3 11 0 43 + 1)) 11 0 6 = nc A nMake := by simp only [mI_sI, mI_sR, mI_sJ, mR_sI, mL_sI, mL_sR, mR_sR, Nat.reduceEqDiff, and_false, false_and, if_false, and_self, true_and, and_true, if_true]; exact hmk.1
        rw [e6]
        have e0 : (hd t2.tail).1 = 2 ∨ (true = true ∧ (hd t2.tail).1 = 3 ∧ (hd t2.tail).2.1 = nMake) := Or.inr ⟨rfl, c3, cm⟩
        rw [if_pos e0, if_pos rfl, cm] at hp
        refine j757 nMake t2.tail.tail _ hmk.2 (tl_ne hj3.1 hz hn3 (by omega)) hj4 ?_
        rw [hp]; cases pSig t2.tail.tail <;> rfl
      · exact itn (fun q => cm ((nc_inj (by omega) hv.2 hmk.2).mp q)) (j751 (fun q => cm q.2))
    · exact itn (ne_oN (b := 3) c3 (by omega) (by omega)) (j751 (fun q => c3 q.1))
  by_cases c1 : o = 1
  · subst c1; exact itp rfl (sB i32min i32max (fun _ => rfl) (by decide) (by decide) (by decide) (by decide) (by decide))
  refine itn (ne_oN (b := 1) c1 (by omega) (by omega)) ?_
  by_cases c2 : o = 2
  · subst c2; exact itp rfl (sN (fun _ => rfl) (by decide) (by decide) (by decide) (by decide) (by decide))
  refine itn (ne_oN (b := 2) c2 (by omega) (by omega)) ?_
  by_cases c3 : o = 3
  · subst c3; exact itp rfl (sB 0 19 (fun _ => rfl) (by decide) (by decide) (by decide) (by decide) (by decide))
  refine itn (ne_oN (b := 3) c3 (by omega) (by omega)) ?_
  by_cases c4 : o = 4
  · subst c4; exact itp rfl (sB 0 19 (fun _ => rfl) (by decide) (by decide) (by decide) (by decide) (by decide))
  refine itn (ne_oN (b := 4) c4 (by omega) (by omega)) ?_
  by_cases c5 : o = 5
  · subst c5; exact itp rfl (sB 0 19 (fun _ => rfl) (by decide) (by decide) (by decide) (by decide) (by decide))
  refine itn (ne_oN (b := 5) c5 (by omega) (by omega)) ?_
  by_cases c6 : o = 6
  · subst c6; exact itp rfl (sB 0 19 (fun _ => rfl) (by decide) (by decide) (by decide) (by decide) (by decide))
  refine itn (ne_oN (b := 6) c6 (by omega) (by omega)) ?_
  by_cases c7 : o = 7
  · subst c7; exact itp rfl (sI' (fun _ => rfl) (by decide) (by decide) (by decide) (by decide) (by decide))
  refine itn (ne_oN (b := 7) c7 (by omega) (by omega)) ?_
  by_cases c8 : o = 8
  · subst c8; exact itp rfl (sN (fun _ => rfl) (by decide) (by decide) (by decide) (by decide) (by decide))
  refine itn (ne_oN (b := 8) c8 (by omega) (by omega)) ?_
  by_cases c9 : o = 9
  · subst c9; exact itp rfl (sN (fun _ => rfl) (by decide) (by decide) (by decide) (by decide) (by decide))
  refine itn (ne_oN (b := 9) c9 (by omega) (by omega)) ?_
  by_cases c10 : o = 10
  · subst c10; exact itp rfl (sN (fun _ => rfl) (by decide) (by decide) (by decide) (by decide) (by decide))
  refine itn (ne_oN (b := 10) c10 (by omega) (by omega)) ?_
  by_cases c11 : o = 11
  · subst c11; exact itp rfl (sN (fun _ => rfl) (by decide) (by decide) (by decide) (by decide) (by decide))
  refine itn (ne_oN (b := 11) c11 (by omega) (by omega)) ?_
  by_cases c12 : o = 12
  · subst c12; exact itp rfl (sN (fun _ => rfl) (by decide) (by decide) (by decide) (by decide) (by decide))
  refine itn (ne_oN (b := 12) c12 (by omega) (by omega)) ?_
  by_cases c13 : o = 13
  · subst c13; exact itp rfl (sN (fun _ => rfl) (by decide) (by decide) (by decide) (by decide) (by decide))
  refine itn (ne_oN (b := 13) c13 (by omega) (by omega)) ?_
  by_cases c14 : o = 14
  · subst c14; exact itp rfl (sN (fun _ => rfl) (by decide) (by decide) (by decide) (by decide) (by decide))
  refine itn (ne_oN (b := 14) c14 (by omega) (by omega)) ?_
  by_cases c15 : o = 15
  · subst c15; exact itp rfl (sN (fun _ => rfl) (by decide) (by decide) (by decide) (by decide) (by decide))
  refine itn (ne_oN (b := 15) c15 (by omega) (by omega)) ?_
  by_cases c16 : o = 16
  · subst c16; exact itp rfl (sN (fun _ => rfl) (by decide) (by decide) (by decide) (by decide) (by decide))
  refine itn (ne_oN (b := 16) c16 (by omega) (by omega)) ?_
  by_cases c17 : o = 17
  · subst c17; exact itp rfl (sN (fun _ => rfl) (by decide) (by decide) (by decide) (by decide) (by decide))
  refine itn (ne_oN (b := 17) c17 (by omega) (by omega)) ?_
  by_cases c18 : o = 18
  · subst c18; exact itp rfl (sN (fun _ => rfl) (by decide) (by decide) (by decide) (by decide) (by decide))
  refine itn (ne_oN (b := 18) c18 (by omega) (by omega)) ?_
  by_cases c19 : o = 19
  · subst c19; exact itp rfl (sN (fun _ => rfl) (by decide) (by decide) (by decide) (by decide) (by decide))
  refine itn (ne_oN (b := 19) c19 (by omega) (by omega)) ?_
  by_cases c20 : o = 20
  · subst c20; exact itp rfl (sN (fun _ => rfl) (by decide) (by decide) (by decide) (by decide) (by decide))
  refine itn (ne_oN (b := 20) c20 (by omega) (by omega)) ?_
  by_cases c21 : o = 21
  · subst c21; exact itp rfl (sN (fun _ => rfl) (by decide) (by decide) (by decide) (by decide) (by decide))
  refine itn (ne_oN (b := 21) c21 (by omega) (by omega)) ?_
  by_cases c22 : o = 22
  · subst c22; exact itp rfl (sN (fun _ => rfl) (by decide) (by decide) (by decide) (by decide) (by decide))
  refine itn (ne_oN (b := 22) c22 (by omega) (by omega)) ?_
  by_cases c23 : o = 23
  · subst c23; exact itp rfl (sD (fun _ => rfl) (by decide) (by decide) (by decide) (by decide) (by decide))
  refine itn (ne_oN (b := 23) c23 (by omega) (by omega)) ?_
  by_cases c24 : o = 24
  · subst c24; exact itp rfl (sD (fun _ => rfl) (by decide) (by decide) (by decide) (by decide) (by decide))
  refine itn (ne_oN (b := 24) c24 (by omega) (by omega)) ?_
  by_cases c25 : o = 25
  · subst c25; exact itp rfl (sD (fun _ => rfl) (by decide) (by decide) (by decide) (by decide) (by decide))
  refine itn (ne_oN (b := 25) c25 (by omega) (by omega)) ?_
  by_cases c26 : o = 26
  · subst c26; exact itp rfl (sD (fun _ => rfl) (by decide) (by decide) (by decide) (by decide) (by decide))
  refine itn (ne_oN (b := 26) c26 (by omega) (by omega)) ?_
  by_cases c27 : o = 27
  · subst c27; exact itp rfl (sD (fun _ => rfl) (by decide) (by decide) (by decide) (by decide) (by decide))
  refine itn (ne_oN (b := 27) c27 (by omega) (by omega)) ?_
  by_cases c28 : o = 28
  · subst c28; exact itp rfl (sD (fun _ => rfl) (by decide) (by decide) (by decide) (by decide) (by decide))
  refine itn (ne_oN (b := 28) c28 (by omega) (by omega)) ?_
  by_cases c29 : o = 29
  · subst c29; exact itp rfl (sD (fun _ => rfl) (by decide) (by decide) (by decide) (by decide) (by decide))
  refine itn (ne_oN (b := 29) c29 (by omega) (by omega)) ?_
  by_cases c30 : o = 30
  · subst c30; exact itp rfl (sD (fun _ => rfl) (by decide) (by decide) (by decide) (by decide) (by decide))
  refine itn (ne_oN (b := 30) c30 (by omega) (by omega)) ?_
  by_cases c31 : o = 31
  · subst c31; exact itp rfl (sD (fun _ => rfl) (by decide) (by decide) (by decide) (by decide) (by decide))
  refine itn (ne_oN (b := 31) c31 (by omega) (by omega)) ?_
  by_cases c32 : o = 32
  · subst c32; exact itp rfl (sD (fun _ => rfl) (by decide) (by decide) (by decide) (by decide) (by decide))
  refine itn (ne_oN (b := 32) c32 (by omega) (by omega)) ?_
  by_cases c33 : o = 33
  · subst c33; exact itp rfl (sD (fun _ => rfl) (by decide) (by decide) (by decide) (by decide) (by decide))
  refine itn (ne_oN (b := 33) c33 (by omega) (by omega)) ?_
  by_cases c34 : o = 34
  · subst c34; exact itp rfl (sD (fun _ => rfl) (by decide) (by decide) (by decide) (by decide) (by decide))
  refine itn (ne_oN (b := 34) c34 (by omega) (by omega)) ?_
  by_cases c35 : o = 35
  · subst c35; exact itp rfl (sD (fun _ => rfl) (by decide) (by decide) (by decide) (by decide) (by decide))
  refine itn (ne_oN (b := 35) c35 (by omega) (by omega)) ?_
  by_cases c36 : o = 36
  · subst c36; exact itp rfl (sD (fun _ => rfl) (by decide) (by decide) (by decide) (by decide) (by decide))
  refine itn (ne_oN (b := 36) c36 (by omega) (by omega)) ?_
  by_cases c37 : o = 37
  · subst c37; exact itp rfl (sD (fun _ => rfl) (by decide) (by decide) (by decide) (by decide) (by decide))
  refine itn (ne_oN (b := 37) c37 (by omega) (by omega)) ?_
  by_cases c38 : o = 38
  · subst c38; exact itp rfl (sD (fun _ => rfl) (by decide) (by decide) (by decide) (by decide) (by decide))
  refine itn (ne_oN (b := 38) c38 (by omega) (by omega)) ?_
  by_cases c39 : o = 39
  · subst c39; exact itp rfl (sD (fun _ => rfl) (by decide) (by decide) (by decide) (by decide) (by decide))
  refine itn (ne_oN (b := 39) c39 (by omega) (by omega)) ?_
  by_cases c40 : o = 40
  · subst c40; exact itp rfl (sP (fun _ => rfl) rfl)
  refine itn (ne_oN (b := 40) c40 (by omega) (by omega)) ?_
  by_cases c41 : o = 41
  · subst c41; exact itp rfl (sC' (fun _ => rfl) (by decide) (by decide) (by decide) (by decide) (by decide))
  refine itn (ne_oN (b := 41) c41 (by omega) (by omega)) ?_
  by_cases c42 : o = 42
  · subst c42; exact itp rfl (sN (fun _ => rfl) (by decide) (by decide) (by decide) (by decide) (by decide))
  refine itn (ne_oN (b := 42) c42 (by omega) (by omega)) ?_
  by_cases c43 : o = 43
  · subst c43; exact itp rfl (sN (fun _ => rfl) (by decide) (by decide) (by decide) (by decide) (by decide))
  refine itn (ne_oN (b := 43) c43 (by omega) (by omega)) ?_
  by_cases c44 : o = 44
  · subst c44; exact itp rfl (sN (fun _ => rfl) (by decide) (by decide) (by decide) (by decide) (by decide))
  refine itn (ne_oN (b := 44) c44 (by omega) (by omega)) ?_
  by_cases c45 : o = 45
  · subst c45; exact itp rfl (sN (fun _ => rfl) (by decide) (by decide) (by decide) (by decide) (by decide))
  refine itn (ne_oN (b := 45) c45 (by omega) (by omega)) ?_
  by_cases c46 : o = 46
  · subst c46; exact itp rfl (sF' (fun _ => rfl) (by decide) (by decide) (by decide) (by decide) (by decide))
  refine itn (ne_oN (b := 46) c46 (by omega) (by omega)) ?_
  by_cases c47 : o = 47
  · subst c47; exact itp rfl (sF' (fun _ => rfl) (by decide) (by decide) (by decide) (by decide) (by decide))
  refine itn (ne_oN (b := 47) c47 (by omega) (by omega)) ?_
  by_cases c48 : o = 48
  · subst c48; exact itp rfl (sF' (fun _ => rfl) (by decide) (by decide) (by decide) (by decide) (by decide))
  refine itn (ne_oN (b := 48) c48 (by omega) (by omega)) ?_
  by_cases c49 : o = 49
  · subst c49; exact itp rfl (sF' (fun _ => rfl) (by decide) (by decide) (by decide) (by decide) (by decide))
  refine itn (ne_oN (b := 49) c49 (by omega) (by omega)) ?_
  by_cases c50 : o = 50
  · subst c50; exact itp rfl (sM (fun _ => rfl) (by decide) (by decide) (by decide) (by decide) (by decide))
  refine itn (ne_oN (b := 50) c50 (by omega) (by omega)) ?_
  by_cases c51 : o = 51
  · subst c51; exact itp rfl (sM (fun _ => rfl) (by decide) (by decide) (by decide) (by decide) (by decide))
  refine itn (ne_oN (b := 51) c51 (by omega) (by omega)) ?_
  by_cases c52 : o = 52
  · subst c52; exact itp rfl (sM (fun _ => rfl) (by decide) (by decide) (by decide) (by decide) (by decide))
  refine itn (ne_oN (b := 52) c52 (by omega) (by omega)) ?_
  by_cases c53 : o = 53
  · subst c53; exact itp rfl (sM (fun _ => rfl) (by decide) (by decide) (by decide) (by decide) (by decide))
  refine itn (ne_oN (b := 53) c53 (by omega) (by omega)) ?_
  by_cases c54 : o = 54
  · subst c54; exact itp rfl (sC' (fun _ => rfl) (by decide) (by decide) (by decide) (by decide) (by decide))
  refine itn (ne_oN (b := 54) c54 (by omega) (by omega)) ?_
  by_cases c55 : o = 55
  · subst c55; exact itp rfl (sC' (fun _ => rfl) (by decide) (by decide) (by decide) (by decide) (by decide))
  refine itn (ne_oN (b := 55) c55 (by omega) (by omega)) ?_
  have ho7 : o = 0 ∨ o = 56 ∨ o = 57 ∨ o = 58 ∨ o = 59 ∨ o = 60 ∨ o = 61 := by omega
  rcases ho7 with e | e | e | e | e | e | e <;> subst e <;> exact sN (fun _ => rfl) (by decide) (by decide) (by decide) (by decide) (by decide)
