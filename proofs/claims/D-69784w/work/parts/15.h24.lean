/-! THE MACHINE IN THE TWIN: fields are counted; what fails, what must start -/
section
variable {G : List Sl} {US : UST} {A : List Nm} {S : List Sg} {W : List Cls} {w c j a k t L q n m : Nat} {br x r v e : Int32} {bb : Bool} {nq nl nf nk B F op : Nat} {M M' : Mem} {s s' : Ms} {U V : List Un} {lo st lo' st' : List Vl} {o : Option Kd} {Q : Int32 → Mem → Prop} {i : Ins} {p : Nat × Nat} {lk : Nat → Int32}
theorem instF_one {l : List Fld} (h : k < l.length) : instF (l.take (k + 1)) = instF (l.take k) + (if (l.getD k ([], (0, []), 0, 0, false)).2.2.1 &&& 1 = 0 then 1 else 0) := by
  unfold instF
  rw [List.take_succ, List.filter_append, List.length_append, List.getD_eq_getElem?_getD, List.getElem?_eq_getElem h]
  congr 1
  show (List.filter _ [l[k]]).length = if l[k].2.2.1 &&& 1 = 0 then 1 else 0
  by_cases c1 : l[k].2.2.1 &&& 1 = 0
  · rw [if_pos c1, List.filter_cons_of_pos (by rw [decide_eq_true c1])]; rfl
  · rw [if_neg c1, List.filter_cons_of_neg (by rw [decide_eq_false c1]; decide)]; rfl
theorem ct_ownFields (h : TB G US A S W w br nq nl nf nk M) (hc : c < W.length) (hm : m ≤ (gc W c).2.2.2.2.1.length) (hQ : Q (Int32.ofNat (instF ((gc W c).2.2.2.2.1.take m))) M) : w_Model_ownFields 0 (Int32.ofNat c) (Int32.ofNat m) Q M := by
  have R5 := h.r45
  have h51 := h.l51
  obtain ⟨⟨-, -, l1, -⟩, hf⟩ := h.1.1.1.2.1
  obtain ⟨⟨-, h8⟩, hf⟩ := hf c hc
  have loop : ∀ d k, m - k < d → k ≤ m → w_Model_ownFields_L5 0 Q d (Int32.ofNat c) (Int32.ofNat m) (Int32.ofNat (instF ((gc W c).2.2.2.2.1.take k))) (Int32.ofNat k) M := by
    intro d
    induction d with
    | zero => intro k hd; exact absurd hd (by omega)
    | succ d ih =>
      intro k hd hk
      unfold w_Model_ownFields_L5
      by_cases ck : m ≤ k
      · have : k = m := by omega
        subst this
        exact itp ((oN_le (by omega) (by omega)).mpr (Nat.le_refl _)) hQ
      have hkl : k < (gc W c).2.2.2.2.1.length := by omega
      refine itn (fun z => by have := (oN_le (a := m) (b := k) (by omega) (by omega)).mp z; omega) ⟨w, R5, ?_⟩
      rw [show (8 : Int32) * Int32.ofNat c = Int32.ofNat (8 * c) from oN_mul 8 _, oN_add, oN_tnc (k := 8 * c + k) (by omega), (hf k hkl).2.2.1, l1]
      refine ⟨(vp_oN (by omega)).mpr (by omega), ?_⟩
      have e1 := instF_one hkl
      unfold w_Model_ownFields_j37
      rw [show Int32.ofNat k + (1 : Int32) = Int32.ofNat (k + 1) from oN_add k 1]
      by_cases cb : (gfl (gc W c) k).2.2.1 &&& 1 = 0
      · have e1 : instF ((gc W c).2.2.2.2.1.take (k + 1)) = instF ((gc W c).2.2.2.2.1.take k) + 1 := by rw [e1, if_pos cb]
        refine itp cb ?_
        rw [show ∀ y, Int32.ofNat y + (1 : Int32) = Int32.ofNat (y + 1) from fun y => oN_add y 1, ← e1]
        exact ih (k + 1) (by omega) (by omega)
      · have e1 : instF ((gc W c).2.2.2.2.1.take (k + 1)) = instF ((gc W c).2.2.2.2.1.take k) := by rw [e1, if_neg cb]; rfl
        refine itn cb ?_
        rw [show ∀ y, Int32.ofNat y + (0 : Int32) = Int32.ofNat y from fun y => oN_add y 0, ← e1]
        exact ih (k + 1) (by omega) (by omega)
  unfold w_Model_ownFields
  exact ⟨m + 1, loop (m + 1) 0 (by omega) (by omega)⟩
theorem osz_0 : osz W 0 = instF (gc W 0).2.2.2.2.1 := by
  show (match upW W 0 with | none => 0 | some p => oszN W 51 p) + instF (gc W 0).2.2.2.2.1 = _
  rw [show upW W 0 = none from by unfold upW; rw [if_pos rfl]]
  show 0 + _ = _
  omega
theorem mu_lt (h51 : W.length ≤ 51) : mu W c < 52 := by
  unfold mu
  split
  · omega
  · have : rk W c ≤ W.length := rk_le
    omega
theorem ct_fieldsOf (h : TB G US A S W w br nq nl nf nk M) (hI : LInv W lk) : ∀ d c v, mu W c < d → c < W.length → lk c = 1 → (∀ y : Nat, y = v + osz W c → Q (Int32.ofNat y) M) → w_Model_fieldsOf_L4 0 Q (d + 1) (Int32.ofNat v) (Int32.ofNat c) M := by
  have R5 := h.r45
  have h51 := h.l51
  intro d
  induction d with
  | zero => intro c v hd; exact absurd hd (by omega)
  | succ d ih =>
    intro c v hd hc hl hQ
    obtain ⟨⟨e135, h8⟩, -⟩ := h.1.1.1.2.1.2 c hc
    have l135 : mL M 135 w = 51 := h.1.1.1.1.2.2.2.1
    unfold w_Model_fieldsOf_L4
    refine itn (oN_nonneg (show c < 2147483648 by omega)) ⟨w, R5, ?_⟩
    rw [oN_tnc (k := c) (by omega), e135, l135]
    refine ⟨(vp_oN (by omega)).mpr (by omega), ct_ownFields h hc (Nat.le_refl _) (ct_parentOf R5 h.cl hc ?_)⟩
    rw [List.take_length, oN_add]
    by_cases c0 : c = 0
    · subst c0
      rw [show upW W 0 = none from by unfold upW; rw [if_pos rfl]]
      unfold w_Model_fieldsOf_L4
      exact itp (show (-2 : Int32) < 0 by decide) (hQ _ (by rw [osz_0]))
    · obtain ⟨e, eu, hel, le, hmu⟩ := hI.upm hc hl c0
      rw [eu]
      have h1 : osz W c = oszU W c + instF (gc W c).2.2.2.2.1 := osz_up hI eu hel (Or.inr le) (by have := mu_lt (c := c) h51; omega)
      have h2 : oszU W c = osz W e := by unfold oszU; rw [eu]
      exact ih e _ (by omega) hel le (fun y hy => hQ y (by omega))
/-- where a field lies -/
theorem ct_slotOf (h : TB G US A S W w br nq nl nf nk M) (hI : LInv W lk) (hc : p.1 < W.length) (hl : lk p.1 = 1) (hf : p.2 < (gc W p.1).2.2.2.2.1.length) (hQ : Q (Int32.ofNat (sltF W p)) M) : w_Model_slotOf 0 (Int32.ofNat (8 * p.1 + p.2)) Q M := by
  have h51 := h.l51
  obtain ⟨⟨-, h8⟩, -⟩ := h.1.1.1.2.1.2 p.1 hc
  have e8 : Int32.ofNat (8 * p.1 + p.2) / (8 : Int32) = Int32.ofNat p.1 := by rw [show (8 : Int32) = Int32.ofNat 8 from rfl, oN_div (by omega) (by omega)]; congr 1; omega
  have m8 : Int32.ofNat (8 * p.1 + p.2) - Int32.ofNat (8 * p.1 + p.2) / (8 : Int32) * (8 : Int32) = Int32.ofNat p.2 := by rw [show (8 : Int32) = Int32.ofNat 8 from rfl, oN_mod (by omega) (by omega)]; congr 1; omega
  have fin : ∀ v, v = oszU W p.1 → w_Model_slotOf_j24 0 Q (Int32.ofNat (8 * p.1 + p.2)) (Int32.ofNat p.1) (Int32.ofNat v) M := fun v hv => by
    unfold w_Model_slotOf_j24
    rw [m8]
    refine ⟨by decide, ct_ownFields h hc (by omega) ?_⟩
    rw [oN_add, hv]; exact hQ
  unfold w_Model_slotOf
  rw [e8]
  refine ⟨by decide, ct_parentOf h.r45 h.cl hc ?_⟩
  by_cases c0 : p.1 = 0
  · have e0 : upW W p.1 = none := by rw [c0]; unfold upW; rw [if_pos rfl]
    rw [e0]
    exact itp (show (-2 : Int32) < 0 by decide) (fin 0 (by unfold oszU; rw [e0]))
  · obtain ⟨e, eu, hel, le, hmu⟩ := hI.upm hc hl c0
    rw [eu]
    have h2 : oszU W p.1 = osz W e := by unfold oszU; rw [eu]
    refine itn (oN_nonneg (show e < 2147483648 by omega)) ?_
    unfold w_Model_fieldsOf
    exact ⟨53, ct_fieldsOf h hI 52 e 0 (mu_lt h51) hel le (fun y hy => fin y (by omega))⟩
/-- a fault that was told, at an instruction -/
theorem ct_throwsAt (hq : TQc W F s) (h : TM G US A S W w br nq nl nf nk B F x bb t s (gU s t) M) (hM : MO W s t none (gU s t)) (hon : lSt (zN s t) = 1) (ho : op < 62) (he : cdOk e ∧ e ≠ 0 ∧ e ≠ 1) (ht : tThr e M) (hQ : ∀ M', TM G US A S W w br nq nl nf nk B F x bb t (failC W t (tickS s t op) e) (gU (failC W t (tickS s t op) e) t) M' → Q 1 M') : w_Model_throwsAt 0 (Int32.ofNat op) (mI M 11 0 81) (mI M 11 0 80) Q M := by
  unfold w_Model_throwsAt
  refine ct_tally (op := op) h ho (fun M1 h1 k1 _ => ?_)
  rw [← k1 80 (Or.inl rfl), ← k1 81 (Or.inr rfl)]
  have hg : gU (tickS s t op) t = gU s t := tick_U
  have hMt : MO W (tickS s t op) t none (gU (tickS s t op) t) := by rw [hg]; exact hM.tick
  exact ct_throwC (Q := fun M' => Q 1 M') (s := tickS s t op) hq (by rw [hg]; exact h1) hMt (by rw [tick_N]; exact hon) he ⟨(k1 81 (Or.inr rfl)).trans ht.1, (k1 80 (Or.inl rfl)).trans ht.2⟩ hQ
/-- what an instruction does after it has asked for a class's start -/
noncomputable def mustR (W : List Cls) (t op : Nat) (d : Ms → Ms) (mr : Nat × Int32 × Ms) : Ms := match mr with
  | (0, _, s') => d (tickS s' t op)
  | (2, e, s') => failC W t (tickS s' t op) e
  | (_, _, s') => s'
theorem fail_K1 {e : Int32} : zK (failC W t (tickS s t op) e) = zK s + 1 := (KpM.fail (s := tickS s t op)).1.2
theorem do_K1 : zK (doS W t (tickS s t op) c j a lo st U i p) = zK s + 1 := (KpM.act (s := tickS s t op)).1.2
theorem ct_mustT {X : Mem → Prop} {d : Ms → Ms} (hq : TQc W F s) (h : TM G US A S W w br nq nl nf nk B F x bb t s (gU s t) M) (hM : MO W s t none (gU s t)) (hon : lSt (zN s t) = 1) (hw0 : lWt (zN s t) = none) (hk : k < W.length) (ho : op < 62)
    (h0 : (mustS br W t s k).2.2 = s → zC s k ≠ 0 → mustR W t op d (mustS br W t s k) = d (tickS s t op) → X M)
    (hQ : ∀ r M', (r = 0 ∧ zK (mustR W t op d (mustS br W t s k)) = zK s) ∨ (r = 1 ∧ zK (mustR W t op d (mustS br W t s k)) = zK s + 1) → TM G US A S W w br nq nl nf nk B F x bb t (mustR W t op d (mustS br W t s k)) (gU (mustR W t op d (mustS br W t s k)) t) M' → Q r M')
    (hQ2 : ∀ M', mustR W t op d (mustS br W t s k) = sWt s t (some (.inr k)) → TM G US A S W w br nq nl nf nk B F x bb t s (gU s t) M' → mI M' 13 (3 * w + t) 2 = wCd (.inr k) → Q 2 M') : w_Model_startOf 0 (Int32.ofNat k) (fun r9 M8 => if r9 = 0 then X M8 else (if r9 = (3 : Int32) then (w_Model_throwsAt 0 (Int32.ofNat op) (mI M8 11 0 81) (mI M8 11 0 80) (fun r25 M24 => Q r25 M24) M8) else (if r9 = (2 : Int32) then (Q (2 : Int32) M8) else (Q (0 : Int32) M8)))) M := by
  obtain ⟨m0, m2, m1, m3⟩ := mustS_ok (br := br) (k := k) hq.1 hM hon hk
  refine ct_startOf hq h hM hon hw0 hk (fun e0 => ?_) (fun M1 e1 h1 => ?_) (fun M1 e3 es h1 hc => ?_) (fun M1 e2 h1 ht => ?_)
  · obtain ⟨es, -, hz⟩ := m0 e0
    refine itp rfl (h0 es hz ?_)
    generalize mustS br W t s k = mr at e0 es ⊢
    obtain ⟨r0, e, s1⟩ := mr
    have e0 : r0 = 0 := e0
    have es : s1 = s := es
    subst e0; subst es; rfl
  · refine itn (by decide) (itn (by decide) (itn (by decide) (hQ 0 M1 (Or.inl ⟨rfl, ?_⟩) ?_)))
    · have mk : zK (mustS br W t s k).2.2 = zK s := must_K
      generalize mustS br W t s k = mr at e1 mk ⊢
      obtain ⟨r0, e, s1⟩ := mr
      have e1 : r0 = 1 := e1
      subst e1; exact mk
    · generalize mustS br W t s k = mr at e1 h1 ⊢
      obtain ⟨r0, e, s1⟩ := mr
      have e1 : r0 = 1 := e1
      subst e1; exact h1
  · refine itn (by decide) (itn (by decide) (itp rfl (hQ2 M1 ?_ h1 hc)))
    generalize mustS br W t s k = mr at e3 es ⊢
    obtain ⟨r0, e, s1⟩ := mr
    have e3 : r0 = 3 := e3
    subst e3; exact es
  · obtain ⟨he, hM2, hN, hF2⟩ := m2 e2
    refine itn (by decide) (itp rfl ?_)
    have eR : mustR W t op d (mustS br W t s k) = failC W t (tickS (mustS br W t s k).2.2 t op) (mustS br W t s k).2.1 := by
      generalize mustS br W t s k = mr at e2 ⊢
      obtain ⟨r0, e, s1⟩ := mr
      have e2 : r0 = 2 := e2
      subst e2; rfl
    rw [eR] at hQ
    have eg : gU (mustS br W t s k).2.2 t = gU s t := by show lU (zN _ t) = _; rw [hN]
    have hq2 : TQc W F (mustS br W t s k).2.2 := ⟨hq.1, hq.2.1, by rw [hF2]; exact hq.2.2⟩
    exact ct_throwsAt hq2 h1 (by rw [eg]; exact hM2) (by rw [hN]; exact hon) ho he ht (fun M' h' => hQ 1 M' (Or.inr ⟨rfl, fail_K1.trans (by rw [must_K])⟩) h')
end
