/-! B: a line of code in the twin -/
theorem pLabels_len : ∀ (d : Nat) (acc : List Nm) (ts : List Tok) {ls : List Nm} {t : List Tok}, pLabels d acc ts = (ls, t) → ls.length ≤ acc.length + ts.length
  | 0, acc, ts, ls, t, h => by
    have : (acc, ts) = (ls, t) := h
    cases this; omega
  | d + 1, acc, ts, ls, t, h => by
    rw [show pLabels (d + 1) acc ts = if (hd ts).1 = 2 ∧ (hd ts.tail).1 = 58 then pLabels d (acc ++ [(hd ts).2.1]) ts.tail.tail else (acc, ts) from rfl] at h
    by_cases c : (hd ts).1 = 2 ∧ (hd ts.tail).1 = 58
    · rw [if_pos c] at h
      have := pLabels_len d _ _ h
      rw [List.length_append, List.length_singleton] at this
      have h1 : ts ≠ [] := fun q => by rw [q] at c; exact absurd c.1 (by decide)
      have h2 : 0 < ts.length := List.length_pos_iff.mpr h1
      rw [List.length_tail, List.length_tail] at this
      omega
    · rw [if_neg c] at h
      cases h; omega
/-- bounds on what grows, R words to come -/
def Bd (K : Nat × Nat × Nat × Nat) (R nq nl nf nk : Nat) (NL : List Nine) (p : PM) : Prop := nq + R ≤ K.1 ∧ nl + R ≤ K.2.1 ∧ nf + R ≤ K.2.2.1 ∧ nk + 2 * R ≤ K.2.2.2 ∧ NL.length + 2 * R ≤ 3800 ∧ p.2.2.2.1.length + R ≤ 3800
def Kk (K : Nat × Nat × Nat × Nat) : Prop := K.1 ≤ 3800 ∧ K.2.1 ≤ 3800 ∧ K.2.2.1 ≤ 3800 ∧ K.2.2.2 ≤ 3800
/-- a line of code that ends no method -/
def kcL (W : List Cls) (p : PM) (l : List Tok) : (Nat × Nat) ⊕ PSt :=
  if isWd nFrame l && decide ((hd l.tail).1 ≠ 58) then (if p.2.2.2.2.isSome then .inl (er l) else match pFrame l.tail with
    | .inl e => .inl e
    | .inr ((ls, ss), _) => .inr (3, W, p.1, p.2.1, p.2.2.1, p.2.2.2.1, some (ls, ss, (hd l).2.2.2)))
  else if isWd nHandler l && decide ((hd l.tail).1 ≠ 58) then (match pHandler l.tail with
    | .inl e => .inl e
    | .inr ((a, b, g, k), _) => if p.2.2.1.length = 8 then .inl (12, (hd l).2.2.2) else .inr (3, W, p.1, p.2.1, p.2.2.1 ++ [(a, b, g, k, (hd l).2.2.2)], p.2.2.2.1, p.2.2.2.2))
  else iLine W p l
theorem kLine_kcL {br : Int32} {W : List Cls} {p : PM} {l : List Tok} (h : ((isWd nField l || (isWd nMethod l || isWd nEnd l)) && decide ((hd l.tail).1 ≠ 58)) = false) : kLine br W p l = kcL W p l := by
  unfold kLine kcL
  rw [if_neg (by rw [h]; decide)]
  cases pFrame l.tail <;> cases pHandler l.tail <;> rfl
/-- the second word's kind -/
theorem TQ.second {A : List Nm} {L : List Tok} {M : Mem} (h : TQ A L L M) (h2 : L.tail ≠ []) : vp_in (1 : Int32) (mL M 411 0) ∧ mI M 411 0 (1 : Int32).toNatClampNeg = Int32.ofNat (hd L.tail).1 ∧ (hd L.tail).1 < 100 := by
  have hl : 1 < L.length := by
    have := List.length_pos_iff.mpr h2
    rw [List.length_tail] at this; omega
  obtain ⟨k, e1, e2, ⟨e3, e4, -⟩, e5, e6⟩ := h.at (j := 1) hl
  have hk : k = 0 := by omega
  subst hk
  have eg : gt L 1 = hd L.tail := by
    cases L with
    | nil => exact absurd hl (by simp)
    | cons a l => cases l with
      | nil => exact absurd hl (by simp)
      | cons b l => rfl
  rw [eg] at e5 e6
  refine ⟨by rw [e4]; exact (vp_oN (a := 1) (by omega)).mpr (by omega), ?_, e6⟩
  exact e5.1
theorem ct_codeLine {G : List Sl} {US : UST} {A : List Nm} {S : List Sg} {W : List Cls} {w c R : Nat} {br : Int32} {q0 nl0 nq nl nf nk : Nat} {p : PM} {NL : List Nine} {z : Nat × Nat × Nat × Nat × Nat × Nat} {K : Nat × Nat × Nat × Nat} {L : List Tok} {M0 M : Mem} {Q X : Mem → Prop} (h : JM G US A S W w c br q0 nl0 nq nl nf nk p NL z L L M0 M) (hx : Gx G w) (hB : AT0 <+: A) (hc : c < W.length) (hz : lz L) (h2 : L.tail ≠ []) (hUL : UL US L) (hLl : L.length ≤ 1500) (h99 : z.2.2.2.2.2 = 99) (hq : nq = q0 + p.2.1.length) (hnl0 : nl = nl0 + pkS p.2.1) (hK : Kk K) (hBd : Bd K (L.length + R) nq nl nf nk NL p) (hzb : z.2.1 ≤ nq ∧ z.2.2.1 ≤ nl ∧ z.2.2.2.1 ≤ nf ∧ z.2.2.2.2.1 ≤ nk) (hzc : z.1 ≤ c) (hm12 : (gc W c).2.2.2.2.2.length < 12) (hN : NLk p NL) (hle : ∀ x ∈ NL, x.2.2.2.1 ≤ (hd L).2.2.2)
    (hX : ∀ e M', kcL W p L = .inl e → ThT e M' → JE G US A w z M0 M' → X M')
    (hQ0 : ∀ M', kcL W p L = .inl (12, (hd L).2.2.2) → JE G US A w z M0 M' → PLc L M' → mI M' 11 0 51 = Int32.ofNat 12 → Q M')
    (hQ : ∀ p' S' nq' nl' nf' nk' NL' t M', kcL W p L = .inr (3, W, p') → JM G US A S' W w c br q0 nl0 nq' nl' nf' nk' p' NL' z L t M0 M' → NLk p' NL' → nq' = q0 + p'.2.1.length → nl' = nl0 + pkS p'.2.1 → (∀ x ∈ NL', x.2.2.2.1 ≤ (hd L).2.2.2) → Bd K R nq' nl' nf' nk' NL' p' → nf ≤ nf' → nk ≤ nk' → Q M') : w_Model_codeLine 0 Q X M := by
  have hL : L ≠ [] := by obtain ⟨i, z, e, -⟩ := hz; rw [e]; simp
  obtain ⟨b1, b2', b3, b4, b5, b6⟩ := hBd
  obtain ⟨k1, k2, k3, k4⟩ := hK
  have hLp : 0 < L.length := List.length_pos_iff.mpr hL
  have j54 : ∀ M1, (isWd nFrame L && decide ((hd L.tail).1 ≠ 58)) = false → (isWd nHandler L && decide ((hd L.tail).1 ≠ 58)) = false → JM G US A S W w c br q0 nl0 nq nl nf nk p NL z L L M0 M1 → w_Model_codeLine_j54 0 Q X M1 := by
    intro M1 c1 c2 h1
    have ek : kcL W p L = iLine W p L := by unfold kcL; rw [if_neg (by rw [c1]; decide), if_neg (by rw [c2]; decide)]
    rw [ek] at hX hQ0 hQ
    refine ct_iLine h1 hx hB hc hz hUL hLl h99 hq (by omega) (by omega) (by omega) hnl0 (by omega) hzb hzc hm12 hX (fun t M' a b d e => hQ0 M' a b (d.pl hL) e) (fun ls t1 t M' a b d e => ?_) (fun ls t1 o x S' nl' t M' a _ b d _ e f => ?_)
    · have hll := pLabels_len _ _ _ a
      have hdl := dnL_len ls p.2.2.2.1 p.2.1.length (hd L).2.2.2
      refine hQ _ _ _ _ _ _ _ t M' d e (hN.labels hle ls) hq hnl0 (fun x hx' => ?_) ⟨by omega, by omega, by omega, by omega, ?_, ?_⟩ (Nat.le_refl _) (Nat.le_refl _)
      · rcases List.mem_append.mp hx' with q | q
        · exact hle x q
        · rw [dnL_mem _ _ _ _ x q]; exact Nat.le_refl _
      · rw [List.length_append]; simp at hll; omega
      · show (p.2.2.2.1 ++ _).length + R ≤ 3800
        rw [List.length_append, List.length_map]; simp at hll; omega
    · have hll := pLabels_len _ _ _ a
      have hdl := dnL_len ls p.2.2.2.1 p.2.1.length (hd L).2.2.2
      have hle2 : ∀ y ∈ NL ++ dnL p.2.2.2.1 p.2.1.length (hd L).2.2.2 ls, y.2.2.2.1 ≤ (hd L).2.2.2 := fun y hx' => by
        rcases List.mem_append.mp hx' with q | q
        · exact hle y q
        · rw [dnL_mem _ _ _ _ y q]; exact Nat.le_refl _
      have hxi : nl' ≤ nl + L.length := by rw [b]; split <;> omega
      refine hQ _ _ _ _ _ _ _ t M' e f ((hN.labels hle ls).ins hle2 rfl) ?_ ?_ (fun y hy => ?_) ⟨by omega, by omega, by omega, by omega, ?_, ?_⟩ (Nat.le_refl _) (Nat.le_refl _)
      · show nq + 1 = q0 + (p.2.1 ++ [_]).length
        rw [List.length_append, List.length_singleton]; omega
      · show nl' = nl0 + pkS (p.2.1 ++ [_])
        rw [pkS_app, b, hnl0]
        show _ = nl0 + (pkS p.2.1 + (if o = 40 then x.2.2.1.length else 0))
        omega
      · rcases List.mem_append.mp hy with q | q
        · exact hle2 y q
        · obtain ⟨nm, -, e⟩ := List.mem_map.mp q
          rw [← e]; exact Nat.le_refl _
      · rw [List.length_append, List.length_append, List.length_map]; simp at hll; omega
      · show (p.2.2.2.1 ++ _).length + R ≤ 3800
        rw [List.length_append, List.length_map]; simp at hll; omega
  have j27 : ∀ M1, (isWd nFrame L && decide ((hd L.tail).1 ≠ 58)) = false → JM G US A S W w c br q0 nl0 nq nl nf nk p NL z L L M0 M1 → w_Model_codeLine_j27 0 Q X M1 := by
    intro M1 c1 h1
    obtain ⟨v1, e1, l1⟩ := h1.1.second h2
    unfold w_Model_codeLine_j27
    refine ⟨v1, ?_⟩
    rw [e1]
    by_cases c58 : (hd L.tail).1 = 58
    · exact itp (by rw [c58]; rfl) (j54 M1 c1 (by rw [c58]; simp) h1)
    · refine itn (ne_oN (b := 58) c58 (by omega) (by omega)) ?_
      have k18 := h1.1.1.2.1 (18, nHandler) (by simp [kF])
      simp only [] at k18
      rw [k18.1]
      refine h1.takes hx hz hL k18.2 (fun M2 ch n2 h3 => itn (by decide) ?_) (fun M2 ch h3 => itp rfl (j54 M2 c1 (by rw [ch]; rfl) h3))
      have ek : kcL W p L = (match pHandler L.tail with
          | .inl e => .inl e
          | .inr ((a, b, g, k), _) => if p.2.2.1.length = 8 then .inl (12, (hd L).2.2.2) else .inr (3, W, p.1, p.2.1, p.2.2.1 ++ [(a, b, g, k, (hd L).2.2.2)], p.2.2.2.1, p.2.2.2.2)) := by
        unfold kcL; rw [if_neg (by rw [c1]; decide), if_pos (by rw [ch, decide_eq_true c58]; rfl)]
      have hpt : ∀ a b g k t, pHandler L.tail = .inr ((a, b, g, k), t) → 3 ≤ L.length := fun a b g k t q => by
        unfold pHandler at q
        cases e1 : pName L.tail with
        | inl e => rw [e1] at q; cases q
        | inr y =>
          rw [e1] at q
          dsimp only at q
          cases e2 : pName y.2 with
          | inl e => rw [e2] at q; cases q
          | inr y2 =>
            have n2 : y.2 ≠ [] := fun q => by rw [q] at e2; cases e2
            rw [(pName_tail e1).1] at n2
            have := List.length_pos_iff.mpr n2
            rw [List.length_tail, List.length_tail] at this
            omega
      refine ct_handlerLine h3 hx hc hm12 hz n2 hLl h99 hzc (by omega) (fun e M' a b d => hX e M' (by rw [ek, a]) b d) (fun a b g k t t' M' e f i j l => hQ0 M' (by rw [ek, e]; dsimp only; rw [if_pos f]) i (j.pl hL) l) (fun a b g k t t' M' e f i => ?_)
      have h3' := hpt _ _ _ _ _ e
      refine hQ _ _ _ _ _ _ _ t' M' (by rw [ek, e]; dsimp only; rw [if_neg f]) i (hN.hand hle) hq hnl0 (fun x hx' => ?_) ⟨by omega, by omega, by omega, by omega, ?_, by show p.2.2.2.1.length + R ≤ 3800; omega⟩ (Nat.le_refl _) (Nat.le_refl _)
      · simp only [List.mem_append, List.mem_singleton] at hx'
        rcases hx' with ((q | q) | q) | q
        · exact hle x q
        · rw [q]; exact Nat.le_refl _
        · rw [q]; exact Nat.le_refl _
        · rw [q]; exact Nat.le_refl _
      · simp only [List.length_append, List.length_singleton]; omega
  obtain ⟨v1, e1, l1⟩ := h.1.second h2
  unfold w_Model_codeLine
  refine ⟨v1, ?_⟩
  rw [e1]
  by_cases c58 : (hd L.tail).1 = 58
  · exact itp (by rw [c58]; rfl) (j27 M (by rw [c58]; simp) h)
  · refine itn (ne_oN (b := 58) c58 (by omega) (by omega)) ?_
    have k17 := h.1.1.2.1 (17, nFrame) (by simp [kF])
    simp only [] at k17
    rw [k17.1]
    refine h.takes hx hz hL k17.2 (fun M2 ch n2 h3 => itn (by decide) ?_) (fun M2 ch h3 => itp rfl (j27 M2 (by rw [ch]; rfl) h3))
    have ek : kcL W p L = (if p.2.2.2.2.isSome then .inl (er L) else match pFrame L.tail with
        | .inl e => .inl e
        | .inr ((ls, ss), _) => .inr (3, W, p.1, p.2.1, p.2.2.1, p.2.2.2.1, some (ls, ss, (hd L).2.2.2))) := by
      unfold kcL; rw [if_pos (by rw [ch, decide_eq_true c58]; rfl)]
    refine ct_frameLine h3 hx hc hm12 hz n2 hLl hq (by omega) (by omega) (by omega) hzb (fun M' a b d => hX _ M' (by rw [ek, if_pos a]) b d) (fun e M' a b d f => hX e M' (by rw [ek, a, b]; rfl) d f) (fun ls ss t t' M' a b d e => ?_)
    refine hQ _ _ _ _ _ _ _ t' M' (by rw [ek, a, b]; rfl) e (hN.frame hle a) hq hnl0 (fun x hx' => ?_) ⟨by omega, by omega, by omega, by omega, ?_, by show p.2.2.2.1.length + R ≤ 3800; omega⟩ (by omega) (by omega)
    · rcases List.mem_append.mp hx' with q | q
      · exact hle x q
      · rw [List.mem_singleton] at q; rw [q]; exact Nat.le_refl _
    · rw [List.length_append, List.length_singleton]; omega
