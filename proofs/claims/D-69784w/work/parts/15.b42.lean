theorem LoT.wcp {w c : Nat} {M M1 : Mem} {f i sp g dp n : Nat} (h : LoT w c M M1) (hk : tb c g ≤ dp) (h12 : Nat.beq g 12 = false := by rfl) : LoT w c M (cpI M1 f i sp g w dp n) :=
  h.trans ⟨fun x hx => ⟨fun i' k' e => by
    rw [mI_cpI]
    by_cases q : x = g ∧ i' = w
    · rw [if_pos q, q.1, q.2]
      rcases e with e | e
      · exact absurd q.2 e
      · rw [q.1] at e; rw [if_neg (by omega)]
    · rw [if_neg q], fun _ => rfl⟩, fun i' k' e _ => by
    rw [mI_cpI]
    exact if_neg (fun q => e q.2)⟩
/-- what a class's line has, flags and all -/
def pClass (ts : List Tok) : Rz (Int32 × Nm × Nm × List Nm) := match pFlags (flg nFinal nAbstract nFace none) (ts.length + 1) 0 ts with
  | (bits, t1) => match pClassT t1 with
    | .inl e => .inl e
    | .inr ((own, par, fs), t5) => .inr ((bits, own, par, fs), t5)
theorem pCls_mem {ts t2 : List Tok} {nm : Nm} (h : pCls ts = .inr (nm, t2)) : (hd ts).1 = 2 ∧ (hd ts).2.1 = nm := by
  unfold pCls at h
  split at h
  · rename_i c; exact ⟨c.1, (Prod.mk.inj (Sum.inr.inj h)).1⟩
  · cases h
/-- the class is laid, or a rule is broken -/
theorem ct_classEnd {G : List Sl} {A : List Nm} {W : List Cls} {w : Nat} {br bits : Int32} {L t : List Tok} {own par : Nm} {fs : List Nm} {l : Nat} {Q X : Mem → Prop} {M0 M : Mem} (hG : Ga G) (hs : sFr ∈ G) (ho : own ∈ A) (ho2 : own ≠ []) (hp : par ∈ A) (hp2 : par ≠ []) (hne : t ≠ []) (hl : l < 1000) (hfl : fs.length ≤ 5001)
    (hB : B1 G A W w br L t l fs M0 M) (h12 : lst l 12 (decide (4 < fs.length)) = 99 → W.length < 51)
    (hX : ∀ M', (hd t).1 ≠ 0 → ThT (er t) M' → Cx1 A W w br M' → GF G [sFr] M0 M' → LoT w W.length M0 M' → rl M' sFr ≤ 20000 → X M')
    (hQ0 : ∀ M', (hd t).1 = 0 → lst l 12 (decide (4 < fs.length)) < 99 → mI M' 11 0 51 = Int32.ofNat (lst l 12 (decide (4 < fs.length))) → Cx1 A W w br M' → GF G [sFr] M0 M' → LoT w W.length M0 M' → rl M' sFr ≤ 20000 → Q M')
    (hQ1 : ∀ M', (hd t).1 = 0 → lst l 12 (decide (4 < fs.length)) ≥ 99 → mI M' 11 0 51 = Int32.ofNat (lst l 12 (decide (4 < fs.length))) → Cx1 A (W ++ [(own, par, fs, bits, [], [])]) w br M' → (mI M' 135 w W.length = 0 ∧ mI M' 136 w W.length = 0 ∧ mI M' 137 w W.length = 0 ∧ mI M' 138 w W.length = 0) → mI M' 11 0 53 = Int32.ofNat W.length → mI M' 11 0 52 = 1 → GF G [sFr] M0 M' → LoT w W.length M0 M' → rl M' sFr ≤ 20000 → Q M') (h99 : l ≤ 99) :
    w_Model_classLine_j377 0 Q X bits (nc A own) (nc A par) (Int32.ofNat fs.length) (b2 (decide (4 < fs.length))) 12 M := by
  unfold w_Model_classLine_j377
  refine mf_w_Model_asks (Q := fun M' => B1 G A W w br L t (lst l 12 (decide (4 < fs.length))) fs M0 M') (fun M1 hf1 hB1 => ?_) (hB.asks (rule := 12) hG hl (by omega) (fun M' h => h))
  have hl1 : lst l 12 (decide (4 < fs.length)) < 1000 := lst_le hl (by omega)
  refine mf_w_Model_need (Q := fun M' => (hd t).1 = 0 ∧ TQ A L t.tail M') (X := fun M' => (hd t).1 ≠ 0 ∧ ThT (er t) M') (fun M2 hf2 hp2 => ?_) (fun M2 hf2 hp2 => hX M2 hp2.1 hp2.2 (hB1.1.2.1.fr hf2) (hB1.1.2.2.2.1.fr hf2 hG) (hB1.2.fr hf2) (hB1.rw hf2 hG hs)) (ct_need (b := 0) hB1.1.1 hne (by omega) (fun M' a b => ⟨a, b⟩) (fun M' a b => ⟨a, b⟩))
  obtain ⟨c0, q2⟩ := hp2
  have hB2 := hB1.step hG hs hf2 q2
  obtain ⟨⟨-, hC, h51, hF, r1, r2, r3, r4⟩, hlo⟩ := id hB2
  obtain ⟨hT, hw, hbr, hln⟩ := id hC
  have hll : ∀ f, 135 ≤ f → f ≤ 138 → mL M2 f w = 51 := fun f a b => by
    have : f = 135 ∨ f = 136 ∨ f = 137 ∨ f = 138 := by omega
    rcases this with e | e | e | e <;> subst e
    · exact hln.1
    · exact hln.2.1
    · exact hln.2.2.1
    · exact hln.2.2.2
  obtain ⟨⟨⟨x1, x2, x3, x4⟩, x5⟩, ⟨y1, y2, y3, y4⟩, y5⟩ := id hT
  rw [h51]
  by_cases c : 99 ≤ lst l 12 (decide (4 < fs.length))
  · have hle : lst l 12 (decide (4 < fs.length)) = 99 := by
      have : lst l 12 (decide (4 < fs.length)) ≤ l ∨ lst l 12 (decide (4 < fs.length)) = 12 := by unfold lst; split <;> omega
      omega
    have hW := h12 hle
    have hf4 : fs.length ≤ 4 := by
      refine Nat.le_of_not_lt (fun q => ?_)
      rw [decide_eq_true q] at c
      unfold lst at c
      split at c
      · omega
      · rename_i h; simp at h; omega
    refine itp (le_oN (a := 99) c (by omega)) ?_
    have eW : (Int32.ofNat W.length).toNatClampNeg = W.length := oN_tnc (by omega)
    have vW : vp_in (Int32.ofNat W.length) 51 := (vp_oN (by omega)).mpr hW
    refine ⟨w, hw, rdI M2 sFr, (hF.1 sFr hs).1.1, w, hw, by decide, ?_⟩
    rw [x1, lit32 4, oN_mul, oN_tnc (k := 4 * W.length) (by omega), oN_tnc (k := fs.length) (by omega), show (0 : Int32).toNatClampNeg = 0 by decide, eW]
    refine ⟨oN_nonneg (by omega), oN_nonneg (by omega), by show _ ≤ rl M2 sFr; omega, by rw [y2]; omega, _, rfl, w, hw, ?_⟩
    refine ⟨by show vp_in _ (mL M2 130 w); rw [x2]; exact vW, w, hw, by show vp_in _ (mL M2 131 w); rw [y1]; exact vW, _, rfl, w, hw, by show vp_in _ (mL M2 132 w); rw [y4]; exact vW, w, hw, by show vp_in _ (mL M2 134 w); rw [y3]; exact vW, _, rfl, w, hw, by show vp_in _ (mL M2 135 w); rw [hll 135 (by omega) (by omega)]; exact vW, w, hw, by show vp_in _ (mL M2 136 w); rw [hll 136 (by omega) (by omega)]; exact vW, _, rfl, w, hw, by show vp_in _ (mL M2 137 w); rw [hll 137 (by omega) (by omega)]; exact vW, w, hw, by show vp_in _ (mL M2 138 w); rw [hll 138 (by omega) (by omega)]; exact vW, _, rfl, w, hw, _, rfl, ?_⟩
    refine hQ1 _ c0 c ?_ ⟨?_, hw, ?_, hln⟩ ?_ rfl rfl ?_ ?_ r2
    · exact h51
    · refine hT.add hW ho ho2 hp hp2 r3 hf4 ?_ (fun k => ?_) (fun k => ?_) (fun k => ?_) (fun k => ?_) (fun k => ?_) (fun f => rfl)
      · simp only [mI_sI, mI_cpI, Nat.reduceEqDiff, false_and, and_false, if_false, and_self, if_true, x1, lit32 1, oN_add]
      all_goals simp only [mI_sI, mI_cpI, Nat.reduceEqDiff, false_and, and_false, if_false, true_and, and_true]
      all_goals try rfl
      by_cases q : 4 * W.length ≤ k ∧ k < 4 * W.length + fs.length
      · simp only [q, and_self, if_true]
        show mI M2 300 (rdI M2 sFr) (0 + (k - 4 * W.length)) = _
        rw [Nat.zero_add]
        exact r4 _ (by omega)
      · simp only [q, if_false, if_true]
    · simp only [mI_sI, mI_cpI, Nat.reduceEqDiff, false_and, and_false, if_false, and_self, if_true]
      exact hbr
    · refine ⟨?_, ?_, ?_, ?_⟩ <;> simp [mI_sI]
    · refine hF.of (fun s hs => rfl) (fun s hs' i k => ?_) (fun s hs i => rfl) rfl rfl
      have := (hG.2.2 s hs').2
      simp only [mI_sI, mI_cpI]
      rcases this with e | e | e <;> (rw [e]; simp)
    · exact ((((((((((hlo.wcp (Nat.le_refl (4 * W.length))).w (Nat.le_refl W.length)).w (Nat.le_refl W.length)).w (Nat.le_refl W.length)).w (Nat.le_refl W.length)).w (Nat.le_refl W.length)).w (Nat.le_refl W.length)).w (Nat.le_refl W.length)).w (Nat.le_refl W.length)).w12).wo.wo
  · exact itn (nle_oN (a := 99) (by omega) (by omega)) (hQ0 M2 c0 (by omega) h51 hC hF hlo r2)
