/-! TRIALS in the twin: the state in which outcomes are worked out -/
def MdB (G : List Sl) (U1 : List (List Kd × Kd)) (BB A : List Nm) (S : List Sg) (B F : Nat) (M : Mem) : Prop := (Gx G 3 ∧ rmT G 3 F M ∧ TG G M ∧ TV (U1, S) A S M) ∧ (TKs A M ∧ AT0 <+: A ∧ A ⊆ BB ∧ BB.length ≤ 50000) ∧ (tLk M ∧ (mS M ≤ B + 2 * rs G M ∧ 51 ≤ mL M 110 0 ∧ mL M 110 0 < 1000000) ∧ XLb M ∧ rl M sFr ≤ 20000) ∧ (mL M 411 0 = 6002 ∧ mL M 107 0 = 6002 ∧ mL M 108 0 = 6002) ∧ mL M 113 0 = 6 ∧ mL M 703 0 = 4 ∧ mR M 703 0 3 = some (12, 3)
section
variable {G : List Sl} {U1 : List (List Kd × Kd)} {US : UST} {BB A : List Nm} {S : List Sg} {B F w v : Nat} {T : List Trl} {L : Trl} {M M' : Mem} {Q X : Mem → Prop} {br x : Int32} {W : List Cls} {nq nl nf nk : Nat} {s : Ms}
theorem rmT.unsel (h : rmT G w F (sR M 11 0 45 (some (12, v)))) (hx : Gx G w) : rmT G w F M := by
  obtain ⟨a, ⟨q1, q2, q3, q4, q5, q6⟩, c, d, e⟩ := h
  have f1 := sR_rf (M := M) (w := v)
  refine ⟨a, ⟨q1, q2, q3, q4, q5, fun t ht => ?_⟩, c, fun y hy => ?_, fun y hy => ⟨(e y hy).1, ?_⟩⟩
  · have := q6 t ht
    rw [mR_sR, if_neg (fun z => absurd z.1 (by decide))] at this; exact this
  · rw [(rd_fr f1 hx.1 rfl (hx.2.2.2.1 y hy)).2]; exact d y hy
  · rw [(rd_fr f1 hx.1 rfl (e y hy).1).2]; exact (e y hy).2
theorem TV.us (h : TV US A S M) : TV (US.1, S) A S M := ⟨h.1, ⟨h.2.1.1, h.2.1.2.1, h.2.1.2.2.1, List.prefix_rfl⟩, h.2.2⟩
/-- what a world of the twin tells of the rest -/
theorem TAx.md (h : TAx G US A S W w br nq nl nf nk B F x s M) : rmT G w F M ∧ TG G M ∧ TV (US.1, S) A S M ∧ TKs A M ∧ tLk M ∧ (mS M ≤ B + 2 * rs G M ∧ 51 ≤ mL M 110 0 ∧ mL M 110 0 < 1000000) := by
  have hx : Gx G w := h.1.1.2.1
  have f1 := sR_rf (M := M) (w := w)
  obtain ⟨r1, r2⟩ := f1.rsl hx.1
  refine ⟨(TA.room h).unsel hx, h.tg, (TV.fr h.1.1.1.2.1 f1 hx).us, h.1.1.1.2.2.1.fr f1, h.1.2.2.2, ?_, h.2.2.2.2.2.1.2⟩
  rw [r1, r2]; exact h.2.2.2.2.2.1.1
theorem k_try (h : w_Model_tryDraft 0 br (fun M' => Fr F_Model_tryDraft M M' → Q M') (fun M' => X M') M) : w_Model_tryDraft 0 br Q X M := mf_w_Model_tryDraft (fun _ hf hp => hp hf) (fun _ _ hp => hp) h
/-- what is drafted -/
def dfT (L : Trl) (M : Mem) : Prop := (mL M 402 2 = 2408 ∧ ∀ k, k < (txt L).length → mI M 402 2 k = gi (txt L) k) ∧ mI M 11 0 123 = Int32.ofNat (txt L).length
theorem dfT.fr {R : Nat} (h : dfT L M) (hf : Fr R M M') (hS : okF R [402, 5402, cd 11 123] = true := by rfl) : dfT L M' := by
  have o := fun {b : Nat} (hb : b ∈ [402, 5402, cd 11 123]) => okF_in hS hb
  exact ⟨⟨(hf.L (f := 402) (o (by simp)) 2).trans h.1.1, fun k hk => (hf.Ia (f := 402) rfl (o (by simp)) 2 k).trans (h.1.2 k hk)⟩, (hf.I (f := 11) (k := 123) (o (by simp)) 0).trans h.2⟩
/-- the outcome of what is drafted -/
theorem ct_try (h : MdB G U1 BB A S B F M) (hL : TrO L) (hnm : nmT BB L) (hul : ulT U1 L) (hD : dfT L M) (hF : F < 1000000) (hCF : 601 < F)
    (hQ : ∀ A' S' M', A <+: A' → S <+: S' → MdB G U1 BB A' S' B F M' → dfT L M' → Fr F_Model_tryDraft M M' → mI M' 11 0 124 = (outS L br).1 → mI M' 11 0 125 = (outS L br).2 → Q M') : w_Model_tryDraft 0 br Q X M := by
  obtain ⟨⟨hx, hR, hTG, hV⟩, ⟨hKs, hA0, hAB, hBl⟩, ⟨hgl, hmS, hXb, hrow⟩, hw3, h113, h703⟩ := h
  have hne := hL.1.1
  have hle := hL.2.1
  have h10 : (10 : Int32) ∉ L.getLastD [] := hL.2.2.1 _ (by
    rcases List.eq_nil_or_concat L with e | ⟨l, a, e⟩
    · exact absurd e hne
    · rw [e, List.concat_eq_append, List.getLastD_concat]; simp)
  have hT : (txt L).length ≤ mL M 402 2 ∧ ∀ k, k < (txt L).length → mI M 402 2 k = gi (txt L) k := ⟨by rw [hD.1.1]; omega, hD.1.2⟩
  refine k_try (ct_wk7 hne h10 (by omega) hT hD.2 (ct_wk30 hL hx hR hTG hV rfl hKs hA0 hAB hBl hgl hmS hXb hrow hw3 h113 h703 hT hD.2 (fun l hl => ⟨hnm.1 l hl, hul.1 l hl⟩) ⟨hnm.2, hul.2⟩ hF hCF (fun A' S' W' nq nl nf nk x s M' p1 p2 p3 p4 p5 p6 p7 p8 hf => ?_)))
  obtain ⟨z1, z2, z3, z4, z5, z6⟩ := p4.md
  exact hQ A' S' M' p1 p3 ⟨⟨hx, z1, z2, z3⟩, ⟨z4, hA0.trans p1, p2, hBl⟩, ⟨z5, z6, p5, p6⟩, ⟨(hf.L (f := 411) rfl 0).trans hw3.1, (hf.L (f := 107) rfl 0).trans hw3.2.1, (hf.L (f := 108) rfl 0).trans hw3.2.2⟩, (hf.L (f := 113) rfl 0).trans h113, (hf.L (f := 703) rfl 0).trans h703.1, (hf.Ra (f := 703) rfl rfl 0 3).trans h703.2⟩ (hD.fr hf) hf p7 p8
end
