/-! B: feeding writes into the tape alone -/
def K5 (M M' : Mem) : Prop := (∀ i k, i ≠ 0 → mI M' 400 i k = mI M 400 i k) ∧ (∀ f i k, mR M' f i k = mR M f i k) ∧ mN M' = mN M ∧ mS M' = mS M
theorem K5.rf (M : Mem) : K5 M M := ⟨fun _ _ _ => rfl, fun _ _ _ => rfl, rfl, rfl⟩
theorem K5.w0 {M M1 : Mem} {k : Nat} {v : Int32} (h : K5 M M1) : K5 M (sI M1 400 0 k v) := ⟨fun i k' hi => (if_neg (fun z => hi z.2.1)).trans (h.1 i k' hi), h.2⟩
theorem K5.w1 {M M1 : Mem} {i k : Nat} {v : Int32} (h : K5 M M1) : K5 M (sI M1 10 i k v) := ⟨fun i' k' hi => (by rw [mI_sI, if_neg (fun z => absurd z.1 (by decide))]; exact h.1 i' k' hi), h.2⟩
theorem K5.of {M M1 M2 : Mem} (e : M2 = M1) (h : K5 M M1) : K5 M M2 := e ▸ h
theorem K5.trans {M M1 M2 : Mem} (h : K5 M M1) (h1 : K5 M1 M2) : K5 M M2 := ⟨fun i k e => (h1.1 i k e).trans (h.1 i k e), fun f i k => (h1.2.1 f i k).trans (h.2.1 f i k), h1.2.2.1.trans h.2.2.1, h1.2.2.2.trans h.2.2.2⟩
theorem m5_w_Works_lay_L3 {this : Nat} {Q Q' : Mem → Prop} {M0 : Mem} (hQ : ∀ z0, K5 M0 z0 → Q z0 → Q' z0) : ∀ (n : Nat) (v1 : Int32) (v2 : Int32) (M : Mem), K5 M0 M → w_Works_lay_L3 this Q n v1 v2 M → w_Works_lay_L3 this Q' n v1 v2 M
  | 0, _, _, _ => fun _ h => h
  | n + 1, v1, v2, M => fun hf => by
    unfold w_Works_lay_L3
    exact (mf_ite (hQ _ hf) (mf_and fun _ => (Exists.imp fun M3 => (mf_and fun e => (m5_w_Works_lay_L3 hQ n _ _ _ (K5.w1 (K5.of e (K5.w0 hf))))))))
theorem m5_w_Works_lay {this : Nat} {a1 : Int32} {Q Q' : Mem → Prop} {M : Mem} (hQ : ∀ z0, K5 M z0 → Q z0 → Q' z0) : w_Works_lay this a1 Q M → w_Works_lay this a1 Q' M := by
  unfold w_Works_lay
  exact (Exists.imp fun n4 => (m5_w_Works_lay_L3 hQ _ _ _ _ (K5.rf _)))
theorem m5_w_Works_feed {this : Nat} {a1 a2 a3 a4 a5 : Int32} {Q Q' : Int32 → Mem → Prop} {M : Mem} (hQ : ∀ z0 z1, K5 M z1 → Q z0 z1 → Q' z0 z1) : w_Works_feed this a1 a2 a3 a4 a5 Q M → w_Works_feed this a1 a2 a3 a4 a5 Q' M := by
  unfold w_Works_feed
  refine mf_ite ?_ (hQ _ _ (K5.rf _))
  refine m5_w_Works_lay (fun M2 f2 => ?_)
  refine m5_w_Works_lay (fun M3 f3 => ?_)
  refine m5_w_Works_lay (fun M4 f4 => ?_)
  refine m5_w_Works_lay (fun M5 f5 => ?_)
  exact m5_w_Works_lay (fun M6 f6 => hQ _ _ ((((f2.trans f3).trans f4).trans f5).trans f6))
