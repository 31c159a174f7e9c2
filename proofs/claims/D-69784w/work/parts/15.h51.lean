/-! SPEC: what holds of a world is kept by quantum, link, halt -/
/-- what holds of a world between operations -/
def WI (W : List Cls) (K : Nat) (s : Ms) : Prop := GI W K s ∧ LkN s ∧ NTs s ∧ EvA s
section
variable {W : List Cls} {s : Ms} {K : Nat} {br a c x : Int32}
theorem TI2.qn (h : TI2 x s) : TI2 x (qntO a s).2 := by
  unfold qntO
  split
  · exact h
  · exact ⟨LkP.eq rfl rfl rfl h.1, h.2.1, h.2.2⟩
theorem WI.qn (h : WI W K s) : WI W K (qntO a s).2 := by
  unfold qntO
  by_cases c1 : a < 1 ∨ 200 < a
  · rw [if_pos c1]; exact h
  · rw [if_neg c1]
    obtain ⟨⟨hA, ⟨t1, t2, t3⟩, hF⟩, hk, hn, he⟩ := h
    have h0 : ¬ a < 0 := fun z => c1 (Or.inl (Int32.lt_trans z (by decide)))
    have h1 : 1 ≤ a.toNatClampNeg ∧ a.toNatClampNeg ≤ 200 := by
      have n1 : ¬ a < 1 := fun z => c1 (Or.inl z)
      have n2 : ¬ 200 < a := fun z => c1 (Or.inr z)
      rw [Int32.lt_iff_toInt_lt, show (1 : Int32).toInt = 1 from rfl] at n1
      rw [Int32.lt_iff_toInt_lt, show (200 : Int32).toInt = 200 from rfl] at n2
      show 1 ≤ (a.toInt).toNat ∧ (a.toInt).toNat ≤ 200
      omega
    exact ⟨⟨hA.yt hA.1.2.2, ⟨t1, h1.1, by show a.toNatClampNeg < 1000000; omega⟩, hF⟩, LkP.eq rfl rfl rfl hk, hn, he⟩
theorem MA.lL {L : LkS} (h : MA W s) (hm : LkM W (zL s) L) : MA W (yL s L) := by
  have h0 := h.at (t := 0) (by omega)
  exact MK.all (t := 0) ⟨h0.1.lL hm, h0.2⟩
theorem WI.ln (hW : WO W) (h : WI W K s) : WI W K (lnkO br W c s).2 := by
  unfold lnkO
  by_cases c1 : c < 0 ∨ Int32.ofNat W.length ≤ c
  · rw [if_pos c1]; exact h
  · rw [if_neg c1]
    obtain ⟨⟨hA, ht, hF⟩, hk, hn, he⟩ := h
    have hi := idx_lt (n := W.length) (by have := hW.2.2.2; omega) (fun z => c1 (Or.inl z)) (fun z => c1 (Or.inr z))
    exact ⟨⟨hA.lL (lkN_M hW.2.2.2 hA.1.1.1 hi), ht, hF⟩, LkP.eq rfl rfl rfl hk, hn, he⟩
theorem TI2.ln (h : TI2 x s) : TI2 x (lnkO br W c s).2 := by
  unfold lnkO
  split
  · exact h
  · exact ⟨LkP.eq rfl rfl rfl h.1, h.2.1, h.2.2⟩
theorem hlt_sle : sle s (hltS s) := fun k hk => by
  obtain ⟨m, e, em, hm⟩ := hk.n
  refine ⟨⟨m, e, ?_⟩, ?_⟩
  · rcases hm with z | z | z
    · exact Or.inl z
    · exact Or.inr (Or.inl z)
    · exact Or.inr (Or.inr ⟨z.1, by show m ≤ 800 + (List.map _ (zF s)).length; rw [List.length_map]; exact z.2.1, z.2.2⟩)
  · unfold clR
    by_cases cb : 800 < k.toNatClampNeg
    · rw [if_pos cb, if_pos cb, hlt_F]
    · rw [if_neg cb, if_neg cb]; rfl
theorem nC3_ge {f g : Nat → Int32} (h : ∀ k, f k = 3 → g k = 3) : nC3 f ≤ nC3 g := cntN_le 51 (fun k _ z => decide_eq_true (h k (of_decide_eq_true z)))
theorem WI.hl (h : WI W K s) : WI W K (hltS s) := by
  obtain ⟨⟨hA, ⟨t1, t2, t3⟩, hF⟩, hk, hn, he⟩ := h
  have hs := hlt_sle (s := s)
  have hG := hA.1.1
  have hz3 : ∀ k, zC (hltS s) k = if zC s k = 1 then 3 else zC s k := fun k => rfl
  have hG' : GL W (hltS s) := by
    refine ⟨hG.1, ⟨hG.2.1.1, fun r hr => ?_, fun i hi => ⟨(hG.2.1.2.2 i hi).1, (hG.2.1.2.2 i hi).2.sle hs⟩⟩, ⟨fun c f hc hf h0 => (hG.2.2.1.1 c f hc hf h0).sle hs, fun c f h0 => hG.2.2.1.2 c f ?_⟩, fun f hf => ?_, ⟨fun j hj => ?_, fun j => ⟨?_, fun hj => ?_⟩, hG.2.2.2.2.2.2.1, fun j hj => ⟨(hG.2.2.2.2.2.2.2 j hj).1, ?_⟩⟩⟩
    · exact hG.2.1.2.1 r hr
    · rw [hz3] at h0
      by_cases c1 : zC s c = 1
      · rw [if_pos c1] at h0; exact absurd h0 (by decide)
      · rw [if_neg c1] at h0; exact h0
    · obtain ⟨g, hg, e⟩ := List.mem_map.mp (show f ∈ (zF s).map (fun f : Ft => (f.1, f.2.1, (0 : Int32), f.2.2.2)) from hf)
      rw [← e]; exact hG.2.2.2.1 g hg
    · rw [hz3, hG.2.2.2.2.1 j hj, if_neg (by decide)]
    · rw [hz3]
      by_cases c1 : zC s j = 1
      · rw [if_pos c1]; exact Or.inr (Or.inr (Or.inr rfl))
      · rw [if_neg c1]; exact (hG.2.2.2.2.2.1 j).1
    · refine (hG.2.2.2.2.2.1 j).2 (fun z => hj ?_)
      rw [hz3, z, if_neg (by decide)]
    · have := (hG.2.2.2.2.2.2.2 j hj).2
      rw [hz3]
      by_cases c1 : zC s j = 1
      · rw [if_pos c1]; decide
      · rw [if_neg c1]; exact this
  have hN : ∀ t, zN (hltS s) t = clrL (zN s t) := fun t => rfl
  refine ⟨⟨⟨⟨hG', hA.1.2.1, by show (0 : Nat) < 3; omega⟩, fun t ht => ?_, fun t ht => ⟨⟨trivial, List.nodup_nil, Nat.zero_le _⟩, fun _ => rfl⟩, fun j hj => ?_⟩, ⟨t3, t2, t3⟩, ?_⟩, fun y => ⟨0, ?_, Nat.zero_le _⟩, fun t ht _ => ⟨⟨rfl, rfl⟩, rfl, rfl⟩, he⟩
  · exact ⟨fun z => absurd (show (0 : Nat) = 1 from z) (by omega), ⟨Nat.zero_le _, Nat.zero_le _⟩, fun y hy => by cases hy⟩
  · rw [hz3] at hj
    by_cases c1 : zC s j = 1
    · rw [if_pos c1] at hj; exact absurd hj (by decide)
    · rw [if_neg c1] at hj; exact absurd hj c1
  · have e1 : (zF (hltS s)).length = (zF s).length := List.length_map ..
    have e2 : rnT (hltS s) = 0 := by
      unfold rnT
      rfl
    have e3 : nC3 (zC s) ≤ nC3 (zC (hltS s)) := nC3_ge (fun k z => by rw [hz3, if_neg (by rw [z]; decide)]; exact z)
    rw [e1, e2]
    show (zF s).length + 0 ≤ zK s + K + 2 * nC3 (zC (hltS s))
    omega
  · unfold lkR
    by_cases c1 : 800 < y.toNatClampNeg
    · rw [if_pos c1, hlt_F]; rfl
    · rw [if_neg c1]; rfl
theorem TI2.hl (h : WI W K s) : TI2 (Int32.ofNat (zT s).2.2) (hltS s) := ⟨h.hl.2.1, fun _ => rfl, fun z => absurd rfl z⟩
end
