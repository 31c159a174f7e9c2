/-! THE OPERATION call, in the works: the whole -/
section
variable {A A' : List Nm} {W : List Cls} {w k C B F K L n t : Nat} {br a : Int32} {nq nk np nh nr : Nat} {s : Ms} {M M' M0 : Mem} {Q : Int32 → Mem → Prop} {U : List Un} {l : Ln} {on : Nat → Bool} {tp : List Int32} {BB : List Nm}
theorem RA.clr (ht : t < 3) (h : RA A W w br nq nk np nh nr C B F s M) (hf : Fr SHc M M') (hc : clrd (3 * w + t) M') (h0 : mI M' 7 (3 * w + t) 0 = mI M 7 (3 * w + t) 0) (hi : ∀ i, i ≠ 3 * w + t → ∀ k, mI M' 7 i k = mI M 7 i k) : RA A W w br nq nk np nh nr C B F (yN s (up1 (zN s) t (clrL (zN s t)))) M' := by
  obtain ⟨⟨⟨a1, a2, a3, a4⟩, ⟨b1, b2', b3, b4⟩, -, -, -⟩, -, -⟩ := h.2.2.2.2.2 t ht
  refine h.ln1 ht (hf.sub rfl) (fun i q => ⟨fun k _ => hi i q k, fun k => hf.Ia (f := 95) rfl rfl i k⟩) ?_
  obtain ⟨r1, r2, r3⟩ := hf.r89
  obtain ⟨⟨c1, c2, c3, c4, c5⟩, c6, c7, c8, c9, c10, c11⟩ := hc
  exact ⟨⟨⟨fun f h1 h2 => (r3 _ f (by omega) (Or.inl (by omega))).trans (a1 f h1 h2), (r3 _ 94 (by omega) (Or.inl (by omega))).trans a2, (r3 _ 514 (by omega) (Or.inr rfl)).trans a3, (r3 _ 95 (by omega) (Or.inl (by omega))).trans a4⟩, ⟨h0.trans b1, c3, c4, c5⟩, ⟨c6, c7, c8, c9⟩, ⟨c10, c11⟩, fun z => absurd z (show ¬ (0 : Nat) = 1 by decide)⟩, ⟨c1, c2, trivial⟩, fun z => absurd z (show ¬ (0 : Nat) = 1 by decide)⟩
theorem cRd.tk (h : cRd M) (hf : Fr F_Works_isTaken M M') (h17 : mI M' 3 0 17 = 0) : cRd M' := ⟨h17, fun f a b => by
  have : f = 23 ∨ f = 24 ∨ f = 25 ∨ f = 26 ∨ f = 27 ∨ f = 28 ∨ f = 29 := by omega
  refine Eq.trans ?_ (h.2.1 f a b)
  rcases this with z | z | z | z | z | z | z <;> rw [z]
  · exact hf.L (f := 23) rfl 0
  · exact hf.L (f := 24) rfl 0
  · exact hf.L (f := 25) rfl 0
  · exact hf.L (f := 26) rfl 0
  · exact hf.L (f := 27) rfl 0
  · exact hf.L (f := 28) rfl 0
  · exact hf.L (f := 29) rfl 0, (hf.L (f := 211) rfl 0).trans h.2.2⟩
theorem cRd.fr {S : Nat} (h : cRd M) (hf : Fr S M M') (hS : okF S [cd 3 17, 5023, 5024, 5025, 5026, 5027, 5028, 5029, 5211] = true := by rfl) : cRd M' := by
  have o := fun {b : Nat} (hb : b ∈ [cd 3 17, 5023, 5024, 5025, 5026, 5027, 5028, 5029, 5211]) => okF_in hS hb
  refine ⟨(hf.I (f := 3) (k := 17) (o (by decide)) 0).trans h.1, fun f a b => ?_, (hf.L (f := 211) (o (by decide)) 0).trans h.2.2⟩
  have : f = 23 ∨ f = 24 ∨ f = 25 ∨ f = 26 ∨ f = 27 ∨ f = 28 ∨ f = 29 := by omega
  refine Eq.trans ?_ (h.2.1 f a b)
  rcases this with z | z | z | z | z | z | z <;> rw [z]
  · exact hf.L (f := 23) (o (by decide)) 0
  · exact hf.L (f := 24) (o (by decide)) 0
  · exact hf.L (f := 25) (o (by decide)) 0
  · exact hf.L (f := 26) (o (by decide)) 0
  · exact hf.L (f := 27) (o (by decide)) 0
  · exact hf.L (f := 28) (o (by decide)) 0
  · exact hf.L (f := 29) (o (by decide)) 0
theorem NC.fr {S : Nat} {BB : List Nm} (h : NC BB A M) (hf : Fr S M M') (hS : okF S [cd 1 4, 20, 21, 22, 600, 5020, 5021, 5022, 5600] = true := by rfl) : NC BB A M' := by
  have o := fun {b : Nat} (hb : b ∈ [cd 1 4, 20, 21, 22, 600, 5020, 5021, 5022, 5600]) => okF_in hS hb
  exact ⟨h.1.fr hf (o (by decide)) (o (by decide)) (o (by decide)) (o (by decide)) (o (by decide)) (o (by decide)) (o (by decide)) (o (by decide)) (o (by decide)), h.2⟩
theorem tpC.fr {S : Nat} {tp : List Int32} (h : tpC tp M) (hf : Fr S M M') (hS : okF S [cd 10 1, 400, 5400] = true := by rfl) : tpC tp M' := by
  have o := fun {b : Nat} (hb : b ∈ [cd 10 1, 400, 5400]) => okF_in hS hb
  exact ⟨(hf.I (f := 10) (k := 1) (o (by decide)) 0).trans h.1, (hf.L (f := 400) (o (by decide)) 0).trans h.2.1, h.2.2.1, fun j hj => (hf.Ia (f := 400) rfl (o (by decide)) 0 j).trans (h.2.2.2 j hj)⟩
/-- the numbers that a thread is given: those told, then what was there -/
def gvOk (x : Nm × Nm × Kd × List Int32) (vals : List Int32) : Prop := ∀ i, i < x.2.2.2.length → vals.getD i 0 = x.2.2.2.getD i 0
theorem c_wcall (hk : k < 3) (hOn : cOn on M) (hon : on k = true) (hTp : tpC tp M) (hn : tp.length ≤ 2900) (hN : NC BB A M) (hB : ∀ l ∈ lns (pT tp) tp.length 0, NB BB l) (hRd : cRd M) (hl30 : mL M 30 0 = 6) (hA : MA W s) (h : RA A W (k + 1) br nq nk np nh nr C B F s M)
    (h0 : (a < 0 ∨ 2 < a) → Q (-1) M) (h1 : ∀ t, t < 3 → a = Int32.ofNat t → lSt (zN s t) = 1 → Q (-2) M)
    (hQ : ∀ t A' x M', t < 3 → a = Int32.ofNat t → lSt (zN s t) ≠ 1 → takO pCall tp.length (lns (pT tp) tp.length 0) = .inr x → A <+: A' → NC BB A' M' → RA A' W (k + 1) br nq nk np nh nr C B F (yN s (up1 (zN s) t (newL x (cvl x)))) M' → tpC [] M' → mI M' 10 0 21 = -2 → cRd M' → Q 0 M')
    (hX : ∀ t A' e M', t < 3 → a = Int32.ofNat t → lSt (zN s t) ≠ 1 → takO pCall tp.length (lns (pT tp) tp.length 0) = .inl e → A <+: A' → NC BB A' M' → RA A' W (k + 1) br nq nk np nh nr C B F (yN s (up1 (zN s) t (clrL (zN s t)))) M' → tpC [] M' → mI M' 10 0 21 = Int32.ofNat e.2 → cRd M' → Q (-11) M') : w_Works_call 0 (Int32.ofNat k) a Q M := by
  unfold w_Works_call w_Works_isThread
  refine c_isWorld hOn (fun j hj e _ _ => ?_) (fun q => by rw [wOf_k hk, hon] at q; cases q)
  refine itn (by decide) ?_
  unfold w_Works_isIn
  by_cases c0 : a < 0
  · exact itp c0 (itp rfl (itp rfl (h0 (Or.inl c0))))
  refine itn c0 ?_
  by_cases c2 : 2 < a
  · exact itp c2 (itp rfl (itp rfl (h0 (Or.inr c2))))
  obtain ⟨t, hn2, en, en2⟩ := i61 (m := 2) (by decide) c0 c2
  have ht : t < 3 := by omega
  rw [en]
  obtain ⟨a1, a2⟩ := hOn.at hk hon
  refine itn (by rw [← en]; exact c2) (itn (by decide) (itn (by decide) ⟨a1, k + 1, a2, by rw [h.2.2.2.2.1.1]; exact (vp_oN (by omega)).mpr ht, 3 * (k + 1) + t, ?_, ?_⟩))
  · rw [oN_tnc (k := t) (by omega)]; exact h.2.2.2.2.1.2 t ht
  have hi11 := h.i11 (hA.2.1 t ht) ht
  by_cases c1 : lSt (zN s t) = 1
  · exact itp (hi11.mpr c1) (h1 t ht en c1)
  refine itn (fun z => c1 (hi11.mp z)) ?_
  refine c_clear (fun M1 hf hc e0 hi => ?_)
  have hRA := h.clr ht hf hc e0 hi
  obtain ⟨m76, m212⟩ := hRA.m76
  have hLl : L76 (k + 1) = 29836 ∧ L212 (k + 1) = 44754 := by unfold L76 L212; exact ⟨if_neg (by omega), if_neg (by omega)⟩
  have hN1 : NC BB A M1 := hN.fr hf
  have hRd1 : cRd M1 := hRd.fr hf
  have e30 : mL M1 30 0 = 6 := (hf.L (f := 30) rfl 0).trans hl30
  refine mf_w_Works_isTaken (Q := fun v M' => Fr F_Works_isTaken M1 M' → (if v = 0 then Q (-11) M' else w_Line_call (3 * (k + 1) + t) 0 (fun M13 => Q 0 M13) M')) (fun _ _ hf hp => hp hf) (c_takenC (t := t) ht (hTp.fr hf) hn hN1 hB hRd1 e30 (by rw [m76]; omega) (by rw [m76]; omega) (by rw [m212]; omega) (by rw [m212]; omega) (fun A' x M2 y1 y2 y3 y4 y5 y6 y7 y8 hf2 => ?_) (fun A' e M2 y1 y2 y3 y4 y5 y6 y7 hf2 => ?_))
  · refine itn (by decide) ?_
    have hoff : t < 3 → lSt (zN (yN s (up1 (zN s) t (clrL (zN s t)))) t) ≠ 1 := fun _ => by
      show lSt (if t = t then clrL (zN s t) else zN s t) ≠ 1
      rw [if_pos rfl]
      show (0 : Nat) ≠ 1
      decide
    have hR2 := hRA.tk (by omega) y2 (by have := y3.len; omega) hf2 y5 hoff
    have n2 := hR2.2.2.2.2.2 t ht
    obtain ⟨⟨⟨q1, q2, q3, q4⟩, ⟨q5, -⟩, -⟩, -, -⟩ := n2
    refine c_lcall ((hf2.L (f := 30) rfl 0).trans e30) q4 (fun M3 hf3 z1 z2 z3 z4 z5 => ?_)
    obtain ⟨r1, r2, r3⟩ := hf3.r89
    refine hQ t A' x M3 ht en c1 y1 y2 (y3.fr hf3) ?_ (y6.fr hf3) ((hf3.I (f := 10) (k := 21) rfl 0).trans y7) ((hRd1.tk hf2 y8).fr hf3)
    · have e2 : up1 (up1 (zN s) t (clrL (zN s t))) t (newL x (cvl x)) = up1 (zN s) t (newL x (cvl x)) := by
        funext j
        unfold up1
        by_cases c : j = t
        · rw [if_pos c, if_pos c]
        · rw [if_neg c, if_neg c, if_neg c]
      have := hR2.ln1 (l := newL x (cvl x)) ht hf3 z4 ?_
      · rw [show yN (yN s (up1 (zN s) t (clrL (zN s t)))) (up1 (zN (yN s (up1 (zN s) t (clrL (zN s t))))) t (newL x (cvl x))) = yN s (up1 (up1 (zN s) t (clrL (zN s t))) t (newL x (cvl x))) from rfl, e2] at this
        exact this
      obtain ⟨l0, l1⟩ := takO_in y1
      have hkd := pCall_kd l1.2
      refine ⟨⟨⟨fun f g1 g2 => (r3 _ f (by omega) (Or.inl (by omega))).trans (q1 f g1 g2), (r3 _ 94 (by omega) (Or.inl (by omega))).trans q2, (r3 _ 514 (by omega) (Or.inr rfl)).trans q3, (r3 _ 95 (by omega) (Or.inl (by omega))).trans q4⟩, ⟨z3.trans q5, z1.2.2.1, z1.2.2.2.1, z1.2.2.2.2⟩, ⟨z2.1, z2.2.1, z2.2.2.1, z2.2.2.2.1⟩, z2.2.2.2.2, fun _ i hi => ?_⟩, ⟨z1.1, z1.2.1, trivial⟩, fun _ => ?_⟩
      · have hi : i < x.2.2.2.length := by
          have : i < (kNs x.2.2.2.length).length := hi
          rw [List.length_replicate] at this; exact this
        rw [z5 i (by have := y4.2.2; omega), y4.2.1 i hi]
        show _ = (cvl x).getD i 0
        rw [List.getD_eq_getElem?_getD, List.getD_eq_getElem?_getD, List.getElem?_append_left hi]
      · refine RfX.fr (M := M2) ⟨y4.1, ⟨?_, fun κ hκ => ?_, hkd⟩, ⟨?_, ?_⟩, ?_, ?_⟩ hf3
        · show (kNs x.2.2.2.length).length ≤ 6
          rw [List.length_replicate]; exact y4.2.2
        · rw [List.eq_of_mem_replicate hκ]; exact Or.inl rfl
        · rw [hR2.m76.1]; omega
        · rw [hR2.m76.1]; omega
        · rw [hR2.m76.2]; omega
        · rw [hR2.m76.2]; omega
  · refine itp rfl ?_
    have hoff : t < 3 → lSt (zN (yN s (up1 (zN s) t (clrL (zN s t)))) t) ≠ 1 := fun _ => by
      show lSt (if t = t then clrL (zN s t) else zN s t) ≠ 1
      rw [if_pos rfl]
      show (0 : Nat) ≠ 1
      decide
    exact hX t A' e M2 ht en c1 y1 y2 y3 (hRA.tk (by omega) y2 (by have := y3.len; omega) hf2 y4 hoff) y5 y6 (hRd1.tk hf2 y7)
end
