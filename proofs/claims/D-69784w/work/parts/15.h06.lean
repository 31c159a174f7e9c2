/-! THE MACHINE IN THE TWIN: what leaves it as it was -/
section
variable {G : List Sl} {US : UST} {A : List Nm} {S : List Sg} {W : List Cls} {w c k L t : Nat} {br : Int32} {nq nl nf nk B F : Nat} {M M' M1 : Mem} {s s' : Ms} {l : Ln} {U : List Un} {R : Nat}
theorem uC.fr (h : uC W w s M) (hf : Fr R M M') (hS : okF R [137, 163, 164, 5163, 5164, cd 12 60] = true := by rfl) : uC W w s M' := by
  obtain ⟨⟨a, b⟩, c, d, e⟩ := h
  have o := fun {b : Nat} (hb : b ∈ [137, 163, 164, 5163, 5164, cd 12 60]) => okF_in hS hb
  refine ⟨⟨(hf.L (f := 164) (o (by simp)) w).trans a, (hf.L (f := 163) (o (by simp)) w).trans b⟩, fun k hk => ?_, (hf.I (o (by simp)) w).trans d, fun i hi => (hf.Ia (f := 163) rfl (o (by simp)) w i).trans (e i hi)⟩
  rw [hf.Ia (f := 137) rfl (o (by simp)), hf.Ia (f := 164) rfl (o (by simp))]; exact c k hk
theorem uS.fr (h : uS W w s M) (hf : Fr R M M') (hS : R.testBit 143 = false := by rfl) : uS W w s M' := fun c f a b d => (hf.Ia (f := 143) rfl hS w _).trans (h c f a b d)
theorem uH.fr (h : uH w s M) (hf : Fr R M M') (hS : okF R [157, 158, 159, 160, 161, 162, 524, 5157, 5158, 5159, 5160, 5161, 5162, 5524, cd 12 50, cd 12 52] = true := by rfl) : uH w s M' := by
  have o := fun {b : Nat} (hb : b ∈ [157, 158, 159, 160, 161, 162, 524, 5157, 5158, 5159, 5160, 5161, 5162, 5524, cd 12 50, cd 12 52]) => okF_in hS hb
  obtain ⟨⟨a1, a2, a3, a4, a5, a6, a7⟩, ⟨b1, b2'⟩, c, d, e⟩ := h
  refine ⟨⟨(hf.L (f := 157) (o (by simp)) w).trans a1, (hf.L (f := 158) (o (by simp)) w).trans a2, (hf.L (f := 159) (o (by simp)) w).trans a3, (hf.L (f := 160) (o (by simp)) w).trans a4, (hf.L (f := 162) (o (by simp)) w).trans a5, (hf.L (f := 524) (o (by simp)) w).trans a6, (hf.L (f := 161) (o (by simp)) w).trans a7⟩, ⟨(hf.I (o (by simp)) w).trans b1, (hf.I (o (by simp)) w).trans b2'⟩, fun r hr => (hf.Ia (f := 524) rfl (o (by simp)) w r).trans (c r hr), fun r hr => ?_, fun i hi => (hf.Ia (f := 161) rfl (o (by simp)) w i).trans (e i hi)⟩
  unfold uO
  rw [hf.Ia (f := 157) rfl (o (by simp)), hf.Ia (f := 158) rfl (o (by simp)), hf.Ia (f := 159) rfl (o (by simp)), hf.Ia (f := 160) rfl (o (by simp)), hf.Ia (f := 162) rfl (o (by simp))]
  exact d r hr
theorem uF.fr (h : uF G w F s M) (hG : Ga G) (hf : Fr R M M') (hS : sOk R = true := by rfl) (h56 : R.testBit (cd 12 56) = false := by rfl) : uF G w F s M' := by
  obtain ⟨a, b, c⟩ := h
  have r : ∀ x ∈ XF w, (∀ k, rd M' x k = rd M x k) ∧ rl M' x = rl M x := fun x hx => rd_fr hf hG hS (b x hx).1
  refine ⟨(hf.I h56 w).trans a, fun x hx => ⟨(b x hx).1, by rw [(r x hx).2]; exact (b x hx).2⟩, fun i hi => ?_⟩
  rw [(r (sFc w) (by simp)).1, (r (sFu w) (by simp)).1, (r (sFl' w) (by simp)).1, (r (sFo w) (by simp)).1]
  exact c i hi
theorem uE.fr (h : uE w s M) (hf : Fr R M M') (hS : okF R [165, 166, 167, 168, 5165, 5166, 5167, 5168, cd 12 70] = true := by rfl) : uE w s M' := by
  have o := fun {b : Nat} (hb : b ∈ [165, 166, 167, 168, 5165, 5166, 5167, 5168, cd 12 70]) => okF_in hS hb
  obtain ⟨⟨a1, a2, a3, a4⟩, b, c⟩ := h
  refine ⟨⟨(hf.L (f := 165) (o (by simp)) w).trans a1, (hf.L (f := 166) (o (by simp)) w).trans a2, (hf.L (f := 167) (o (by simp)) w).trans a3, (hf.L (f := 168) (o (by simp)) w).trans a4⟩, (hf.I (o (by simp)) w).trans b, fun i hi => ?_⟩
  rw [hf.Ia (f := 165) rfl (o (by simp)), hf.Ia (f := 166) rfl (o (by simp)), hf.Ia (f := 167) rfl (o (by simp)), hf.Ia (f := 168) rfl (o (by simp))]
  exact c i hi
theorem uD.fr (h : uD w s M) (hf : Fr R M M') (hS : okF R [169, 5169] = true := by rfl) : uD w s M' := by
  have o := fun {b : Nat} (hb : b ∈ [169, 5169]) => okF_in hS hb
  exact ⟨(hf.L (f := 169) (o (by simp)) w).trans h.1, fun k hk => (hf.Ia (f := 169) rfl (o (by simp)) w k).trans (h.2 k hk)⟩
theorem uT.fr {x : Int32} (h : uT w x s M) (hf : Fr R M M') (hS : okF R [cd 12 63, cd 12 64, cd 12 65] = true := by rfl) : uT w x s M' := by
  have o := fun {b : Nat} (hb : b ∈ [cd 12 63, cd 12 64, cd 12 65]) => okF_in hS hb
  exact ⟨(hf.I (o (by simp)) w).trans h.1, (hf.I (o (by simp)) w).trans h.2.1, (hf.I (o (by simp)) w).trans h.2.2⟩
/-- cells of threads -/
def tnF (f : Nat) : Bool := Nat.beq f 13 || (Nat.ble 170 f && Nat.ble f 176) || Nat.beq f 525
theorem unT.eq (hI : ∀ g k, tnF g = true → (g = 13 → k < 23) → mI M' g L k = mI M g L k) : ∀ {U : List Un}, unT L M U → unT L M' U
  | [], _ => trivial
  | .inl f :: U, h => by
    obtain ⟨⟨⟨a1, a2⟩, a3, a4, a5⟩, ⟨b1, b2'⟩, c⟩ := h
    refine ⟨⟨⟨(hI 171 _ rfl (by omega)).trans a1, (hI 172 _ rfl (by omega)).trans a2⟩, (hI 173 _ rfl (by omega)).trans a3, (hI 174 _ rfl (by omega)).trans a4, (hI 175 _ rfl (by omega)).trans a5⟩, ⟨fun k hk => ?_, fun k hk => ?_⟩, unT.eq hI c⟩
    · rw [hI 176 _ rfl (by omega), hI 525 _ rfl (by omega)]; exact b1 k hk
    · rw [hI 176 _ rfl (by omega), hI 525 _ rfl (by omega)]; exact b2' k hk
  | .inr k :: U, h => ⟨⟨(hI 171 _ rfl (by omega)).trans h.1.1, (hI 172 _ rfl (by omega)).trans h.1.2⟩, unT.eq hI h.2⟩
theorem uL.eq (h : uL A S L l M) (hI : ∀ g k, tnF g = true → (g = 13 → k < 23) → mI M' g L k = mI M g L k) (hL : ∀ g, tnF g = true → mL M' g L = mL M g L) : uL A S L l M' := by
  obtain ⟨⟨a1, a2, a3, a4, a5, a6, a7, a8⟩, ⟨b1, b2'⟩, ⟨c1, c2, c3, c4⟩, d, e⟩ := h
  refine ⟨⟨(hL 170 rfl).trans a1, (hL 171 rfl).trans a2, (hL 172 rfl).trans a3, (hL 173 rfl).trans a4, (hL 174 rfl).trans a5, (hL 175 rfl).trans a6, (hL 176 rfl).trans a7, (hL 525 rfl).trans a8⟩, ⟨(hI 13 0 rfl (by omega)).trans b1, (hI 13 3 rfl (by omega)).trans b2'⟩, ⟨(hI 13 10 rfl (by omega)).trans c1, (hI 13 11 rfl (by omega)).trans c2, (hI 13 12 rfl (by omega)).trans c3, (hI 13 13 rfl (by omega)).trans c4⟩, ?_, fun z => ?_⟩
  · unfold uW at *
    rw [hI 13 1 rfl (by omega), hI 13 2 rfl (by omega)]; exact d
  · obtain ⟨e1, e2, e3, e4, e5, e6⟩ := e z
    rw [hI 13 5 rfl (by omega), hI 13 6 rfl (by omega), hI 13 7 rfl (by omega)]
    exact ⟨e1, e2, e3, e4, e5, fun k hk => (hI 170 k rfl (by omega)).trans (e6 k hk)⟩
theorem uU.eq (h : uU L U M) (hI : ∀ g k, tnF g = true → (g = 13 → k < 23) → mI M' g L k = mI M g L k) : uU L U M' := ⟨(hI 13 16 rfl (by omega)).trans h.1, (hI 13 22 rfl (by omega)).trans h.2.1, unT.eq hI h.2.2⟩
theorem uK.eq (h : uK L l M) (hI : ∀ g k, tnF g = true → (g = 13 → k < 23) → mI M' g L k = mI M g L k) (hL : ∀ g, tnF g = true → mL M' g L = mL M g L) : uK L l M' := by
  obtain ⟨⟨a1, a2, a3, a4, a5, a6, a7, a8⟩, b1, d, e⟩ := h
  refine ⟨⟨(hL 170 rfl).trans a1, (hL 171 rfl).trans a2, (hL 172 rfl).trans a3, (hL 173 rfl).trans a4, (hL 174 rfl).trans a5, (hL 175 rfl).trans a6, (hL 176 rfl).trans a7, (hL 525 rfl).trans a8⟩, (hI 13 0 rfl (by omega)).trans b1, ?_, e⟩
  unfold uW at *
  rw [hI 13 1 rfl (by omega), hI 13 2 rfl (by omega)]; exact d
theorem uL.wk (h : uL A S L l M) : uK L l M := ⟨h.1, h.2.1.1, h.2.2.2.1, fun z => (h.2.2.2.2 z).1⟩
theorem uN.eq (h : uN A S w t l M) (hI : ∀ g k, tnF g = true → (g = 13 → k < 23) → mI M' g (3 * w + t) k = mI M g (3 * w + t) k) (hL : ∀ g, tnF g = true → mL M' g (3 * w + t) = mL M g (3 * w + t)) : uN A S w t l M' := ⟨h.1.eq hI hL, fun z => ⟨(h.2 z).1.eq hI hL, (h.2 z).2.1.eq hI, fun a => by rw [hI 13 4 rfl (by omega)]; exact (h.2 z).2.2 a⟩⟩
theorem tnF_in {f : Nat} (h : tnF f = true) : f = 13 ∨ f = 170 ∨ f = 171 ∨ f = 172 ∨ f = 173 ∨ f = 174 ∨ f = 175 ∨ f = 176 ∨ f = 525 := by
  unfold tnF at h
  rw [Bool.or_eq_true, Bool.or_eq_true, Bool.and_eq_true] at h
  rcases h with (z | z) | z
  · exact Or.inl (Nat.eq_of_beq_eq_true z)
  · have h1 := Nat.ble_eq.mp z.1
    have h2 := Nat.ble_eq.mp z.2
    omega
  · have := Nat.eq_of_beq_eq_true z; omega
abbrev unL : List Nat := [170, 171, 172, 173, 174, 175, 176, 525, 5013, 5170, 5171, 5172, 5173, 5174, 5175, 5176, 5525]
/-- no cell of a thread changes -/
def unO (R : Nat) : Bool := okF R unL && (List.range 23).all (fun k => !R.testBit (3600 + k))
theorem unO_I (hS : unO R = true) (hf : Fr R M M') {g k : Nat} (hg : tnF g = true) (hk : g = 13 → k < 23) (i : Nat) : mI M' g i k = mI M g i k := by
  unfold unO at hS
  rw [Bool.and_eq_true] at hS
  have o := fun {b : Nat} (hb : b ∈ unL) => okF_in hS.1 hb
  rcases tnF_in hg with z | z | z | z | z | z | z | z | z <;> subst z
  · have := hS.2
    rw [List.all_eq_true] at this
    have := this k (List.mem_range.mpr (hk rfl))
    exact hf.I (f := 13) (k := k) (by show R.testBit (3600 + k) = false; simpa using this) i
  · exact hf.Ia rfl (o (by simp)) i k
  · exact hf.Ia rfl (o (by simp)) i k
  · exact hf.Ia rfl (o (by simp)) i k
  · exact hf.Ia rfl (o (by simp)) i k
  · exact hf.Ia rfl (o (by simp)) i k
  · exact hf.Ia rfl (o (by simp)) i k
  · exact hf.Ia rfl (o (by simp)) i k
  · exact hf.Ia rfl (o (by simp)) i k
end
