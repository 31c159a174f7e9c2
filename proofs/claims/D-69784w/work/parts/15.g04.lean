/-! THE MACHINE IN THE WORKS: a handler -/
section
variable {A : List Nm} {W : List Cls} {w C B F t L : Nat} {br : Int32} {nq nk np nh nr : Nat} {s s' : Ms} {M M' M1 : Mem} {S : Nat} {l : Ln} {U : List Un} {r : Int32} {c j a : Nat} {lo st : List Vl} {o : Option Kd}
theorem Fr.ms (h : Fr S M M') (hS : S.testBit 4999 = false := by rfl) : mS M' = mS M := (h.2.2.1 hS).2
/-- what may change and leave the machine as it is -/
abbrev rmL : List Nat := [46, 85, 86, 5085, 5086, cd 6 26, 54, 79, 80, 81, 512, 84, 301, 5079, 5080, 5081, 5512, 5084, 5301, cd 6 6, cd 6 7, cd 6 14, cd 6 15, cd 6 21, cd 6 22, cd 6 23, cd 6 24, cd 6 25, 87, 5087, cd 6 29, 88, 5088, cd 6 35, cd 10 8, cd 6 3, cd 6 4, cd 6 5, cd 6 2, 5700, 700, 76, 211, 5076, 5211, 4999, 89, 90, 91, 92, 93, 94, 95, 514, 5007, 5089, 5090, 5091, 5092, 5093, 5094, 5095, 5514, cd 7 0, cd 7 1, cd 7 2, cd 7 10, cd 7 11, cd 7 12, cd 7 13, cd 7 14, cd 7 15, cd 7 16, cd 7 18, cd 7 19]
def rmO (S : Nat) : Bool := okF S rmL
theorem rmO_in (hS : rmO S = true) {l : List Nat} (hl : l.all (fun b => rmL.contains b) = true) : okF S l = true := by
  unfold okF
  rw [List.all_eq_true] at hl ⊢
  intro b hb
  have h1 := hl b hb
  rw [List.contains_iff_mem] at h1
  have := okF_in hS h1
  simp [this]
abbrev rnL : List Nat := [76, 211, 5076, 5211, 89, 90, 91, 92, 93, 94, 95, 514, 5007, 5089, 5090, 5091, 5092, 5093, 5094, 5095, 5514, cd 7 0, cd 7 1, cd 7 2, cd 7 10, cd 7 11, cd 7 12, cd 7 13, cd 7 14, cd 7 15, cd 7 16, cd 7 18, cd 7 19]
theorem rnO_in (hS : okF S rnL = true) {l : List Nat} (hl : l.all (fun b => rnL.contains b) = true) : okF S l = true := by
  unfold okF
  rw [List.all_eq_true] at hl ⊢
  intro b hb
  have h1 := hl b hb
  rw [List.contains_iff_mem] at h1
  have := okF_in hS h1
  simp [this]
theorem unR.fr {f : Nat} {u : Un} (h : unR W L f M u) (hf : Fr S M M') (hS : okF S rnL = true) : unR W L f M' u := by
  have o := fun {b : Nat} (hb : ([b].all (fun b => rnL.contains b)) = true) => okF_in (rnO_in hS hb) (List.mem_singleton.mpr rfl)
  cases u with
  | inl g =>
    obtain ⟨c, j, a, lo, st⟩ := g
    obtain ⟨⟨a1, a2, a3, a4⟩, b, c'⟩ := h
    refine ⟨⟨(hf.Ia (f := 89) rfl (o rfl) _ _).trans a1, (hf.Ia (f := 90) rfl (o rfl) _ _).trans a2, (hf.Ia (f := 91) rfl (o rfl) _ _).trans a3, (hf.Ia (f := 92) rfl (o rfl) _ _).trans a4⟩, fun k hk => ?_, fun k hk => ?_⟩
    · rw [hf.Ia (f := 94) rfl (o rfl), hf.Ia (f := 514) rfl (o rfl)]; exact b k hk
    · rw [hf.Ia (f := 94) rfl (o rfl), hf.Ia (f := 514) rfl (o rfl)]; exact c' k hk
  | inr g =>
    obtain ⟨k, own⟩ := g
    exact ⟨(hf.Ia (f := 92) rfl (o rfl) _ _).trans h.1, (hf.Ia (f := 93) rfl (o rfl) _ _).trans h.2⟩
theorem LU.fr (hf : Fr S M M') (hS : okF S rnL = true) : ∀ {U : List Un}, LU W L M U → LU W L M' U
  | [], _ => trivial
  | _ :: _, h => ⟨h.1.fr hf hS, LU.fr hf hS h.2⟩
theorem rL.fr (h : rL L t l M) (hf : Fr S M M') (hS : okF S rnL = true) : rL L t l M' := by
  have o := fun {b : Nat} (hb : ([b].all (fun b => rnL.contains b)) = true) => okF_in (rnO_in hS hb) (List.mem_singleton.mpr rfl)
  obtain ⟨⟨a1, a2, a3, a4⟩, ⟨b1, b2', b3, b4⟩, ⟨c1, c2, c3, c4⟩, d, e⟩ := h
  refine ⟨⟨fun f h1 h2 => ?_, (hf.L (f := 94) (o rfl) _).trans a2, (hf.L (f := 514) (o rfl) _).trans a3, (hf.L (f := 95) (o rfl) _).trans a4⟩, ⟨(hf.I (f := 7) (k := 0) (o rfl) _).trans b1, (hf.I (f := 7) (k := 10) (o rfl) _).trans b2', (hf.I (f := 7) (k := 11) (o rfl) _).trans b3, (hf.I (f := 7) (k := 12) (o rfl) _).trans b4⟩, ⟨(hf.I (f := 7) (k := 13) (o rfl) _).trans c1, (hf.I (f := 7) (k := 14) (o rfl) _).trans c2, (hf.I (f := 7) (k := 15) (o rfl) _).trans c3, (hf.I (f := 7) (k := 16) (o rfl) _).trans c4⟩, ?_, fun z k hk => (hf.Ia (f := 95) rfl (o rfl) _ _).trans (e z k hk)⟩
  · have : f = 89 ∨ f = 90 ∨ f = 91 ∨ f = 92 ∨ f = 93 := by omega
    refine Eq.trans ?_ (a1 f h1 h2)
    rcases this with z | z | z | z | z <;> rw [z]
    · exact hf.L (f := 89) (o rfl) _
    · exact hf.L (f := 90) (o rfl) _
    · exact hf.L (f := 91) (o rfl) _
    · exact hf.L (f := 92) (o rfl) _
    · exact hf.L (f := 93) (o rfl) _
  · unfold rW at *
    rw [hf.I (f := 7) (k := 18) (o rfl), hf.I (f := 7) (k := 19) (o rfl)]; exact d
theorem rU.fr (h : rU W L U M) (hf : Fr S M M') (hS : okF S rnL = true) : rU W L U M' :=
  ⟨(hf.I (f := 7) (k := 1) (okF_in (l := [cd 7 1]) (rnO_in hS rfl) (List.mem_singleton.mpr rfl)) _).trans h.1, (hf.I (f := 7) (k := 2) (okF_in (l := [cd 7 2]) (rnO_in hS rfl) (List.mem_singleton.mpr rfl)) _).trans h.2.1, LU.fr hf hS h.2.2⟩
theorem rN.fr (h : rN A W w t l M) (hf : Fr S M M') (hS : okF S rnL = true) : rN A W w t l M' := ⟨h.1.fr hf hS, h.2.1.fr hf hS, fun z => (h.2.2 z).fr hf (rnO_in hS rfl)⟩
/-- the machine while a thread that acts has units U -/
def RM (A : List Nm) (W : List Cls) (w : Nat) (br : Int32) (nq nk np nh nr C B F t : Nat) (s : Ms) (U : List Un) (M : Mem) : Prop := RX A W w br nq nk np nh nr C B F t s M ∧ rL (3 * w + t) t (zN s t) M ∧ rU W (3 * w + t) U M ∧ (lSt (zN s t) = 1 → RfX A w t (lCa (zN s t)).1 (lCa (zN s t)).2.1 M)
theorem RX.fr (h : RX A W w br nq nk np nh nr C B F t s M) (hf : Fr S M M') (hS : rmO S = true) (hL : LKw A W w br nq nk np nh nr (zL s) M') (hc : cSt w M') : RX A W w br nq nk np nh nr C B F t s M' := by
  obtain ⟨-, ⟨b1, b2'⟩, ⟨c1, c2⟩, ⟨d1, d2, d3⟩, ⟨e1, e2, e3⟩, g⟩ := h
  have o := fun {b : Nat} (hb : ([b].all (fun b => rmL.contains b)) = true) => okF_in (rmO_in hS hb) (List.mem_singleton.mpr rfl)
  exact ⟨⟨hL, hc⟩, ⟨b1.fr hf (rmO_in hS rfl), b2'.fr hf (o rfl)⟩, ⟨c1.fr hf (rmO_in hS rfl), c2.fr hf (hf.ms (o rfl)) (rmO_in hS rfl)⟩, ⟨d1.fr hf (rmO_in hS rfl), d2.fr hf (rmO_in hS rfl), d3.fr hf (rmO_in hS rfl)⟩, ⟨(hf.R (f := 6) (k := 2) (o rfl) w).trans e1, (hf.L (f := 700) (o rfl) w).trans e2, fun t' ht => (hf.Ra (f := 700) rfl (o rfl) w t').trans (e3 t' ht)⟩, fun t' ht hne => (g t' ht hne).fr hf (rmO_in hS rfl)⟩
theorem RM.fr (h : RM A W w br nq nk np nh nr C B F t s U M) (hf : Fr S M M') (hS : rmO S = true) (hL : LKw A W w br nq nk np nh nr (zL s) M') (hc : cSt w M') : RM A W w br nq nk np nh nr C B F t s U M' := ⟨h.1.fr hf hS hL hc, h.2.1.fr hf (rmO_in hS rfl), h.2.2.1.fr hf (rmO_in hS rfl), fun z => (h.2.2.2 z).fr hf (rmO_in hS rfl)⟩
theorem RM.sp (h : RM A W w br nq nk np nh nr C B F t s U M) (hs : Sp w M M') (hc : cSt w M') (hK : KB w nq nk np nh nr) : RM A W w br nq nk np nh nr C B F t s U M' := h.fr hs.1 rfl (h.1.1.1.sp hs hK) hc
end
