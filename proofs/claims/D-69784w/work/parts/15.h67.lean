/-! THE OPERATION call, in the twin: the whole -/
theorem Fr.rr {S : Nat} {M M' : Mem} {f i k : Nat} {v : Option (Nat × Nat)} (h : Fr S M M') : Fr S (sR M f i k v) (sR M' f i k v) := by
  refine ⟨fun f' k' hf i' => ⟨(h.1 f' k' hf i').1, (h.1 f' k' hf i').2.1, ?_⟩, h.2.1, h.2.2.1, h.2.2.2⟩
  rw [mR_sR, mR_sR]
  split
  · rfl
  · exact (h.1 f' k' hf i').2.2
section
variable {G : List Sl} {US : UST} {BB A A' : List Nm} {S S' : List Sg} {W : List Cls} {w k t L : Nat} {br x a : Int32} {nq nl nf nk B F : Nat} {M M' M1 : Mem} {s : Ms} {l : Ln} {tp : List Int32} {Q : Int32 → Mem → Prop} {on : Nat → Bool} {y : Nm × Nm × Kd × List Int32} {vals : List Int32}
theorem X9W {w : Nat} : ∀ y, y ∈ XW w ∨ y ∈ XF w → y ∉ X9 := fun y hy hz => by
  simp only [List.mem_cons, List.not_mem_nil, or_false] at hy hz
  rcases hz with z | z | z | z | z | z | z | z | z <;> subst z <;> simp at hy
theorem TAx.tk (h : TAx G US A S W w br nq nl nf nk B F x s M) {n : Nat} {p : Nat → Int32} (hT : TIl G US BB n p A A' S S' M M') (hBl : BB.length ≤ 50000) (hf : Fr F_Model_takesLine M M') : TAx G US A' S' W w br nq nl nf nk B F x s M' := by
  obtain ⟨⟨-, a2, -⟩, ⟨b1, b2, b3⟩, c, d, -⟩ := hT
  have hx : Gx G w := h.1.1.2.1
  have hin : ∀ y, y ∈ XW w ∨ y ∈ XF w → y ∈ G := fun y hy => hy.elim (fun z => hx.2.2.2.1 y z) (fun z => (h.2.2.1.2.2.1 y z).1)
  have hA1 : A'.length ≤ BB.length := nd_le c.1.1.2.1.1 b2
  obtain ⟨e1, e2⟩ := (sR_fr (M := M) (w := w)).rsl hx.1
  obtain ⟨⟨t1, t2, t3⟩, t4⟩ := h.1.2.2.2
  obtain ⟨m1, m2, m3⟩ := h.2.2.2.2.2.1
  rw [e1, e2] at m1
  refine h.eq (EqT.fr hf) (fun y hy => ⟨(d.2.1 y (hin y hy) (X9W y hy)).1, (d.2.1 y (hin y hy) (X9W y hy)).2.1⟩) d.1 c a2 b1 (by omega) b3 ⟨⟨(hf.L (f := 111) rfl 0).trans t1, (hf.L (f := 212) rfl 0).trans t2, (hf.L (f := 112) rfl 0).trans t3⟩, (hf.I (f := 11) (k := 77) rfl 0).trans t4⟩ ⟨?_, ?_, ?_⟩
  · have := d.2.2; omega
  · rw [hf.L (f := 110) rfl]; exact m2
  · rw [hf.L (f := 110) rfl]; exact m3
theorem lns_ok {tp : List Int32} (e : takO pCall tp.length (lns (pT tp) tp.length 0) = .inr y) : kdOk y.2.2.1 := by
  obtain ⟨l, -, h⟩ := takO_in e
  exact pCall_kd h
theorem ct_isThread {a : Int32} (h1 : ∀ t, t < 3 → a = Int32.ofNat t → Q 1 M) (h0 : (a < 0 ∨ 2 < a) → Q 0 M) : w_Model_isThread a Q M := by
  unfold w_Model_isThread
  by_cases c0 : a < 0
  · exact itp c0 (h0 (Or.inl c0))
  refine itn c0 ?_
  by_cases c2 : (3 : Int32) ≤ a
  · refine itp c2 (h0 (Or.inr ?_))
    exact Int32.lt_of_lt_of_le (by decide) c2
  · obtain ⟨t, ht, e⟩ := in3 c0 c2
    exact itn c2 (h1 t ht e)
/-- a thread whose call was refused -/
theorem uN.off (h : uN A S w t l M) (hw : lWt l = none) : uN A S w t (clrL l) (sI M 13 (3 * w + t) 0 (-2)) := by
  obtain ⟨⟨a1, a2, a3, a4⟩, -⟩ := h
  refine ⟨⟨a1, by rw [mI_sI, if_pos ⟨rfl, rfl, rfl⟩]; rfl, ?_, fun z => absurd z (show ¬ (0 : Nat) = 1 by decide)⟩, fun z => absurd z (show ¬ false = true by decide)⟩
  unfold uW at a3
  rw [hw] at a3
  show mI (sI M 13 (3 * w + t) 0 (-2)) 13 (3 * w + t) 1 = 0
  rw [mI_sI, if_neg (fun z => absurd z.2.2 (by decide))]; exact a3
theorem ct_wcall (hk : k < 3) (hOn : tOn on M) (hon : on k = true) (hTp : tpT tp M) (hn : tp.length ≤ 1400) (hw3 : mL M 411 0 = 6002 ∧ mL M 107 0 = 6002 ∧ mL M 108 0 = 6002) (h113 : mL M 113 0 = 6) (hBl : BB.length ≤ 50000) (hAB : A ⊆ BB) (hNB : ∀ l ∈ lns (pT tp) tp.length 0, NB BB l ∧ UL US l) (hTG : TG G M) (hV : TV US A S M) (hKs : TKs A M) (hA : MA W s) (hNW : NWt s) (h : TAx G US A S W k br nq nl nf nk B F x s M)
    (h0 : (a < 0 ∨ 2 < a) → Q (-1) M) (h1 : ∀ t, t < 3 → a = Int32.ofNat t → lSt (zN s t) = 1 → Q (-2) M)
    (hQ : ∀ t A' S' y M', t < 3 → a = Int32.ofNat t → lSt (zN s t) ≠ 1 → takO pCall tp.length (lns (pT tp) tp.length 0) = .inr y → TIl G US BB tp.length (pT tp) A A' S S' M M' → (∀ vals, gvOk y vals → TAx G US A' S' W k br nq nl nf nk B F x (yN s (up1 (zN s) t (newL y vals))) M') → tpT [] M' → mI M' 11 0 86 = -2 → Q 0 M')
    (hX : ∀ t A' S' e M', t < 3 → a = Int32.ofNat t → lSt (zN s t) ≠ 1 → takO pCall tp.length (lns (pT tp) tp.length 0) = .inl e → TIl G US BB tp.length (pT tp) A A' S S' M M' → TAx G US A' S' W k br nq nl nf nk B F x (yN s (up1 (zN s) t (clrL (zN s t)))) M' → tpT [] M' → mI M' 11 0 86 = Int32.ofNat e.2 → Q (-11) M') : w_Model_call 0 (Int32.ofNat k) a Q M := by
  have hx : Gx G k := h.1.1.2.1
  unfold w_Model_call
  refine ct_isWorld hOn (fun j hj e _ _ => ?_) (fun q => by rw [wOf_k hk, hon] at q; cases q)
  refine itn (by decide) ?_
  refine ct_isThread (fun t ht en => ?_) (fun q => itp rfl (h0 q))
  refine itn (by decide) ?_
  rw [en]
  obtain ⟨a1, a2⟩ := hOn.at hk
  obtain ⟨l7, r7⟩ := h.2.2.2.2.1
  have r7' : ∀ t', t' < 3 → mR M 704 k t' = some (13, 3 * k + t') := fun t' h' => by
    have := r7 t' h'
    rw [mR_sR, if_neg (fun z => absurd z.1 (by decide))] at this; exact this
  have l7' : mL M 704 k = 3 := l7
  refine ⟨a1, k, a2, by rw [l7']; exact (vp_oN (by omega)).mpr ht, 3 * k + t, by rw [oN_tnc (k := t) (by omega)]; exact r7' t ht, ?_⟩
  have hon1 : mI M 13 (3 * k + t) 0 = 1 ↔ lSt (zN s t) = 1 := (h.2.2.2.2.2.2 t ht).1.on (hA.2.1 t ht).2.1.1
  by_cases c1 : lSt (zN s t) = 1
  · exact itp (hon1.mpr c1) (h1 t ht en c1)
  refine itn (fun z => c1 (hon1.mp z)) ?_
  refine mf_w_Model_takesLine (Q := fun v M' => Fr F_Model_takesLine M M' → (if v = 0 then (vp_in (Int32.ofNat k) (mL M' 703 0) ∧ ∃ i16, (mR M' 703 0 (Int32.ofNat k).toNatClampNeg) = some (12, i16) ∧ vp_in (Int32.ofNat t) (mL M' 704 i16) ∧ ∃ i18, (mR M' 704 i16 (Int32.ofNat t).toNatClampNeg) = some (13, i18) ∧ Q (-11 : Int32) (sI M' 13 i18 0 (-2 : Int32))) else (vp_in (Int32.ofNat k) (mL M' 703 0) ∧ ∃ i20, (mR M' 703 0 (Int32.ofNat k).toNatClampNeg) = some (12, i20) ∧ vp_in (Int32.ofNat t) (mL M' 704 i20) ∧ ∃ i22, (mR M' 704 i20 (Int32.ofNat t).toNatClampNeg) = some (13, i22) ∧ w_Model_beginRun 0 i22 (fun M23 => Q (0 : Int32) M23) M'))) (fun _ _ hf hp => hp hf) (ct_takesC (B := BB) hx hTp hn hTG hV hKs hw3 h113 hBl hAB hNB (fun A' S' y M2 y1 y2 y3 y4 y5 hf => ?_) (fun A' S' e M2 y1 y2 y3 y4 hf => ?_))
  · have hOn2 : tOn on M2 := hOn.fr hf
    obtain ⟨b1, b2⟩ := hOn2.at hk
    have hT2 := h.tk y2 hBl hf
    refine itn (by decide) ⟨b1, k, b2, by rw [hf.L (f := 704) rfl, l7']; exact (vp_oN (by omega)).mpr ht, 3 * k + t, by rw [oN_tnc (k := t) (by omega), hf.Ra (f := 704) rfl rfl]; exact r7' t ht, ?_⟩
    have hlen := (hT2.2.2.2.2.2.2 t ht).1.1
    obtain ⟨⟨i1, i2, i3⟩, i4, i5, i6, i7⟩ := id y2
    refine ct_beginRun (y := y) hx i6.1 i5 y3 i7 hlen rfl (lns_ok y1) (fun M3 f3 g2 g3 => ?_)
    have hT3 : ∀ vals, gvOk y vals → TAx G US A' S' W k br nq nl nf nk B F x (yN s (up1 (zN s) t (newL y vals))) M3 := fun vals hv => by
      refine TA.ln1 (M := sR M2 11 0 45 (some (12, k))) hT2 ht ?_ (fun g i q hg hi => g2 g i q hg hi) ?_
      · exact f3.rr
      · exact (g3 vals hv).eq (fun _ _ _ _ => rfl) (fun _ _ => rfl)
    exact hQ t A' S' y M3 ht en c1 y1 ⟨⟨i1.fr f3, i2.fr f3, (f3.L (f := 411) rfl 0).trans i3.1, (f3.L (f := 107) rfl 0).trans i3.2.1, (f3.L (f := 108) rfl 0).trans i3.2.2⟩, i4, i5.fr f3 hx, i6.fr f3 hx.1, (f3.L (f := 113) rfl 0).trans i7⟩ hT3 ⟨(f3.I (f := 11) (k := 85) rfl 0).trans y4.1, (f3.L (f := 402) rfl 1).trans y4.2.1, by simp, fun j hj => absurd hj (by simp)⟩ ((f3.I (f := 11) (k := 86) rfl 0).trans y5)
  · have hOn2 : tOn on M2 := hOn.fr hf
    obtain ⟨b1, b2⟩ := hOn2.at hk
    have hT2 := h.tk y2 hBl hf
    refine itp rfl ⟨b1, k, b2, by rw [hf.L (f := 704) rfl, l7']; exact (vp_oN (by omega)).mpr ht, 3 * k + t, by rw [oN_tnc (k := t) (by omega), hf.Ra (f := 704) rfl rfl]; exact r7' t ht, ?_⟩
    have f3 : Fr SBr M2 (sI M2 13 (3 * k + t) 0 (-2)) := Fr.wI rfl (Fr.rf _ _)
    obtain ⟨⟨i1, i2, i3⟩, i4, i5, i6, i7⟩ := id y2
    have hT3 : TAx G US A' S' W k br nq nl nf nk B F x (yN s (up1 (zN s) t (clrL (zN s t)))) (sI M2 13 (3 * k + t) 0 (-2)) := by
      refine TA.ln1 (M := sR M2 11 0 45 (some (12, k))) hT2 ht f3.rr (fun g i q hg hi => by
        show mI (sI M2 13 (3 * k + t) 0 (-2)) g i q = mI M2 g i q
        rw [mI_sI, if_neg (fun z => hi z.2.1)]) ?_
      exact ((hT2.2.2.2.2.2.2 t ht).off (hNW t ht c1)).eq (fun _ _ _ _ => rfl) (fun _ _ => rfl)
    exact hX t A' S' e _ ht en c1 y1 ⟨⟨i1.fr f3, i2.fr f3, i3⟩, i4, i5.fr f3 hx, i6.fr f3 hx.1, i7⟩ hT3 ⟨(f3.I (f := 11) (k := 85) rfl 0).trans y3.1, (f3.L (f := 402) rfl 1).trans y3.2.1, by simp, fun j hj => absurd hj (by simp)⟩ ((f3.I (f := 11) (k := 86) rfl 0).trans y4)
end
