/-! B: a handler's line in the works -/
theorem cUs.idx3 {A : List Nm} {U : List Us} {M M' : Mem} {a b g : Nm} {line i0 i1 i2 : Nat} (h : cUs A (U ++ [(a, 2, 0, line)] ++ [(b, 3, 0, line)] ++ [(g, 4, 0, line)]) M) (e9 : mI M' 3 0 9 = mI M 3 0 9) (e26 : ∀ k, mI M' 26 0 k = mI M 26 0 k) (e27 : ∀ k, mI M' 27 0 k = mI M 27 0 k) (e29 : ∀ k, mI M' 29 0 k = mI M 29 0 k) (e28 : ∀ k, k < U.length → mI M' 28 0 k = mI M 28 0 k) (f0 : mI M' 28 0 U.length = Int32.ofNat i0) (f1 : mI M' 28 0 (U.length + 1) = Int32.ofNat i1) (f2 : mI M' 28 0 (U.length + 2) = Int32.ofNat i2) : cUs A (U ++ [(a, 2, i0, line), (b, 3, i1, line), (g, 4, i2, line)]) M' := by
  have e : U ++ [(a, 2, 0, line)] ++ [(b, 3, 0, line)] ++ [(g, 4, 0, line)] = U ++ [(a, 2, 0, line), (b, 3, 0, line), (g, 4, 0, line)] := by simp
  rw [e] at h
  obtain ⟨h1, h2⟩ := h
  have hl : ∀ x y z : Us, (U ++ [x, y, z]).length = U.length + 3 := fun x y z => by simp
  refine ⟨by rw [e9, h1, hl, hl], fun i hi => ?_⟩
  rw [hl] at hi
  have := h2 i (by rw [hl]; exact hi)
  rw [e26, e27, e29]
  by_cases c : i < U.length
  · rw [e28 i c]
    rw [gu_app1 c] at this ⊢
    exact this
  · rw [gu_app2 (by omega)] at this ⊢
    have ci : i = U.length ∨ i = U.length + 1 ∨ i = U.length + 2 := by omega
    rcases ci with ci | ci | ci
    · subst ci
      rw [Nat.sub_self] at this ⊢
      exact ⟨this.1, this.2.1, f0, this.2.2.2⟩
    · subst ci
      rw [show U.length + 1 - U.length = 1 by omega] at this ⊢
      exact ⟨this.1, this.2.1, f1, this.2.2.2⟩
    · subst ci
      rw [show U.length + 2 - U.length = 2 by omega] at this ⊢
      exact ⟨this.1, this.2.1, f2, this.2.2.2⟩
def sHandler (hc line : Nat) (ts : List Tok) : Option (Nat × Nat) := match pHandler ts with
  | .inl e => some e
  | .inr _ => if hc = 8 then some (12, line) else none
theorem c_handler {B : List Nm} {r n : Nat} {p : Nat → Int32} {to : Nat} {A : List Nm} {ts : List Tok} {w nh m hc line : Nat} {b : Nat → Nat} {U : List Us} {Q X : Mem → Prop} {M : Mem} (hR : RS B r n p to A ts M) (h1 : 1 < (hd ts).1) (hw : mR M 3 0 1 = some (5, w)) (hU : cUs A U M) (hline : mI M 3 0 2 = Int32.ofNat line) (hl : ∀ f, 23 ≤ f → f ≤ 29 → mL M f 0 = 3100) (hUr : U.length + 3 ≤ 3100)
    (hm : mI M 3 0 4 = Int32.ofNat m) (hm2 : m < mL M 65 w) (hm4 : m < 1000) (h65 : mI M 65 w m = Int32.ofNat hc) (hhc : hc ≤ 8) (h51 : mI M 5 w 51 = Int32.ofNat nh) (hr : hc < 8 → 4 * nh + 4 ≤ mL M 75 w) (hr2 : mL M 75 w < 1000000) (hb65 : b 65 ≤ m) (hb75 : b 75 ≤ 4 * nh)
    (hQ : ∀ A' a' b' g' k t' M', pHandler ts.tail = .inr ((a', b', g', k), t') → hc ≠ 8 → A <+: A' → RS B r n p to A' t' M' → Ex w b M M' → cUs A' (U ++ [(a', 2, 4 * nh, line), (b', 3, 4 * nh + 1, line), (g', 4, 4 * nh + 2, line)]) M' → mI M' 75 w (4 * nh + 3) = nc A' k ∧ k ∈ A' → mI M' 5 w 51 = Int32.ofNat (nh + 1) → mI M' 65 w m = Int32.ofNat (hc + 1) → Fr F_Reader_handler M M' → Q M')
    (hX : ∀ A' e M', sHandler hc line ts.tail = some e → A <+: A' → Thr B A' e M' → Ex w b M M' → X M') : w_Reader_handler 0 Q X M := by
  refine mf_w_Reader_handler (Q := fun M' => Fr F_Reader_handler M M' → Q M') (X := X) (fun _ hf hp => hp hf) (fun _ _ hp => hp) ?_
  unfold w_Reader_handler
  have hI : ∀ U', PW (fun A' M' => Ex w b M M' ∧ cUs A' U' M' ∧ mI M' 65 w m = Int32.ofNat hc ∧ mI M' 5 w 51 = Int32.ofNat nh) := fun U' A A' M1 M2 h hp _ hk =>
    ⟨h.1.wk hk, (h.2.1.fr hk.1).pre hp, (hk.1.Ia (f := 65) rfl rfl w m).trans h.2.2.1, (hk.1.I (f := 5) (k := 51) rfl w).trans h.2.2.2⟩
  have st : ∀ {M1 M2 : Mem}, Ex w b M M1 → mI M1 65 w m = Int32.ofNat hc → mI M1 5 w 51 = Int32.ofNat nh → Fr F_Reader_used M1 M2 → Ex w b M M2 ∧ mI M2 65 w m = Int32.ofNat hc ∧ mI M2 5 w 51 = Int32.ofNat nh := fun x a c hf =>
    ⟨x.fr hf (fun i k _ => hf.Ia rfl rfl i k), (hf.Ia (f := 65) rfl rfl w m).trans a, (hf.I (f := 5) (k := 51) rfl w).trans c⟩
  refine k_next (hI U) hR ⟨Ex.rf w b M, hU, h65, h51⟩ h1 (fun A1 M1 p1 R1 i1 => ?_)
  obtain ⟨x1, u1, e1, f1⟩ := i1
  rw [u1.1]
  have lens : ∀ {M1 : Mem}, Ex w b M M1 → ∀ f, 23 ≤ f → f ≤ 29 → mL M1 f 0 = 3100 := fun x f a c => (x.1.2.2 f a c).trans (hl f a c)
  have len1 : ∀ (l : List Us) x, (l ++ [x]).length = l.length + 1 := fun l x => by simp
  refine c_used (kd := 2) (ix := 0) R1 u1 (by omega) (lens x1) (x1.2.1.trans hline) (fun A2 a' t2 M2 a2 p2 R2 u2 hm2' hf2 => ?_) (fun A' e M' a2 p2 th hf => hX A' e M' (by unfold sHandler pHandler; rw [a2]) (p1.trans p2) th (x1.fr hf (fun i k _ => hf.Ia rfl rfl i k)))
  obtain ⟨x2, e2, f2⟩ := st x1 e1 f1 hf2
  refine c_used (kd := 3) (ix := 0) R2 u2 (by rw [len1]; omega) (lens x2) (x2.2.1.trans hline) (fun A3 b' t3 M3 a3 p3 R3 u3 hm3' hf3 => ?_) (fun A' e M' a3 p3 th hf => hX A' e M' (by unfold sHandler pHandler; rw [a2]; dsimp only; rw [a3]) ((p1.trans p2).trans p3) th (x2.fr hf (fun i k _ => hf.Ia rfl rfl i k)))
  obtain ⟨x3, e3, f3⟩ := st x2 e2 f2 hf3
  refine c_used (kd := 4) (ix := 0) R3 u3 (by rw [len1, len1]; omega) (lens x3) (x3.2.1.trans hline) (fun A4 g' t4 M4 a4 p4 R4 u4 hm4' hf4 => ?_) (fun A' e M' a4 p4 th hf => hX A' e M' (by unfold sHandler pHandler; rw [a2]; dsimp only; rw [a3]; dsimp only; rw [a4]) (((p1.trans p2).trans p3).trans p4) th (x3.fr hf (fun i k _ => hf.Ia rfl rfl i k)))
  obtain ⟨x4, e4, f4⟩ := st x3 e3 f3 hf4
  have q4 := ((p1.trans p2).trans p3).trans p4
  have hph : ∀ y, (if isWd nAny t4 then (.inr (nAny, t4.tail) : Rz Nm) else pCls t4) = y → pHandler ts.tail = (match y with
      | .inl e => .inl e
      | .inr (k, t5) => if (hd t5).1 = 0 then .inr ((a', b', g', k), t5) else .inl (er t5)) := fun y hy => by
    unfold pHandler; rw [a2]; dsimp only; rw [a3]; dsimp only; rw [a4]; dsimp only; rw [hy]; cases y <;> rfl
  have j60 : ∀ (A5 : List Nm) (k : Nm) t5 M5 (v : Int32), A4 <+: A5 → RS B r n p to A5 t5 M5 → (Ex w b M M5 ∧ cUs A5 (U ++ [(a', 2, 0, line)] ++ [(b', 3, 0, line)] ++ [(g', 4, 0, line)]) M5 ∧ mI M5 65 w m = Int32.ofNat hc ∧ mI M5 5 w 51 = Int32.ofNat nh) → v = nc A5 k → k ∈ A5 → pHandler ts.tail = (if (hd t5).1 = 0 then .inr ((a', b', g', k), t5) else .inl (er t5)) → w_Reader_handler_j60 0 (fun M' => Fr F_Reader_handler M M' → Q M') X (Int32.ofNat U.length) v M5 := by
    intro A5 k t5 M5 v p5 R5 i5 hv hk hsp
    unfold w_Reader_handler_j60
    refine k_end (hI _) R5 i5 (fun h0 => ?_) (fun M' h0 th iv => hX A5 _ M' (by unfold sHandler; rw [hsp, if_neg h0]) (q4.trans p5) th iv.1)
    rw [if_pos h0] at hsp
    obtain ⟨x5, u5, e5, f5⟩ := i5
    have hw5 : mR M5 3 0 1 = some (5, w) := x5.1.2.1.1.trans hw
    have g4 : mI M5 3 0 4 = Int32.ofNat m := x5.2.2.2.trans hm
    have tm : (Int32.ofNat m).toNatClampNeg = m := oN_tnc (by omega)
    have v65 : vp_in (Int32.ofNat m) (mL M5 65 w) := by rw [(x5.1.1.1 65 rfl).2]; exact (vp_oN (by omega)).mpr hm2
    refine ⟨w, hw5, by rw [g4]; exact v65, ?_⟩
    rw [g4, tm, e5]
    by_cases c8 : hc = 8
    · refine itp (by rw [c8]; rfl) ?_
      exact k_refuse (line := line) (rule := 12) (Ex.pw (w := w) (b := b) (M := M)) R5.1 x5 (x5.2.1.trans hline) (fun M' th iv => hX A5 _ M' (by unfold sHandler; rw [hsp]; dsimp only; rw [if_pos c8]) (q4.trans p5) th iv)
    refine itn (ne_oN (b := 8) c8 (by omega) (by omega)) ⟨w, hw5, w, hw5, w, hw5, ?_⟩
    have hr' := hr (by omega)
    simp only [mI_sI, Nat.reduceEqDiff, false_and, if_false, g4, tm, e5, f5, mL_sI]
    refine ⟨v65, v65, _, rfl, 4, ?_⟩
    rw [lit32 1, oN_add, oN_add]
    have l28 : mL M5 28 0 = 3100 := lens x5 28 (by omega) (by omega)
    have i0 : (Int32.ofNat U.length + (0 : Int32)) = Int32.ofNat U.length := by rw [lit32 0, oN_add]; rfl
    have i1 : (Int32.ofNat U.length + (0 + 1 : Int32)) = Int32.ofNat (U.length + 1) := by rw [show (0 + 1 : Int32) = Int32.ofNat 1 from rfl, oN_add]
    have i2 : (Int32.ofNat U.length + (0 + 1 + 1 : Int32)) = Int32.ofNat (U.length + 2) := by rw [show (0 + 1 + 1 : Int32) = Int32.ofNat 2 from rfl, oN_add]
    have j0 : ((4 : Int32) * Int32.ofNat nh + (0 : Int32)) = Int32.ofNat (4 * nh) := by rw [lit32 0, lit32 4, oN_mul, oN_add]; rfl
    have j1 : ((4 : Int32) * Int32.ofNat nh + (0 + 1 : Int32)) = Int32.ofNat (4 * nh + 1) := by rw [show (0 + 1 : Int32) = Int32.ofNat 1 from rfl, lit32 4, oN_mul, oN_add]
    have j2 : ((4 : Int32) * Int32.ofNat nh + (0 + 1 + 1 : Int32)) = Int32.ofNat (4 * nh + 2) := by rw [show (0 + 1 + 1 : Int32) = Int32.ofNat 2 from rfl, lit32 4, oN_mul, oN_add]
    have j3 : ((4 : Int32) * Int32.ofNat nh + (3 : Int32)) = Int32.ofNat (4 * nh + 3) := by rw [lit32 3, lit32 4, oN_mul, oN_add]
    unfold w_Reader_handler_L135
    refine itn (by decide) ?_
    rw [i0, j0]
    refine ⟨by show vp_in _ (mL M5 28 0); rw [l28]; exact (vp_oN (by omega)).mpr (by omega), ?_⟩
    unfold w_Reader_handler_L135
    refine itn (by decide) ?_
    rw [i1, j1]
    refine ⟨by show vp_in _ (mL M5 28 0); rw [l28]; exact (vp_oN (by omega)).mpr (by omega), ?_⟩
    unfold w_Reader_handler_L135
    refine itn (by decide) ?_
    rw [i2, j2]
    refine ⟨by show vp_in _ (mL M5 28 0); rw [l28]; exact (vp_oN (by omega)).mpr (by omega), ?_⟩
    unfold w_Reader_handler_L135
    refine itp (by decide) ⟨w, hw5, ?_, ?_⟩
    · rw [j3]; show vp_in _ (mL M5 75 w); rw [(x5.1.1.1 75 rfl).2]; exact (vp_oN (by omega)).mpr (by omega)
    rw [j3, oN_tnc (by omega), oN_tnc (by omega), oN_tnc (by omega), oN_tnc (by omega)]
    refine hQ A5 a' b' g' k t5 _ hsp c8 (q4.trans p5) R5.w.w.w.w.w.w ((((((x5.w5).w hb65).wo).wo).wo).w (by omega)) (u5.idx3 rfl (fun _ => rfl) (fun _ => rfl) (fun _ => rfl) (fun j hj => ?_) ?_ ?_ ?_) ⟨?_, hk⟩ ?_ ?_
    · simp only [mI_sI, Nat.reduceEqDiff, false_and, if_false, true_and]
      rw [if_neg (by omega), if_neg (by omega), if_neg (by omega)]
    · simp only [mI_sI, Nat.reduceEqDiff, false_and, if_false, true_and]
      rw [if_neg (by omega), if_neg (by omega), if_pos trivial]
    · simp only [mI_sI, Nat.reduceEqDiff, false_and, if_false, true_and]
      rw [if_neg (by omega), if_pos trivial]
    · simp only [mI_sI, Nat.reduceEqDiff, false_and, if_false, true_and]
      rw [if_pos trivial]
    · rw [mI_sI, if_pos ⟨rfl, rfl, rfl⟩]; exact hv
    · simp only [mI_sI, Nat.reduceEqDiff, false_and, if_false, and_self, if_true]
    · simp only [mI_sI, Nat.reduceEqDiff, false_and, if_false, and_self, if_true]
  refine c_isWd (v := 77) (nm := nAny) R4 rfl ⟨by decide, by decide⟩ ?_
  cases ca : isWd nAny t4 with
  | true =>
    refine itn (by decide) ?_
    have hk4 := of_decide_eq_true ca
    obtain ⟨-, k2, k3⟩ := R4.hd.1.name (Or.inl hk4.1)
    rw [hk4.2] at k3
    refine k_next (hI _) R4 ⟨x4, u4, e4, f4⟩ (by omega) (fun A5 M5 p5 R5 i5 => ?_)
    refine j60 A5 nAny t4.tail M5 77 p5 R5 i5 ?_ (p5.subset k3) (by rw [hph _ (if_pos ca)])
    exact (nc_at R5.1.1 (R5.1.2.1.at (i := 77) (by decide +kernel))).symm
  | false =>
    have na : ¬ isWd nAny t4 = true := by rw [ca]; decide
    refine itp (by decide) (k_className (hI _) R4 ⟨x4, u4, e4, f4⟩ (fun A5 k t5 M5 a5 p5 hk R5 i5 => ?_) (fun A' e M' a5 p5 th iv => hX A' e M' (by unfold sHandler; rw [hph _ (by rw [if_neg na, a5])]) (q4.trans p5) th iv.1))
    exact j60 A5 k t5 M5 _ p5 R5 i5 (nc_pre p5 hk).symm (p5.subset hk) (by rw [hph _ (by rw [if_neg na, a5])])
