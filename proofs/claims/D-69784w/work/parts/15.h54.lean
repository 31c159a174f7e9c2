/-! THE OPERATION asked: its line, in the works -/
def pA3 (k m : Nm) (ks : List Kd) (ts : List Tok) : (Nat × Nat) ⊕ (Nm × Nm × List Kd × Kd) := match pRes ts with
  | .inl e => .inl e
  | .inr (κ, t2) => match pEnd t2 with
    | some e => .inl e
    | none => .inr (k, m, ks, κ)
def pA2 (k m : Nm) (ts : List Tok) : (Nat × Nat) ⊕ (Nm × Nm × List Kd × Kd) := match pTypes true ts with
  | .inl e => .inl e
  | .inr (ks, t1) => pA3 k m ks t1
def pA1 (k : Nm) (ts : List Tok) : (Nat × Nat) ⊕ (Nm × Nm × List Kd × Kd) := match pName ts with
  | .inl e => .inl e
  | .inr (m, t1) => pA2 k m t1
def pA0 (k : Nm) (ts : List Tok) : (Nat × Nat) ⊕ (Nm × Nm × List Kd × Kd) := match pSign 46 ts with
  | .inl e => .inl e
  | .inr (_, t1) => pA1 k t1
/-- a member that is asked for: class, name, arguments, result -/
def pAsk (ts : List Tok) : (Nat × Nat) ⊕ (Nm × Nm × List Kd × Kd) := match pCls ts with
  | .inl e => .inl e
  | .inr (k, t1) => pA0 k t1
theorem pTypesF_six : ∀ d acc ts ks t', acc.length ≤ 6 → pTypesF true d acc ts = .inr (ks, t') → ks.length ≤ 6 := by
  intro d
  induction d with
  | zero => intro acc ts ks t' _ h; unfold pTypesF at h; cases h
  | succ d ih =>
    intro acc ts ks t' ha h
    unfold pTypesF at h
    by_cases c : (hd ts).1 = 41
    · rw [if_pos c] at h; cases h; exact ha
    · rw [if_neg c] at h
      split at h
      · cases h
      · split at h
        · cases h
        · rename_i q
          split at h
          · cases h
          · refine ih _ _ _ _ ?_ h
            rw [List.length_append, List.length_singleton]
            have : ¬ acc.length = 6 := fun z => q ⟨rfl, z⟩
            omega
theorem pTypes_six {ts t' : List Tok} {ks : List Kd} (h : pTypes true ts = .inr (ks, t')) : ks.length ≤ 6 := by
  unfold pTypes at h
  split at h
  · cases h
  · exact pTypesF_six _ _ _ _ _ (by show 0 ≤ 6; omega) h
def Cj (w : Nat) (ks : List Kd) (M0 : Mem) (A : List Nm) (M : Mem) : Prop := Ci0 w M0 M ∧ LT A ks M ∧ mI M 3 0 17 = 0
theorem Cj.pv {w : Nat} {ks : List Kd} {M0 : Mem} : PV (fun A M => Cj w ks M0 A M) := fun _ _ _ _ h hp _ hf => ⟨h.1.fr hf, (h.2.1.fr hf).pre hp, (hf.I (f := 3) (k := 17) rfl 0).trans h.2.2⟩
theorem Ci0.pw {w : Nat} {M0 : Mem} {v : Int32} : PW (fun _ M => Ci0 w M0 M ∧ mI M 3 0 17 = v) := fun _ _ _ _ h _ _ hk =>
  ⟨⟨⟨fun i j => (hk.1.Ia (f := 76) rfl rfl i j).trans (h.1.1.1 i j), fun i j q => (hk.2 i j q).trans (h.1.1.2.1 i j q), fun i => (hk.1.I (f := 5) (k := 53) rfl i).trans (h.1.1.2.2 i)⟩, ⟨fun i => (hk.1.L (f := 211) rfl i).trans (h.1.2.1.1 i), fun i => (hk.1.L (f := 76) rfl i).trans (h.1.2.1.2 i)⟩, (hk.1.L (f := 30) rfl 0).trans h.1.2.2.1, (hk.1.R (f := 3) (k := 1) rfl 0).trans h.1.2.2.2⟩, (hk.1.I (f := 3) (k := 17) rfl 0).trans h.2⟩
theorem Thr.s17 {B A : List Nm} {e : Nat × Nat} {M : Mem} {v : Int32} (h : Thr B A e M) : Thr B A e (sI M 3 0 17 v) := ⟨⟨h.1.1.of rfl (fun _ => rfl) (fun _ => rfl) (fun _ => rfl) (fun _ => rfl) rfl rfl rfl rfl, h.1.2⟩, h.2.1, h.2.2⟩
section
variable {B : List Nm} {r n : Nat} {p : Nat → Int32} {to : Nat} {w : Nat} {Q X : Mem → Prop}
theorem c_rasked {A : List Nm} {ts : List Tok} {M : Mem} (hR : RS B r n p to A ts M) (h17 : mI M 3 0 17 = 0) (hl0 : mL M 211 0 = 3100) (hl30 : mL M 30 0 = 6) (h76 : 16 ≤ mL M 76 w) (h76' : mL M 76 w < 1000000) (h212 : 24 ≤ mL M 211 (2 * w + 2)) (h212' : mL M 211 (2 * w + 2) < 1000000)
    (hQ : ∀ A' k m ks κ t2 M', pAsk ts = .inr (k, m, ks, κ) → A <+: A' → RS B r n p to A' t2 M' → Tk w 3 M M' → cRf A' w 3 k m ks κ M' → ks.length ≤ 6 → mI M' 3 0 17 = 0 → Q M')
    (hX : ∀ A' e M', pAsk ts = .inl e → A <+: A' → Thr B A' e M' → Tk w 3 M M' → mI M' 3 0 17 = 0 → X M') : w_Reader_asked 0 w Q X M := by
  unfold w_Reader_asked
  refine ⟨w, by rw [mR_sR, if_pos ⟨rfl, rfl, rfl⟩], ?_⟩
  have R1 : RS B r n p to A ts (sR M 3 0 1 (some (5, w))) := hR.of rfl (fun _ => rfl) (fun _ => rfl) (fun _ => rfl) (fun _ => rfl) rfl rfl rfl rfl (by rw [mR_sR, if_neg (fun z => absurd z.1 (by decide))]) rfl rfl (by rw [mR_sR, if_neg (fun z => absurd z.1 (by decide))]) rfl rfl (fun _ => rfl) rfl
  have i1 : Ci0 w M (sR M 3 0 1 (some (5, w))) ∧ mI (sR M 3 0 1 (some (5, w))) 3 0 17 = 0 := ⟨⟨⟨fun _ _ => rfl, fun _ _ _ => rfl, fun _ => rfl⟩, ⟨fun _ => rfl, fun _ => rfl⟩, hl30, by rw [mR_sR, if_pos ⟨rfl, rfl, rfl⟩]⟩, h17⟩
  have e53 : mI (sR M 3 0 1 (some (5, w))) 5 w 53 = mI M 5 w 53 := rfl
  rw [e53]
  generalize sR M 3 0 1 (some (5, w)) = M1 at R1 i1
  refine k_className Ci0.pw R1 i1 (fun A2 k t2 M2 a2 p2 hk R2 i2 => ?_) (fun A' e M' a p th iv => hX A' e M' (by unfold pAsk; rw [a]) p th iv.1.tk iv.2)
  have hp1 : pAsk ts = pA0 k t2 := by unfold pAsk; rw [a2]
  rw [hp1] at hQ hX
  rw [lit32 46]
  refine k_sign Ci0.pw R2 i2 (by omega) (by omega) (fun A3 M3 a3 p3 R3 i3 => ?_) (fun A' M' a p th iv => hX A' (er t2) M' (by unfold pA0; rw [show pSign 46 t2 = .inl (er t2) from if_neg a]) (p2.trans p) th iv.1.tk iv.2)
  have hp2 : pA0 k t2 = pA1 k t2.tail := by unfold pA0; rw [show pSign 46 t2 = .inr ((), t2.tail) from if_pos a3]
  rw [hp2] at hQ hX
  refine k_anyName Ci0.pw R3 i3 (fun A4 m t4 M4 a4 p4 hm R4 i4 => ?_) (fun A' e M' a p th iv => hX A' e M' (by unfold pA1; rw [a]) ((p2.trans p3).trans p) th iv.1.tk iv.2)
  have hp3 : pA1 k t2.tail = pA2 k m t4 := by unfold pA1; rw [a4]
  rw [hp3] at hQ hX
  have p24 := (p2.trans p3).trans p4
  refine ⟨Or.inr rfl, ?_⟩
  refine k_types (strict := true) (Inv := fun _ M' => Ci0 w M M' ∧ mI M' 3 0 17 = 1) Ci0.pw R4.s3 ⟨⟨i4.1.1, i4.1.2.1, i4.1.2.2.1, i4.1.2.2.2⟩, by rw [mI_sI, if_pos ⟨rfl, rfl, rfl⟩]⟩ ((i4.1.2.1.1 0).trans hl0) (by rw [mI_sI, if_pos ⟨rfl, rfl, rfl⟩]; rfl) (fun A5 ks t5 M5 a5 p5 R5 l5 i5 => ?_) (fun A' e M' a p th iv => ?_)
  · have hp4 : pA2 k m t4 = pA3 k m ks t5 := by unfold pA2; rw [a5]
    rw [hp4] at hQ hX
    refine ⟨Or.inl rfl, ?_⟩
    refine o_result (Inv := fun A M' => Cj w ks M A M') Cj.pv R5.s3 ⟨⟨i5.1.1, i5.1.2.1, i5.1.2.2.1, i5.1.2.2.2⟩, ⟨l5.1, l5.2.1, l5.2.2.1, l5.2.2.2⟩, by rw [mI_sI, if_pos ⟨rfl, rfl, rfl⟩]⟩ (fun A6 κ t6 M6 a6 p6 hκ R6 i6 => ?_) (fun A' e M' a p th iv => hX A' e M' (by unfold pA3; rw [a]) ((p24.trans p5).trans p) th iv.1.tk iv.2.2)
    have p26 := (p24.trans p5).trans p6
    refine o_end Cj.pv R6 i6 (fun q => ?_) (fun M' q th iv => hX A6 (er t6) M' (by unfold pA3; rw [a6]; dsimp only; rw [show pEnd t6 = some (er t6) from if_neg q]) p26 th iv.1.tk iv.2.2)
    have hw1 : mR M6 3 0 1 = some (5, w) := i6.1.2.2.2
    refine ⟨w, hw1, ?_⟩
    have h6 := pTypes_six a5
    have ek : nc A k = nc A6 k := (nc_pre p26 hk).symm
    have em : nc A3 m = nc A6 m := (nc_pre ((p4.trans p5).trans p6) hm).symm
    have eκ : kC A5 κ = kC A6 κ := (kC_pre p6 hκ).symm
    rw [ek, em, eκ, lit32 3]
    refine c_addRefT (w := w) (t := 3) (ks := ks) (by omega) hw1 (by rw [mI_sI, if_pos ⟨rfl, rfl, rfl⟩]) ⟨i6.2.1.1, i6.2.1.2.1, i6.2.1.2.2.1, i6.2.1.2.2.2⟩ h6 ?_ ?_ ?_ ?_ (p26.subset hk) (((p4.trans p5).trans p6).subset hm) (kok_pre p6 hκ) (fun M' x c => ?_)
    · show 16 ≤ mL M6 76 w; rw [i6.1.2.1.2]; exact h76
    · show mL M6 76 w < 1000000; rw [i6.1.2.1.2]; exact h76'
    · show 24 ≤ mL M6 211 (2 * w + 2); rw [i6.1.2.1.1]; exact h212
    · show mL M6 211 (2 * w + 2) < 1000000; rw [i6.1.2.1.1]; exact h212'
    refine ⟨w, (x.2.2.2.2.2.1 3 0 1).trans hw1, ?_⟩
    refine hQ A6 k m ks κ t6 _ (by unfold pA3; rw [a6]; dsimp only; rw [show pEnd t6 = none from if_pos q]) p26 (RS.w (x.rs (RS.w R6))) ⟨fun i j a => ?_, fun i j a b => ?_, fun i => ?_⟩ c h6 ((x.2.2.2.1 3 0 17 (by omega) (by omega) (by omega)).trans i6.2.2)
    · exact (x.1 i j a).trans (i6.1.1.1 i j)
    · exact (x.2.1 i j b).trans (i6.1.1.2.1 i j a)
    · by_cases ei : i = w
      · rw [ei, mI_sI, if_pos ⟨rfl, rfl, rfl⟩]
      · rw [mI_sI, if_neg (fun z => ei z.2.1), x.2.2.1 i 53 (Or.inl ei), mI_sI, if_neg (fun z => ei z.2.1)]; exact i6.1.1.2.2 i
  · refine ⟨1, ?_⟩
    unfold w_Reader_asked_L47
    exact ⟨Or.inl rfl, rfl, hX A' e _ (by unfold pA2; rw [a]) (p24.trans p) th.s17 ⟨fun i j a => iv.1.1.1 i j, fun i j a _ => iv.1.1.2.1 i j a, iv.1.1.2.2⟩ (by rw [mI_sI, if_pos ⟨rfl, rfl, rfl⟩])⟩
end
