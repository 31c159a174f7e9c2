/-! THE OPERATIONS call, asked: the tape is a line, in the works -/
/-- a text of one line -/
def takO {α : Type} (pf : List Tok → (Nat × Nat) ⊕ α) (n : Nat) (ls : List (List Tok)) : (Nat × Nat) ⊕ α := match ls with
  | [] => .inl (1, n)
  | l :: rest => match pf l with
    | .inl e => .inl e
    | .inr x => match rest with
      | [] => .inr x
      | l2 :: _ => .inl (er l2)
theorem lns_zero {p : Nat → Int32} (hp0 : tend p 0) : lns p 0 0 = [] := by
  have h10 : p 0 = 10 := hp0 0 (by omega)
  have hnl : nl p 0 0 = 0 := by
    have := nl_ok (p := p) (n := 0) (a := 0) hp0 (by omega)
    omega
  rw [lns_eq hp0 (by omega), hnl]
  have htk0 : (hd (full 0 (tks p 0 0))).1 = 0 := by
    rw [full_hd (tks_ne hp0 (by omega)), tks_hd hp0 (by omega)]
    have hsk : scn (fun b => b == 32) p 0 0 = 0 := scn_f (by rw [h10]; decide)
    have : lex p 0 0 = lex1 p 0 0 := by unfold lex; rw [hsk]
    rw [this]
    have : lex1 p 0 0 = ((0, [], 0, scn (fun b => b != 10) p 0 0), 0) := if_pos (Or.inr h10)
    rw [this]
  rw [if_pos htk0]
  unfold rln; rw [if_neg (by omega)]
abbrev FTk : Nat := F_Reader_call ||| F_Reader_asked ||| F_Reader_begin ||| F_Reader_nextLine
theorem Tk.fr {w t : Nat} {M M' : Mem} {S : Nat} (hf : Fr S M M') (h1 : S.testBit 76 = false := by rfl) (h2 : S.testBit 211 = false := by rfl) (h3 : S.testBit (cd 5 53) = false := by rfl) : Tk w t M M' := ⟨fun i j _ => hf.Ia rfl h1 i j, fun i j _ _ => hf.Ia rfl h2 i j, fun i => hf.I h3 i⟩
section
variable {B : List Nm} {w t : Nat} {Q : Int32 → Mem → Prop} {α : Type} {pf : List Tok → (Nat × Nat) ⊕ α} {P : α → List Nm → Mem → Prop} {tp : List Int32} {A : List Nm} {M : Mem} {a2 : Int32}
theorem c_taken (hTp : tpC tp M) (hn : tp.length ≤ 2900) (hN : NC B A M) (hB : ∀ l ∈ lns (pT tp) tp.length 0, NB B l) (h17 : mI M 3 0 17 = 0)
    (hP : ∀ x A A' M M', P x A M → A <+: A' → A'.length < 41200 → Fr F_Reader_nextLine M M' → P x A' M')
    (hW : ∀ A1 to l M5 (Q X : Mem → Prop), RS B 0 tp.length (pT tp) to A1 l M5 → mI M5 3 0 17 = 0 → (∀ f i, FTk.testBit (5000 + f) = false → mL M5 f i = mL M f i) → (∀ A' x t2 M', pf l = .inr x → A1 <+: A' → RS B 0 tp.length (pT tp) to A' t2 M' → P x A' M' → Tk w t M5 M' → mI M' 3 0 17 = 0 → Fr FTk M5 M' → Q M') → (∀ A' e M', pf l = .inl e → A1 <+: A' → Thr B A' e M' → Tk w t M5 M' → mI M' 3 0 17 = 0 → Fr FTk M5 M' → X M') → (if a2 = 3 then w_Reader_asked 0 w Q X M5 else w_Reader_call 0 w a2 Q X M5))
    (hQ : ∀ A' x M', takO pf tp.length (lns (pT tp) tp.length 0) = .inr x → A <+: A' → NC B A' M' → P x A' M' → Tk w t M M' → tpC [] M' → mI M' 10 0 21 = -2 → mI M' 3 0 17 = 0 → Q 1 M')
    (hX : ∀ A' e M', takO pf tp.length (lns (pT tp) tp.length 0) = .inl e → A <+: A' → NC B A' M' → Tk w t M M' → tpC [] M' → mI M' 10 0 21 = Int32.ofNat e.2 → mI M' 3 0 17 = 0 → Q 0 M') : w_Works_isTaken 0 w a2 Q M := by
  obtain ⟨t1, t2, t3, t4⟩ := hTp
  unfold w_Works_isTaken w_Words_begin
  rw [t1]
  refine ⟨_, rfl, ?_⟩
  generalize hM1 : sI (sI (sR (sI (sI M 10 0 1 0) 10 0 21 (-2)) 2 0 0 (some (400, 0))) 2 0 1 (Int32.ofNat tp.length)) 2 0 2 0 = M1
  have i9 : ∀ f i k, f ≠ 10 → f ≠ 2 → mI M1 f i k = mI M f i k := fun f i k h1 h2 => by
    rw [← hM1, mI_sI, if_neg (fun q => h2 q.1), mI_sI, if_neg (fun q => h2 q.1)]
    show mI (sI (sI M 10 0 1 0) 10 0 21 (-2)) f i k = _
    rw [mI_sI, if_neg (fun q => h1 q.1), mI_sI, if_neg (fun q => h1 q.1)]
  have j9 : ∀ f i k, mJ M1 f i k = mJ M f i k := fun f i k => by rw [← hM1]; rfl
  have l9 : ∀ f i, mL M1 f i = mL M f i := fun f i => by rw [← hM1]; rfl
  have c1 : mI M1 10 0 1 = 0 := by rw [← hM1]; simp only [mI_sI, mI_sR, mI_sJ, mR_sI, mL_sI, mL_sR, mR_sR, Nat.reduceEqDiff, and_false, false_and, if_false, and_self, true_and, and_true, if_true]
  have c21 : mI M1 10 0 21 = -2 := by rw [← hM1]; simp only [mI_sI, mI_sR, mI_sJ, mR_sI, mL_sI, mL_sR, mR_sR, Nat.reduceEqDiff, and_false, false_and, if_false, and_self, true_and, and_true, if_true]
  have m20 : mR M1 2 0 0 = some (400, 0) := by rw [← hM1]; rfl
  have m21 : mI M1 2 0 1 = Int32.ofNat tp.length := by rw [← hM1]; rfl
  have m22 : mI M1 2 0 2 = Int32.ofNat 0 := by rw [← hM1]; rfl
  clear hM1
  have tk1 : Tk w t M M1 := ⟨fun i j _ => i9 76 i j (by omega) (by omega), fun i j _ _ => i9 211 i j (by omega) (by omega), fun i => i9 5 i 53 (by omega) (by omega)⟩
  have hN9 : NC B A M1 := ⟨hN.1.of (i9 1 0 4 (by omega) (by omega)) (fun k => i9 20 0 k (by omega) (by omega)) (fun k => i9 21 0 k (by omega) (by omega)) (fun k => i9 22 0 k (by omega) (by omega)) (fun k => j9 600 0 k) (l9 20 0) (l9 21 0) (l9 22 0) (l9 600 0), hN.2⟩
  have hBT9 : BT B 0 tp.length (pT tp) A M1 := ⟨hN9, ⟨⟨m20, m21⟩, by rw [l9, t2]; exact t3, by omega, fun k hk => by rw [i9 400 0 k (by omega) (by omega), t4 k hk, pT_in hk], pT_end tp⟩, hn⟩
  have e17 : mI M1 3 0 17 = 0 := (i9 3 0 17 (by omega) (by omega)).trans h17
  -- what is left when it was no line
  have bad : ∀ A' e M', takO pf tp.length (lns (pT tp) tp.length 0) = .inl e → A <+: A' → Thr B A' e M' → Tk w t M M' → mI M' 10 0 1 = 0 → mL M' 400 0 = 6000 → mI M' 3 0 17 = 0 → w_Works_isTaken_j105 0 Q 0 M' := fun A' e M' h1 h2 h3 h4 h5 h6 h7 => by
    unfold w_Works_isTaken_j105
    refine hX A' e _ h1 h2 ⟨h3.1.1.of rfl (fun _ => rfl) (fun _ => rfl) (fun _ => rfl) (fun _ => rfl) rfl rfl rfl rfl, h3.1.2⟩ ⟨h4.1, h4.2.1, h4.2.2⟩ ⟨?_, h6, by simp, fun j hj => absurd hj (by simp)⟩ ?_ h7
    · rw [mI_sI, if_neg (fun z => absurd z.2.2 (by decide))]; exact h5
    · rw [mI_sI, if_pos ⟨rfl, rfl, rfl⟩]; exact h3.2.2
  have j45 : ∀ A' M', lns (pT tp) tp.length 0 = [] → A <+: A' → NC B A' M' → Tk w t M M' → mI M' 10 0 1 = 0 → mL M' 400 0 = 6000 → mI M' 3 0 17 = 0 → w_Works_isTaken_j45 0 Q (Int32.ofNat tp.length) M' := fun A' M' h1 h2 h3 h4 h5 h6 h7 => by
    unfold w_Works_isTaken_j45 w_Works_refuse
    exact bad A' (1, tp.length) _ (by rw [h1]; rfl) h2 ⟨h3.r9, rfl, rfl⟩ ⟨h4.1, h4.2.1, h4.2.2⟩ h5 h6 h7
  by_cases hn0 : tp.length = 0
  · refine itp (by rw [hn0]; rfl) (j45 A M1 ?_ (List.prefix_refl _) hN9 tk1 c1 ((l9 400 0).trans t2) e17)
    have := pT_end tp
    rw [hn0] at this ⊢
    exact lns_zero this
  refine itn (ne_oN (b := 0) hn0 (by omega) (by omega)) ?_
  refine mf_w_Reader_begin (Q := fun v M' => Fr F_Reader_begin M1 M' → (if v = 0 then w_Works_isTaken_j45 0 Q (Int32.ofNat tp.length) M' else (if a2 = 3 then w_Reader_asked 0 w (fun M9 => w_Works_isTaken_j77 0 Q M9) (fun M15 => w_Works_isTaken_j105 0 Q 0 M15) M' else w_Reader_call 0 w a2 (fun M16 => w_Works_isTaken_j77 0 Q M16) (fun M17 => w_Works_isTaken_j105 0 Q 0 M17) M'))) (fun _ _ hf hp => hp hf) (c_begin hBT9 m22 (by omega) hB (fun A1 M5 e0 p1 bt1 hf => ?_) (fun A1 to l M5 e0 p1 R1 hln1 h11 hf => ?_))
  · exact itp rfl (j45 A1 M5 e0 p1 bt1.1 (tk1.trans (Tk.fr hf)) ((hf.I (f := 10) (k := 1) rfl 0).trans c1) ((hf.L (f := 400) rfl 0).trans ((l9 400 0).trans t2)) ((hf.I (f := 3) (k := 17) rfl 0).trans e17))
  · refine itn (by decide) ?_
    have tk5 := tk1.trans (Tk.fr (w := w) (t := t) hf)
    have f1 : mI M5 10 0 1 = 0 := (hf.I (f := 10) (k := 1) rfl 0).trans c1
    have f21 : mI M5 10 0 21 = -2 := (hf.I (f := 10) (k := 21) rfl 0).trans c21
    have f400 : mL M5 400 0 = 6000 := (hf.L (f := 400) rfl 0).trans ((l9 400 0).trans t2)
    refine hW A1 to l M5 _ _ R1 ((hf.I (f := 3) (k := 17) rfl 0).trans e17) (fun f i hS => ((hf.sub (S' := FTk) rfl).L hS i).trans (l9 f i)) (fun A2 x t2' M6 a2' p2 R2 i2 tk6 g17 hf2 => ?_) (fun A2 e M6 a2' p2 th tk6 g17 hf2 => bad A2 e M6 (by rw [e0]; unfold takO; dsimp only; rw [a2']) (p1.trans p2) th (tk5.trans tk6) ((hf2.I (f := 10) (k := 1) rfl 0).trans f1) ((hf2.L (f := 400) rfl 0).trans f400) g17)
    have k1 : mI M6 10 0 1 = 0 := (hf2.I (f := 10) (k := 1) rfl 0).trans f1
    have k21 : mI M6 10 0 21 = -2 := (hf2.I (f := 10) (k := 21) rfl 0).trans f21
    have k400 : mL M6 400 0 = 6000 := (hf2.L (f := 400) rfl 0).trans f400
    unfold w_Works_isTaken_j77
    refine mf_w_Reader_nextLine (Q := fun v M' => Fr F_Reader_nextLine M6 M' → (if v = 0 then Q 1 M' else w_Works_refuse 0 1 (mI M' 2 0 4) (fun i14 M13 => w_Works_isTaken_j105 0 Q i14 M13) M')) (fun _ _ hf hp => hp hf) (c_nextLine R2 (fun l' hl' => hB l' (by rw [e0]; exact List.mem_cons_of_mem _ hl')) (fun A3 M7 z1 z2 z3 hf3 => ?_) (fun A3 to' l' M7 z1 z2 z3 z4 z5 hf3 => ?_))
    · refine itp rfl (hQ A3 x M7 (by rw [e0]; unfold takO; dsimp only; rw [a2', z1]) ((p1.trans p2).trans z2) z3.1 (hP x A2 A3 M6 M7 i2 z2 z3.1.len hf3) ((tk5.trans tk6).trans (Tk.fr hf3)) ⟨(hf3.I (f := 10) (k := 1) rfl 0).trans k1, (hf3.L (f := 400) rfl 0).trans k400, by simp, fun j hj => absurd hj (by simp)⟩ ((hf3.I (f := 10) (k := 21) rfl 0).trans k21) ((hf3.I (f := 3) (k := 17) rfl 0).trans g17))
    · refine itn (by decide) ?_
      unfold w_Works_refuse
      have tk7 := (tk5.trans tk6).trans (Tk.fr (w := w) (t := t) hf3)
      refine bad A3 (er l') _ (by rw [e0]; unfold takO; dsimp only; rw [a2', z1]) ((p1.trans p2).trans z2) ⟨z3.1.r9, rfl, ?_⟩ ⟨tk7.1, tk7.2.1, tk7.2.2⟩ ((hf3.I (f := 10) (k := 1) rfl 0).trans k1) ((hf3.L (f := 400) rfl 0).trans k400) ((hf3.I (f := 3) (k := 17) rfl 0).trans g17)
      rw [mI_sI, if_pos ⟨rfl, rfl, rfl⟩]
      exact z3.hd.1.1
/-- a call's line -/
def Pc (w t : Nat) (x : Nm × Nm × Kd × List Int32) (A : List Nm) (M : Mem) : Prop := cRf A w t x.1 x.2.1 (kNs x.2.2.2.length) x.2.2.1 M ∧ (∀ i, i < x.2.2.2.length → mI M 30 0 i = x.2.2.2.getD i 0) ∧ x.2.2.2.length ≤ 6
theorem c_takenC (ht : t < 3) (hTp : tpC tp M) (hn : tp.length ≤ 2900) (hN : NC B A M) (hB : ∀ l ∈ lns (pT tp) tp.length 0, NB B l) (hRd : cRd M) (hl30 : mL M 30 0 = 6) (h76 : 4 * t + 4 ≤ mL M 76 w) (h76' : mL M 76 w < 1000000) (h212 : 6 * t + 6 ≤ mL M 211 (2 * w + 2)) (h212' : mL M 211 (2 * w + 2) < 1000000)
    (hQ : ∀ A' x M', takO pCall tp.length (lns (pT tp) tp.length 0) = .inr x → A <+: A' → NC B A' M' → Pc w t x A' M' → Tk w t M M' → tpC [] M' → mI M' 10 0 21 = -2 → mI M' 3 0 17 = 0 → Q 1 M')
    (hX : ∀ A' e M', takO pCall tp.length (lns (pT tp) tp.length 0) = .inl e → A <+: A' → NC B A' M' → Tk w t M M' → tpC [] M' → mI M' 10 0 21 = Int32.ofNat e.2 → mI M' 3 0 17 = 0 → Q 0 M') : w_Works_isTaken 0 w (Int32.ofNat t) Q M := by
  refine c_taken (P := Pc w t) (pf := pCall) hTp hn hN hB hRd.1 (fun x A A' M M' h hp _ hf => ⟨(h.1.fr hf).pre hp, fun i hi => (hf.Ia (f := 30) rfl rfl 0 i).trans (h.2.1 i hi), h.2.2⟩) (fun A1 to l M5 Q X R1 h17 hl hq hx => ?_) hQ hX
  refine itn (ne_oN (b := 3) (by omega) (by omega) (by omega)) ?_
  refine mf_w_Reader_call (Q := fun M' => Fr F_Reader_call M5 M' → Q M') (X := fun M' => Fr F_Reader_call M5 M' → X M') (fun _ hf hp => hp hf) (fun _ hf hp => hp hf) (c_rcall R1 (by omega) ((hl 211 0 rfl).trans hRd.2.2) ((hl 30 0 rfl).trans hl30) (by rw [hl 76 w rfl]; exact h76) (by rw [hl 76 w rfl]; exact h76') (by rw [hl 211 _ rfl]; exact h212) (by rw [hl 211 _ rfl]; exact h212') (fun A' k m κ vs t2 M' a b c d e f g hf => ?_) (fun A' e M' a b c d hf => ?_))
  · exact hq A' (k, m, κ, vs) t2 M' a b c ⟨e, f, g⟩ d ((hf.I (f := 3) (k := 17) rfl 0).trans h17) (hf.sub rfl)
  · exact hx A' e M' a b c d ((hf.I (f := 3) (k := 17) rfl 0).trans h17) (hf.sub rfl)
/-- the line of what is asked -/
def Pa (w : Nat) (x : Nm × Nm × List Kd × Kd) (A : List Nm) (M : Mem) : Prop := cRf A w 3 x.1 x.2.1 x.2.2.1 x.2.2.2 M ∧ x.2.2.1.length ≤ 6
theorem c_takenA (hTp : tpC tp M) (hn : tp.length ≤ 2900) (hN : NC B A M) (hB : ∀ l ∈ lns (pT tp) tp.length 0, NB B l) (hRd : cRd M) (hl30 : mL M 30 0 = 6) (h76 : 16 ≤ mL M 76 w) (h76' : mL M 76 w < 1000000) (h212 : 24 ≤ mL M 211 (2 * w + 2)) (h212' : mL M 211 (2 * w + 2) < 1000000)
    (hQ : ∀ A' x M', takO pAsk tp.length (lns (pT tp) tp.length 0) = .inr x → A <+: A' → NC B A' M' → Pa w x A' M' → Tk w 3 M M' → tpC [] M' → mI M' 10 0 21 = -2 → mI M' 3 0 17 = 0 → Q 1 M')
    (hX : ∀ A' e M', takO pAsk tp.length (lns (pT tp) tp.length 0) = .inl e → A <+: A' → NC B A' M' → Tk w 3 M M' → tpC [] M' → mI M' 10 0 21 = Int32.ofNat e.2 → mI M' 3 0 17 = 0 → Q 0 M') : w_Works_isTaken 0 w 3 Q M := by
  refine c_taken (t := 3) (P := Pa w) (pf := pAsk) hTp hn hN hB hRd.1 (fun x A A' M M' h hp _ hf => ⟨(h.1.fr hf).pre hp, h.2⟩) (fun A1 to l M5 Q X R1 h17 hl hq hx => ?_) hQ hX
  refine itp rfl ?_
  refine mf_w_Reader_asked (Q := fun M' => Fr F_Reader_asked M5 M' → Q M') (X := fun M' => Fr F_Reader_asked M5 M' → X M') (fun _ hf hp => hp hf) (fun _ hf hp => hp hf) (c_rasked R1 h17 ((hl 211 0 rfl).trans hRd.2.2) ((hl 30 0 rfl).trans hl30) (by rw [hl 76 w rfl]; exact h76) (by rw [hl 76 w rfl]; exact h76') (by rw [hl 211 _ rfl]; exact h212) (by rw [hl 211 _ rfl]; exact h212') (fun A' k m ks κ t2 M' a b c d e f g hf => ?_) (fun A' e M' a b c d g hf => ?_))
  · exact hq A' (k, m, ks, κ) t2 M' a b c ⟨e, f⟩ d g (hf.sub rfl)
  · exact hx A' e M' a b c d g (hf.sub rfl)
end
