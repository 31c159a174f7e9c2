/-! THE MACHINE: what holds of it -/
def FmO (W : List Cls) (s : Ms) (f : Fm) : Prop := (21 ≤ f.1 ∧ f.1 < W.length ∧ (zL s).1 f.1 = 1) ∧ f.2.1 < (gc W f.1).2.2.2.2.2.length ∧ f.2.2.1 < (co (gmt (gc W f.1) f.2.1)).length ∧ f.2.2.2.1.length = 20 ∧ ∀ v ∈ f.2.2.2.1, v.2 = true → vRf s v.1
/-- what a call leaves on the stack -/
abbrev kRs (W : List Cls) (c : Nat) (x : Mth) (a : Nat) : List Kd := (kAt W c x a).2.take ((kAt W c x a).2.length - (wlist W c x (gin (co x) a)).length)
/-- a frame at its instruction, or in a call that gives κ -/
def FmU (W : List Cls) (s : Ms) (f : Fm) : Option Kd → Prop
  | none => at_ W s f.1 (gmt (gc W f.1) f.2.1) f.2.2.1 f.2.2.2.1 f.2.2.2.2
  | some κ => (isMo (gin (co (gmt (gc W f.1) f.2.1)) f.2.2.1).1 ∧ iR (gin (co (gmt (gc W f.1) f.2.1)) f.2.2.1) = κ) ∧ cvL W s f.1 (co (gmt (gc W f.1) f.2.1)) (kAt W f.1 (gmt (gc W f.1) f.2.1) f.2.2.1).1 f.2.2.2.1 ∧ (kRs W f.1 (gmt (gc W f.1) f.2.1) f.2.2.1).length = f.2.2.2.2.length ∧ cvL W s f.1 (co (gmt (gc W f.1) f.2.1)) (kRs W f.1 (gmt (gc W f.1) f.2.1) f.2.2.1) f.2.2.2.2
def sts : List Un → List Nat
  | [] => []
  | .inl _ :: U => sts U
  | .inr k :: U => k.1 :: sts U
def stOk (W : List Cls) (s : Ms) (t k : Nat) : Prop := (21 ≤ k ∧ k < W.length) ∧ (zL s).1 k = 1 ∧ zC s k = 1 ∧ zO s k = Int32.ofNat t
def UO (W : List Cls) (s : Ms) (t : Nat) : Option Kd → List Un → Prop
  | _, [] => True
  | o, .inl f :: U => FmO W s f ∧ FmU W s f o ∧ UO W s t (some (gmt (gc W f.1) f.2.1).2.2.1) U
  | o, .inr k :: U => k.2 = o.isSome ∧ stOk W s t k.1 ∧ UO W s t none U
/-- objects -/
abbrev gKd (s : Ms) (i : Nat) : Kd := (zH s).2.2.2.2.2 i
def obO (W : List Cls) (s : Ms) (r : Nat) : Prop := match (gOb s r).1 with
  | none => (gOb s r).2.2.1 ≤ 300 ∧ ∀ k, k < (gOb s r).2.2.1 → gKd s ((gOb s r).2.1 + k) = (0, [])
  | some d => (d < W.length ∧ (zL s).1 d = 1) ∧ (gOb s r).2.2.1 = osz W d ∧ ∀ k, k < osz W d → gKd s ((gOb s r).2.1 + k) = gk (ofk W d) k
abbrev thr (s : Ms) (r : Nat) : Bool := (zH s).2.2.1 r
def HO (W : List Cls) (s : Ms) : Prop := ((thr s 0 = false ∧ ∀ r, 800 < r → thr s r = false) ∧ (zH s).1 = ((List.range 801).filter (thr s)).length ∧ (zH s).2.1 ≤ 4000) ∧
  (∀ r, thr s r = true → (gOb s r).2.1 + (gOb s r).2.2.1 ≤ (zH s).2.1 ∧ obO W s r) ∧
  ∀ i, i < (zH s).2.1 → tyOk (gKd s i) ∧ cv W s 0 [] (gKd s i) (gCell s i, decide ((gKd s i).1 ≠ 0))
/-- fixed fields -/
def SO (W : List Cls) (s : Ms) : Prop := (∀ c f, c < W.length → f < (gc W c).2.2.2.2.1.length → ¬ (gfl (gc W c) f).2.2.1 &&& 1 = 0 → cv W s 0 [] (gfl (gc W c) f).2.1 (zS s c f, decide ((gfl (gc W c) f).2.1.1 ≠ 0))) ∧ ∀ c f, zC s c = 0 → zS s c f = 0
def FtO (s : Ms) : Prop := ∀ f ∈ zF s, 1 ≤ f.1 ∧ f.1 < 21
/-- states of classes -/
def CO (W : List Cls) (s : Ms) : Prop := (∀ k, k < 21 → zC s k = 2) ∧ (∀ k, (zC s k = 0 ∨ zC s k = 1 ∨ zC s k = 2 ∨ zC s k = 3) ∧ (zC s k ≠ 0 → k < W.length ∧ (zL s).1 k = 1)) ∧ (zB s).Nodup ∧ ∀ k ∈ zB s, (21 ≤ k ∧ k < W.length) ∧ zC s k ≠ 0
def GL (W : List Cls) (s : Ms) : Prop := (LInv W (zL s).1 ∧ LB (zL s) ∧ KJ W (zL s).1) ∧ HO W s ∧ SO W s ∧ FtO s ∧ CO W s
/-- a thread, its units apart -/
def caO (c : Cal) : Prop := (c.2.1.2.1.length ≤ 6 ∧ ∀ κ ∈ c.2.1.2.1, κ = (0, [])) ∧ kdOk c.2.1.2.2.1 ∧ c.2.2.length = 6 ∧ c.2.1.1 ≠ nMake ∧ c.2.1.1 ≠ nStart
def LX (W : List Cls) (s : Ms) (t : Nat) : Prop := (lSt (zN s t) = 1 → lRs (zN s t) = (0, 0, -2, 0) ∧ caO (lCa (zN s t))) ∧ (lSt (zN s t) ≤ 2 ∧ lSp (zN s t) ≤ zK s) ∧ ∀ y, lWt (zN s t) = some y → match y with | .inl r => vRf s r ∧ r ≠ 0 | .inr k => k < W.length
def LO (W : List Cls) (s : Ms) (t : Nat) (o : Option Kd) (U : List Un) : Prop := UO W s t o U ∧ (sts U).Nodup ∧ frs U ≤ 40
/-- the machine, while thread t has units U -/
def MO (W : List Cls) (s : Ms) (t : Nat) (o : Option Kd) (U : List Un) : Prop := (GL W s ∧ (zE s).length ≤ 400 ∧ (zT s).1 < 3) ∧ (t < 3 ∧ ∀ t', t' < 3 → LX W s t') ∧ (∀ t', t' < 3 → t' ≠ t → LO W s t' none (gU s t') ∧ (lSt (zN s t') ≠ 1 → gU s t' = [])) ∧ LO W s t o U ∧ ∀ k, zC s k = 1 → k ∈ sts U ∨ ∃ t', t' < 3 ∧ t' ≠ t ∧ k ∈ sts (gU s t')
section
variable {W : List Cls} {s s' : Ms} {t : Nat} {o : Option Kd} {U : List Un}
theorem FmO.mono {f : Fm} (h : FmO W s f) (hs : sle s s') (hl : ∀ k, (zL s).1 k = 1 → (zL s').1 k = 1) : FmO W s' f := ⟨⟨h.1.1, h.1.2.1, hl _ h.1.2.2⟩, h.2.1, h.2.2.1, h.2.2.2.1, fun v hv hb => (hs _ (h.2.2.2.2 v hv hb)).1⟩
theorem FmU.mono {f : Fm} (h : FmU W s f o) (hs : sle s s') : FmU W s' f o := by
  cases o with
  | none => exact ⟨cvL.sle h.1 hs, h.2.1, cvL.sle h.2.2 hs⟩
  | some κ => exact ⟨h.1, cvL.sle h.2.1 hs, h.2.2.1, cvL.sle h.2.2.2 hs⟩
theorem UO.mono : ∀ {U : List Un} {o : Option Kd}, UO W s t o U → sle s s' → (∀ k, (zL s).1 k = 1 → (zL s').1 k = 1) → (∀ k ∈ sts U, zC s' k = zC s k ∧ zO s' k = zO s k) → UO W s' t o U
  | [], _, _, _, _, _ => trivial
  | .inl f :: U, o, h, hs, hl, hc => ⟨h.1.mono hs hl, h.2.1.mono hs, UO.mono h.2.2 hs hl hc⟩
  | .inr k :: U, o, h, hs, hl, hc => ⟨h.1, ⟨h.2.1.1, hl _ h.2.1.2.1, (hc k.1 List.mem_cons_self).1.trans h.2.1.2.2.1, (hc k.1 List.mem_cons_self).2.trans h.2.1.2.2.2⟩, UO.mono h.2.2 hs hl (fun k' hk' => hc k' (List.mem_cons_of_mem _ hk'))⟩
/-- starts of a thread are the thread's own -/
theorem UO.own : ∀ {U : List Un} {o : Option Kd}, UO W s t o U → ∀ k ∈ sts U, stOk W s t k
  | [], _, _, k, hk => absurd hk List.not_mem_nil
  | .inl f :: U, o, h, k, hk => UO.own h.2.2 k hk
  | .inr k0 :: U, o, h, k, hk => by
    rcases List.mem_cons.mp hk with z | z
    · rw [z]; exact h.2.1
    · exact UO.own h.2.2 k z
theorem sle_of (h : zH s' = zH s) (hf : zF s' = zF s) : sle s s' := fun r hr => by
  obtain ⟨n, e, hn⟩ := hr
  refine ⟨⟨n, e, by rw [h, hf]; exact hn⟩, ?_⟩
  have e1 : ∀ k, gFt s' k = gFt s k := fun k => by show (zF s').getD k _ = _; rw [hf]
  have e2 : ∀ k, gOb s' k = gOb s k := fun k => by show (zH s').2.2.2.1 k = _; rw [h]
  unfold clR
  rw [e1, e2]
theorem sle_f {l : List Ft} (h : zH s' = zH s) (hf : zF s' = zF s ++ l) : sle s s' := fun r hr => by
  obtain ⟨n, e, en, hn⟩ := hr.n
  have e1 : vRf s' r := ⟨n, e, by
    rw [hf, h, List.length_append]
    rcases hn with z | z | z
    · exact Or.inl z
    · exact Or.inr (Or.inl z)
    · exact Or.inr (Or.inr ⟨z.1, by omega, z.2.2⟩)⟩
  refine ⟨e1, ?_⟩
  unfold clR
  by_cases c : 800 < r.toNatClampNeg
  · rw [if_pos c, if_pos c]
    have hlt : r.toNatClampNeg - 801 < (zF s).length := by
      rcases hn with z | z | z <;> omega
    show some ((zF s').getD _ _).1 = some ((zF s).getD _ _).1
    rw [hf, List.getD_eq_getElem?_getD, List.getD_eq_getElem?_getD, List.getElem?_append_left hlt]
  · rw [if_neg c, if_neg c]
    show ((zH s').2.2.2.1 _).1 = ((zH s).2.2.2.1 _).1
    rw [h]
end
/-- what belongs to a world that machines rest on -/
def WO (W : List Cls) : Prop := BI W ∧ WF W ∧ WC W ∧ W.length ≤ 51
section
variable {W : List Cls} {s s' : Ms} {t : Nat} {o : Option Kd} {U : List Un}
theorem WO.m (h : WO W) {c j : Nat} (hc : 21 ≤ c) (hl : c < W.length) (hj : j < (gc W c).2.2.2.2.2.length) : wfM (gmt (gc W c) j) := h.2.1 c hc hl _ (getD_mem hj)
theorem WO.beg (h : WO W) {c j : Nat} (hc : 21 ≤ c) (hl : c < W.length) (hj : j < (gc W c).2.2.2.2.2.length) (hn : co (gmt (gc W c) j) ≠ []) : (begL W c (gmt (gc W c) j)).length ≤ lr (gmt (gc W c) j) ∧ lr (gmt (gc W c) j) ≤ 20 ∧ sr (gmt (gc W c) j) ≤ 20 := by
  obtain ⟨s0, l, e1, e2, h1, h2, h3⟩ := (h.m hc hl hj).2.1
  have e3 : lr (gmt (gc W c) j) = l := by
    show (gmt (gc W c) j).2.2.2.2.2.1.toNatClampNeg = l
    rw [e2, oN_tnc (by omega)]
  have e4 : sr (gmt (gc W c) j) = s0 := by
    show (gmt (gc W c) j).2.2.2.2.1.toNatClampNeg = s0
    rw [e1, oN_tnc (by omega)]
  have := h3 hn
  unfold begL
  rw [e3, e4, List.length_append]
  refine ⟨?_, h2, h1⟩
  by_cases c1 : (gmt (gc W c) j).2.2.2.1 &&& 1 = 0
  · rw [if_pos c1] at this ⊢; rw [List.length_singleton]; omega
  · rw [if_neg c1] at this ⊢; rw [List.length_nil]; omega
/-- what is known of a frame -/
theorem FmO.in (hW : WO W) (hG : GL W s) {f : Fm} (h : FmO W s f) : (chkM W f.1 (gmt (gc W f.1) f.2.1)).1 = 0 ∧ ((begL W f.1 (gmt (gc W f.1) f.2.1)).length ≤ lr (gmt (gc W f.1) f.2.1) ∧ lr (gmt (gc W f.1) f.2.1) ≤ 20 ∧ sr (gmt (gc W f.1) f.2.1) ≤ 20) ∧ wfM (gmt (gc W f.1) f.2.1) ∧ CkA W f.1 (gmt (gc W f.1) f.2.1) f.2.2.1 ∧ (kAt W f.1 (gmt (gc W f.1) f.2.1) f.2.2.1).1.length = lr (gmt (gc W f.1) f.2.1) := by
  have hk := (hG.1.2.2 f.1 h.1.1 h.1.2.2).1 _ (getD_mem (d := ([], [], (0, []), 0, 0, 0, [], [])) h.2.1)
  have hb := hW.beg h.1.1 h.1.2.1 h.2.1 (fun z => by have := h.2.2.1; rw [z] at this; exact absurd this (by simp))
  exact ⟨hk, hb, hW.m h.1.1 h.1.2.1 h.2.1, chk_at hk h.2.2.1, kAt_len hb.1 hk h.2.2.1⟩
theorem FmU.lo {f : Fm} (h : FmU W s f o) : cvL W s f.1 (co (gmt (gc W f.1) f.2.1)) (kAt W f.1 (gmt (gc W f.1) f.2.1) f.2.2.1).1 f.2.2.2.1 := by
  cases o with
  | none => exact h.1
  | some κ => exact h.2.1
/-- the rest of GL when only the named parts change -/
theorem GL.same (h : GL W s) (e1 : zL s' = zL s) (e2 : zC s' = zC s) (e3 : zB s' = zB s) (e4 : zS s' = zS s) (e5 : zH s' = zH s) (e6 : zF s' = zF s) : GL W s' := by
  obtain ⟨⟨a, b, c⟩, ⟨h1, h2, h3⟩, ⟨k1, k2⟩, f, ⟨c1, c2, c3, c4⟩⟩ := h
  have hs := sle_of e5 e6
  refine ⟨by rw [e1]; exact ⟨a, b, c⟩, ⟨by unfold thr; rw [e5]; exact h1, fun r hr => ?_, fun i hi => ?_⟩, ⟨fun c f hc hf h0 => ?_, fun c f h0 => ?_⟩, ?_, ?_⟩
  · have hr : thr s r = true := by rw [← show thr s' r = thr s r by unfold thr; rw [e5]]; exact hr
    obtain ⟨p, q⟩ := h2 r hr
    have eo : gOb s' r = gOb s r := by show (zH s').2.2.2.1 r = _; rw [e5]
    have ek : gKd s' = gKd s := by show (fun i => (zH s').2.2.2.2.2 i) = _; rw [e5]
    refine ⟨by rw [eo, e5]; exact p, ?_⟩
    unfold obO at *
    rw [eo, ek, e1]; exact q
  · have ek : gKd s' i = gKd s i := by show (zH s').2.2.2.2.2 i = _; rw [e5]
    have ec : gCell s' i = gCell s i := by show (zH s').2.2.2.2.1 i = _; rw [e5]; rfl
    rw [e5] at hi
    rw [ek, ec]
    exact ⟨(h3 i hi).1, (h3 i hi).2.sle hs⟩
  · rw [e4]; exact (k1 c f hc hf h0).sle hs
  · rw [e4]; rw [e2] at h0; exact k2 c f h0
  · unfold FtO; rw [e6]; exact f
  · unfold CO; rw [e1, e2, e3]; exact ⟨c1, c2, c3, c4⟩
end
