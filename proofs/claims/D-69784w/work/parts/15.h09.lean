/-! THE MACHINE IN THE TWIN: references, the top frame -/
section
variable {G : List Sl} {US : UST} {A : List Nm} {S : List Sg} {W : List Cls} {w c j a k t L : Nat} {br x r : Int32} {bb : Bool} {nq nl nf nk B F : Nat} {M M' : Mem} {s : Ms} {U V : List Un} {lo st lo' st' : List Vl} {Q : Int32 → Mem → Prop}
theorem f1001 {n : Nat} (h : 801 ≤ n) : Int32.ofNat (n + 200) - (1001 : Int32) = Int32.ofNat (n - 801) := by
  have e : Int32.ofNat (n + 200) - Int32.ofNat (801 + 200) = Int32.ofNat (n + 200 - (801 + 200)) := oN_sub (Nat.add_le_add_right h 200)
  rw [Nat.add_sub_add_right] at e
  exact e
/-- a reference in the twin -/
theorem tr_ref (hv : vRf s r) : ∃ n, (r = Int32.ofNat n ∧ r.toNatClampNeg = n ∧ n < 2000000) ∧ tr true r = Int32.ofNat (if 800 < n then n + 200 else n) ∧ (n = 0 ∨ (n ≤ 800 ∧ thr s n = true) ∨ (800 < n ∧ n ≤ 800 + (zF s).length)) := by
  obtain ⟨n, e, en, hn⟩ := hv.n
  have hb : n < 2000000 := by rcases hn with z | z | z <;> omega
  refine ⟨n, ⟨e, en, hb⟩, ?_, ?_⟩
  · rw [e, tr_n hb]
    by_cases c : 800 < n
    · rw [if_pos ⟨rfl, c⟩, if_pos c]
    · rw [if_neg (fun z => c z.2), if_neg c]
  · rcases hn with z | z | z
    · exact Or.inl z
    · exact Or.inr (Or.inl z)
    · exact Or.inr (Or.inr ⟨z.1, z.2.1⟩)
theorem tr_ne0 (hv : vRf s r) : tr true r = 0 ↔ r = 0 := by
  obtain ⟨n, ⟨e, -, hb⟩, et, -⟩ := tr_ref hv
  rw [et, e]
  by_cases c : 800 < n
  · rw [if_pos c]
    constructor
    · intro z
      have := (oN_inj (a := n + 200) (b := 0) (by omega) (by omega)).mp z
      omega
    · intro z
      have := (oN_inj (a := n) (b := 0) (by omega) (by omega)).mp z
      omega
  · rw [if_neg c]
theorem ct_classOfRef (hB : BI W) (hG : GL W s) (h : TXm G US A S W w br nq nl nf nk B F x t s M) (hFb : F < 1000000) (hv : vRf s r) (h0 : r ≠ 0) (hQ : Q (Int32.ofNat (clN s r)) M) : w_Model_classOfRef 0 (tr true r) Q M := by
  have R5 := h.1.1.r45
  have h51 := h.l5
  obtain ⟨n, ⟨e, en, hb⟩, et, hn⟩ := tr_ref hv
  have hn0 : n ≠ 0 := fun z => h0 (by rw [e, z]; rfl)
  unfold w_Model_classOfRef
  rw [et]
  rcases hn with z | ⟨z1, z2⟩ | ⟨z1, z2⟩
  · exact absurd z hn0
  · rw [if_neg (show ¬ 800 < n by omega)]
    obtain ⟨⟨l1, -⟩, -, -, hO, -⟩ := h.2.2.1.1
    have e157 := (hO n z2).1
    refine itp ((oN_lt (a := n) (b := 1001) (by omega) (by omega)).mpr (by omega)) ⟨w, R5, by rw [l1]; exact (vp_oN (by omega)).mpr (by omega), ?_⟩
    rw [oN_tnc (k := n) (by omega), e157]
    have ec : clR s r = (gOb s n).1 := by unfold clR; rw [en, if_neg (by omega)]
    cases eo : (gOb s n).1 with
    | none =>
      have : clN s r = 0 := by unfold clN; rw [ec, eo]; rfl
      rw [this] at hQ
      exact itp rfl hQ
    | some d =>
      have : clN s r = d := by unfold clN; rw [ec, eo]; rfl
      rw [this] at hQ
      have hd := (clR_lk hB hG hv h0 (ec.trans eo)).1.1
      refine itn (fun y => ?_) ⟨w, R5, by rw [l1]; exact (vp_oN (by omega)).mpr (by omega), ?_⟩
      · have h1 := oN_zero_le (a := d) (by omega)
        have y : Int32.ofNat d = -1 := y
        rw [y] at h1; exact absurd h1 (by decide)
      · rw [e157, eo]; exact hQ
  · rw [if_pos z1]
    obtain ⟨-, hX, hr⟩ := h.2.2.1.2
    obtain ⟨m1, p1, q1⟩ := hX (sFc w) (by simp)
    have r1 := (h.1.1.1.2.2.2 _ m1).1.1
    refine itn (fun y => by have := (oN_lt (a := n + 200) (b := 1001) (by omega) (by omega)).mp y; omega) ⟨w, R5, rdI M (sFc w), r1, ?_⟩
    rw [f1001 (by omega), oN_tnc (k := n - 801) (by omega)]
    refine ⟨(vp_oN (by omega)).mpr (by show n - 801 < rl M (sFc w); omega), ?_⟩
    have e1 : mI M 300 (rdI M (sFc w)) (n - 801) = Int32.ofNat (gFt s (n - 801)).1 := (hr (n - 801) (by omega)).1
    have : clN s r = (gFt s (n - 801)).1 := by unfold clN clR; rw [en, if_pos z1]; rfl
    rw [e1, ← this]; exact hQ
/-- every linked class is below Thing -/
theorem bel0 {q : LkS} (hI : LInv W q.1) : ∀ n c, c < W.length → q.1 c = 1 → mu W c < n → PB W c 0
  | 0, c, _, _, h => absurd h (by omega)
  | n + 1, c, hc, hl, hn => by
    by_cases c0 : c = 0
    · rw [c0]; exact ⟨0, rfl⟩
    · obtain ⟨e, eu, hel, he1, hmu⟩ := hI.nx hc hl c0
      exact PB.cons eu (bel0 hI n e hel he1 (by omega))
/-- units below a bound -/
theorem unT.kp : ∀ {U : List Un}, unT L M U → stk U → (∀ g i, g = 171 ∨ g = 172 → i < U.length → mI M' g L i = mI M g L i) → (∀ g i, g = 173 ∨ g = 174 ∨ g = 175 → i < frs U → mI M' g L i = mI M g L i) → (∀ i, i < 44 * frs U → mI M' 176 L i = mI M 176 L i ∧ mI M' 525 L i = mI M 525 L i) → unT L M' U
  | [], _, _, _, _, _ => trivial
  | .inl f :: U, h, hs, h1, h2, h3 => by
    obtain ⟨⟨⟨a1, a2⟩, a3, a4, a5⟩, ⟨b1, b2'⟩, c⟩ := h
    have hl : (.inl f :: U : List Un).length = U.length + 1 := rfl
    have hf : frs (.inl f :: U) = frs U + 1 := rfl
    have h20 : f.2.2.2.2.length ≤ 20 := hs.1
    rw [hl] at h1
    rw [hf] at h2 h3
    refine ⟨⟨⟨(h1 171 _ (Or.inl rfl) (by omega)).trans a1, (h1 172 _ (Or.inr rfl) (by omega)).trans a2⟩, (h2 173 _ (by omega) (by omega)).trans a3, (h2 174 _ (by omega) (by omega)).trans a4, (h2 175 _ (by omega) (by omega)).trans a5⟩, ⟨fun k hk => ?_, fun k hk => ?_⟩, unT.kp c hs.2 (fun g i hg hi => h1 g i hg (by omega)) (fun g i hg hi => h2 g i hg (by omega)) (fun i hi => h3 i (by omega))⟩
    · have := h3 (44 * frs U + k) (by omega)
      rw [this.1, this.2]; exact b1 k hk
    · have := h3 (44 * frs U + 20 + k) (by omega)
      rw [this.1, this.2]; exact b2' k hk
  | .inr k :: U, h, hs, h1, h2, h3 => by
    have hl : (.inr k :: U : List Un).length = U.length + 1 := rfl
    have hf : frs (.inr k :: U) = frs U := rfl
    rw [hl] at h1
    rw [hf] at h2 h3
    exact ⟨⟨(h1 171 _ (Or.inl rfl) (by omega)).trans h.1.1, (h1 172 _ (Or.inr rfl) (by omega)).trans h.1.2⟩, unT.kp h.2 hs (fun g i hg hi => h1 g i hg (by omega)) h2 h3⟩
theorem unT.eq' (hI : ∀ g k, ((171 ≤ g ∧ g ≤ 176) ∨ g = 525) → mI M' g L k = mI M g L k) : ∀ {U : List Un}, unT L M U → unT L M' U
  | [], _ => trivial
  | .inl f :: U, h => by
    obtain ⟨⟨⟨a1, a2⟩, a3, a4, a5⟩, ⟨b1, b2'⟩, c⟩ := h
    refine ⟨⟨⟨(hI 171 _ (by omega)).trans a1, (hI 172 _ (by omega)).trans a2⟩, (hI 173 _ (by omega)).trans a3, (hI 174 _ (by omega)).trans a4, (hI 175 _ (by omega)).trans a5⟩, ⟨fun k hk => ?_, fun k hk => ?_⟩, unT.eq' hI c⟩
    · rw [hI 176 _ (by omega), hI 525 _ (by omega)]; exact b1 k hk
    · rw [hI 176 _ (by omega), hI 525 _ (by omega)]; exact b2' k hk
  | .inr k :: U, h => ⟨⟨(hI 171 _ (by omega)).trans h.1.1, (hI 172 _ (by omega)).trans h.1.2⟩, unT.eq' hI h.2⟩
theorem TXm.su (h : TXm G US A S W w br nq nl nf nk B F x t s M) : TXm G US A S W w br nq nl nf nk B F x t (sU s t V) M := by
  obtain ⟨a, b, c, d, e, m, g⟩ := h
  refine ⟨a, b, c, d, e, m, fun t' ht hne => ?_⟩
  have : zN (sU s t V) t' = zN s t' := up1_o hne
  rw [this]; exact g t' ht hne
theorem TM.su (h : TM G US A S W w br nq nl nf nk B F x bb t s U M) : TM G US A S W w br nq nl nf nk B F x bb t (sU s t V) U M := by
  have e : zN (sU s t V) t = qU (zN s t) V := up1_s
  refine ⟨h.1.su, ?_, h.2.2.1, ?_⟩
  · rw [e]; exact h.2.1
  · rw [e]; exact h.2.2.2
/-- the thread's fields -/
theorem uL.g {l : Ln} (h : uL A S L l M) (h13 : ∀ k, k < 14 → mI M' 13 L k = mI M 13 L k) (h170 : ∀ k, mI M' 170 L k = mI M 170 L k) (hl : ∀ f, mL M' f L = mL M f L) : uL A S L l M' := by
  obtain ⟨⟨a1, a2, a3, a4, a5, a6, a7, a8⟩, ⟨b1, b2'⟩, ⟨c1, c2, c3, c4⟩, d, e⟩ := h
  refine ⟨⟨(hl 170).trans a1, (hl 171).trans a2, (hl 172).trans a3, (hl 173).trans a4, (hl 174).trans a5, (hl 175).trans a6, (hl 176).trans a7, (hl 525).trans a8⟩, ⟨(h13 0 (by omega)).trans b1, (h13 3 (by omega)).trans b2'⟩, ⟨(h13 10 (by omega)).trans c1, (h13 11 (by omega)).trans c2, (h13 12 (by omega)).trans c3, (h13 13 (by omega)).trans c4⟩, ?_, fun z => ?_⟩
  · unfold uW at *
    rw [h13 1 (by omega), h13 2 (by omega)]; exact d
  · obtain ⟨e1, e2, e3, e4, e5, e6⟩ := e z
    rw [h13 5 (by omega), h13 6 (by omega), h13 7 (by omega)]
    exact ⟨e1, e2, e3, e4, e5, fun k hk => (h170 k).trans (e6 k hk)⟩
/-- the top frame changes -/
theorem TM.top0 {a' : Nat} (h : TM G US A S W w br nq nl nf nk B F x bb t s (.inl (c, j, a, lo, st) :: U) M) (hst : stk U) (ag : AgU w t M M') (h1 : ∀ g i, g = 171 ∨ g = 172 → mI M' g (3 * w + t) i = mI M g (3 * w + t) i) (h2 : ∀ i, mI M' 173 (3 * w + t) i = mI M 173 (3 * w + t) i) (h3 : ∀ g i, g = 174 ∨ g = 175 → i < frs U → mI M' g (3 * w + t) i = mI M g (3 * w + t) i) (h4 : ∀ i, i < 44 * frs U → mI M' 176 (3 * w + t) i = mI M 176 (3 * w + t) i ∧ mI M' 525 (3 * w + t) i = mI M 525 (3 * w + t) i) (h13 : ∀ i, mI M' 13 (3 * w + t) i = mI M 13 (3 * w + t) i) (h170 : ∀ i, mI M' 170 (3 * w + t) i = mI M 170 (3 * w + t) i) (hL : ∀ f, mL M' f (3 * w + t) = mL M f (3 * w + t)) (e174 : mI M' 174 (3 * w + t) (frs U) = Int32.ofNat a') (e175 : mI M' 175 (3 * w + t) (frs U) = Int32.ofNat st'.length)
    (hlo : ∀ k, k < 20 → mI M' 176 (3 * w + t) (44 * frs U + k) = tr (lv lo' k).2 (lv lo' k).1 ∧ mI M' 525 (3 * w + t) (44 * frs U + k) = b2 (lv lo' k).2) (hs : ∀ k, k < st'.length → mI M' 176 (3 * w + t) (44 * frs U + 20 + k) = tr (lv st' k).2 (lv st' k).1 ∧ mI M' 525 (3 * w + t) (44 * frs U + 20 + k) = b2 (lv st' k).2) : TM G US A S W w br nq nl nf nk B F x bb t s (.inl (c, j, a', lo', st') :: U) M' := by
  obtain ⟨⟨⟨a1, a2⟩, a3, -, -⟩, -, hU⟩ := h.2.2.1.2.2
  refine ⟨h.1.ag ag, ?_, ⟨(h13 16).trans h.2.2.1.1, (h13 22).trans h.2.2.1.2.1, ⟨⟨(h1 171 _ (Or.inl rfl)).trans a1, (h1 172 _ (Or.inr rfl)).trans a2⟩, (h2 _).trans a3, e174, e175⟩, ⟨hlo, hs⟩, ?_⟩, ?_⟩
  · exact h.2.1.g (fun k _ => h13 k) h170 hL
  · refine unT.kp hU hst (fun g i hg _ => h1 g i hg) (fun g i hg hi => ?_) h4
    rcases hg with z | z | z
    · subst z; exact h2 i
    · exact h3 g i (Or.inl z) hi
    · exact h3 g i (Or.inr z) hi
  · rw [h13]; exact h.2.2.2
end
