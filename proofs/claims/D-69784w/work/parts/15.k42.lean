/-! THE LAW'S LOOP: call asked define: one spec of answer and state; joint steps (printed by gen/jo3.py) -/
/-- what a call answers, and what is left: the world, the tape, the place -/
def calO (d : Wld) (a : Int32) (tp : List Int32) (pl : Int32) : Int32 × Wld × List Int32 × Int32 :=
  if a < 0 ∨ 2 < a then (-1, d, tp, pl) else if lSt (zN (dS d) a.toNatClampNeg) = 1 then (-2, d, tp, pl) else match takO pCall tp.length (lns (pT tp) tp.length 0) with
    | .inr x => (0, sSK d (yN (dS d) (up1 (zN (dS d)) a.toNatClampNeg (newL x (cvl x)))), [], -2)
    | .inl e => (-11, sSK d (yN (dS d) (up1 (zN (dS d)) a.toNatClampNeg (clrL (zN (dS d) a.toNatClampNeg)))), [], Int32.ofNat e.2)
noncomputable def askR (d : Wld) (c : Int32) (tp : List Int32) (pl : Int32) : Int32 × Wld × List Int32 × Int32 :=
  if c < 0 ∨ Int32.ofNat (dW d).length ≤ c then (-1, d, tp, pl) else match takO pAsk tp.length (lns (pT tp) tp.length 0) with
    | .inr x => (askA (askS (dB d) (dW d) (zL (dS d)) x c.toNatClampNeg).1, sS d (yL (dS d) (askS (dB d) (dW d) (zL (dS d)) x c.toNatClampNeg).2), [], -2)
    | .inl e => (-11, d, [], Int32.ofNat e.2)
def defO (d : Wld) (tp : List Int32) (m : Nat) : Int32 × Wld × Int32 :=
  match runL (dB d) tp.length (0, dW d, noM) (lns (pT tp) tp.length 0) with
    | .inr W' => (Int32.ofNat (W'.length - (dW d).length), sSW d W' m, -2)
    | .inl e => (-10 - Int32.ofNat e.1, sSW d (dW d) m, Int32.ofNat e.2)
theorem nt3 {t : Nat} {a : Int32} (h : t < 3) (e : a = Int32.ofNat t) : ¬ (a < 0 ∨ 2 < a) := by
  subst e
  have : t = 0 ∨ t = 1 ∨ t = 2 := by omega
  rcases this with z | z | z <;> subst z <;> decide
theorem ntW {i n : Nat} {c : Int32} (h : i < n) (hn : n < 1000) (e : c = Int32.ofNat i) : ¬ (c < 0 ∨ Int32.ofNat n ≤ c) := by
  subst e
  intro z
  rcases z with z | z
  · exact oN_nonneg (by omega) z
  · exact nle_oN h (by omega) z
section
variable {G : List Sl} {U1 : List (List Kd × Kd)} {BB A : List Nm} {S : List Sg} {on : Nat → Bool} {ws : Nat → Wld} {lf k m : Nat} {M : Mem} {T : List Trl} {tp P : List Int32} {pl a b c : Int32} {L : Tl} {V : RV} {Q : Int32 → Mem → Prop}
theorem W_call2 {B0 : Nat} (hB0 : mS M ≤ B0 + 8 * capC (k + 1) M) (h : WWC A on ws lf M) (hg : GWC BB A T tp pl L V P M) (hk : k < 3) (hon : on k = true) (hp : SpD (ws k)) (hn : tp.length ≤ 2900) (hB : ∀ l ∈ lns (pT tp) tp.length 0, NB BB l) (hQ : ∀ v A' M', v = calO (ws k) a tp pl → A <+: A' → WWC A' on (up1 ws k v.2.1) lf M' ∧ GWC BB A' T v.2.2.1 v.2.2.2 L V P M' ∧ Fr WKF M M' ∧ Ty M' ∧ CpE (k + 1) M M' → mS M' ≤ B0 + 8 * capC (k + 1) M' → Q v.1 M') : w_Works_call 0 (Int32.ofNat k) a Q M := by
  refine W_call hB0 h hg hk hon hp hn hB (fun z => hQ (-1, ws k, tp, pl) A M ?_ List.prefix_rfl ⟨by rw [show up1 ws k (ws k) = ws from up1_id]; exact h, hg, Fr.rf _ _, h.1.1.1, fun _ _ _ => rfl⟩ hB0) (fun t ht ea hl => hQ (-2, ws k, tp, pl) A M ?_ List.prefix_rfl ⟨by rw [show up1 ws k (ws k) = ws from up1_id]; exact h, hg, Fr.rf _ _, h.1.1.1, fun _ _ _ => rfl⟩ hB0) (fun t A' x M' ht ea hl hx p w z => hQ (0, sSK (ws k) (yN (dS (ws k)) (up1 (zN (dS (ws k))) t (newL x (cvl x)))), [], -2) A' M' ?_ p w z) (fun t A' x M' ht ea hl hx p w z => hQ (-11, sSK (ws k) (yN (dS (ws k)) (up1 (zN (dS (ws k))) t (clrL (zN (dS (ws k)) t)))), [], Int32.ofNat x.2) A' M' ?_ p w z)
  · unfold calO; rw [if_pos z]
  · unfold calO; rw [if_neg (nt3 ht ea), ea, oN_tnc (by omega), if_pos hl]
  · unfold calO; rw [if_neg (nt3 ht ea), ea, oN_tnc (by omega), if_neg hl, hx]
  · unfold calO; rw [if_neg (nt3 ht ea), ea, oN_tnc (by omega), if_neg hl, hx]
theorem T_call2 {B0 : Nat} (hB0 : mS M ≤ B0 + 2 * rs G M) (h : WWT G U1 A S on ws lf M) (hg : GTC G U1 BB A S T tp pl L V P M) (hG : GM M) (hz : ∀ q, 3 ≤ q → mR M 702 0 q = none) (hk : k < 3) (hon : on k = true) (hp : SpD (ws k)) (hn : tp.length ≤ 1400) (hB : ∀ l ∈ lns (pT tp) tp.length 0, NB BB l ∧ UL (U1, S) l) (hQ : ∀ v A' S' M', v = calO (ws k) a tp pl → A <+: A' → WWT G U1 A' S' on (up1 ws k v.2.1) lf M' ∧ GTC G U1 BB A' S' T v.2.2.1 v.2.2.2 L V P M' ∧ Fr TWF M M' ∧ Ty M' → mS M' ≤ B0 + 2 * rs G M' → Q v.1 M') : w_Model_call 0 (Int32.ofNat k) a Q M := by
  refine T_call hB0 h hg hG hz hk hon hp hn hB (fun z => hQ (-1, ws k, tp, pl) A S M ?_ List.prefix_rfl ⟨by rw [show up1 ws k (ws k) = ws from up1_id]; exact h, hg, Fr.rf _ _, h.1.1⟩ hB0) (fun t ht ea hl => hQ (-2, ws k, tp, pl) A S M ?_ List.prefix_rfl ⟨by rw [show up1 ws k (ws k) = ws from up1_id]; exact h, hg, Fr.rf _ _, h.1.1⟩ hB0) (fun t A' S' x M' ht ea hl hx p w z => hQ (0, sSK (ws k) (yN (dS (ws k)) (up1 (zN (dS (ws k))) t (newL x (cvl x)))), [], -2) A' S' M' ?_ p w z) (fun t A' S' x M' ht ea hl hx p w z => hQ (-11, sSK (ws k) (yN (dS (ws k)) (up1 (zN (dS (ws k))) t (clrL (zN (dS (ws k)) t)))), [], Int32.ofNat x.2) A' S' M' ?_ p w z)
  · unfold calO; rw [if_pos z]
  · unfold calO; rw [if_neg (nt3 ht ea), ea, oN_tnc (by omega), if_pos hl]
  · unfold calO; rw [if_neg (nt3 ht ea), ea, oN_tnc (by omega), if_neg hl, hx]
  · unfold calO; rw [if_neg (nt3 ht ea), ea, oN_tnc (by omega), if_neg hl, hx]
theorem W_asked2 {B0 : Nat} (hB0 : mS M ≤ B0 + 8 * capC (k + 1) M) (h : WWC A on ws lf M) (hg : GWC BB A T tp pl L V P M) (hk : k < 3) (hon : on k = true) (hp : SpD (ws k)) (hn : tp.length ≤ 2900) (hB : ∀ l ∈ lns (pT tp) tp.length 0, NB BB l) (hQ : ∀ v A' M', v = askR (ws k) c tp pl → A <+: A' → WWC A' on (up1 ws k v.2.1) lf M' ∧ GWC BB A' T v.2.2.1 v.2.2.2 L V P M' ∧ Fr WKF M M' ∧ Ty M' ∧ CpE (k + 1) M M' → mS M' ≤ B0 + 8 * capC (k + 1) M' → Q v.1 M') : w_Works_asked 0 (Int32.ofNat k) c Q M := by
  have h51 := hp.1.1.1.2.2.2
  refine W_asked hB0 h hg hk hon hp hn hB (fun z => hQ (-1, ws k, tp, pl) A M ?_ List.prefix_rfl ⟨by rw [show up1 ws k (ws k) = ws from up1_id]; exact h, hg, Fr.rf _ _, h.1.1.1, fun _ _ _ => rfl⟩ hB0) (fun A' x i M' hi ea hx p w z => hQ (askA (askS (dB (ws k)) (dW (ws k)) (zL (dS (ws k))) x i).1, sS (ws k) (yL (dS (ws k)) (askS (dB (ws k)) (dW (ws k)) (zL (dS (ws k))) x i).2), [], -2) A' M' ?_ p w z) (fun A' x i M' hi ea hx p w z => hQ (-11, ws k, [], Int32.ofNat x.2) A' M' ?_ p w z)
  · unfold askR; rw [if_pos z]
  · unfold askR; rw [if_neg (ntW hi (by omega) ea), hx, ea, oN_tnc (by omega)]
  · unfold askR; rw [if_neg (ntW hi (by omega) ea), hx]
theorem T_asked2 (h12 : W12 (dW (ws k))) {B0 : Nat} (hB0 : mS M ≤ B0 + 2 * rs G M) (h : WWT G U1 A S on ws lf M) (hg : GTC G U1 BB A S T tp pl L V P M) (hG : GM M) (hz : ∀ q, 3 ≤ q → mR M 702 0 q = none) (hk : k < 3) (hon : on k = true) (hp : SpD (ws k)) (hn : tp.length ≤ 1400) (hB : ∀ l ∈ lns (pT tp) tp.length 0, NB BB l ∧ UL (U1, S) l) (hQ : ∀ v A' S' M', v = askR (ws k) c tp pl → A <+: A' → WWT G U1 A' S' on (up1 ws k v.2.1) lf M' ∧ GTC G U1 BB A' S' T v.2.2.1 v.2.2.2 L V P M' ∧ Fr TWF M M' ∧ Ty M' → mS M' ≤ B0 + 2 * rs G M' → Q v.1 M') : w_Model_asked 0 (Int32.ofNat k) c Q M := by
  have h51 := hp.1.1.1.2.2.2
  refine T_asked h12 hB0 h hg hG hz hk hon hp hn hB (lns_k (pT_end tp)) (fun z => hQ (-1, ws k, tp, pl) A S M ?_ List.prefix_rfl ⟨by rw [show up1 ws k (ws k) = ws from up1_id]; exact h, hg, Fr.rf _ _, h.1.1⟩ hB0) (fun A' S' x i M' hi ea hx p w z => hQ (askA (askS (dB (ws k)) (dW (ws k)) (zL (dS (ws k))) x i).1, sS (ws k) (yL (dS (ws k)) (askS (dB (ws k)) (dW (ws k)) (zL (dS (ws k))) x i).2), [], -2) A' S' M' ?_ p w z) (fun A' S' x i M' hi ea hx p w z => hQ (-11, ws k, [], Int32.ofNat x.2) A' S' M' ?_ p w z)
  · unfold askR; rw [if_pos z]
  · unfold askR; rw [if_neg (ntW hi (by omega) ea), hx, ea, oN_tnc (by omega)]
  · unfold askR; rw [if_neg (ntW hi (by omega) ea), hx]
theorem def_hyp (hd : dD (ws k) + (2 * tp.length + 4) ≤ 2800) : (tk (lns (pT tp) tp.length 0) ≤ 2 * tp.length + 4 ∧ (lns (pT tp) tp.length 0).length ≤ 2 * tp.length + 4) ∧ (tk (lns (pT tp) tp.length 0) + 2 * (lns (pT tp) tp.length 0).length + 3 ≤ 3100 ∧ 2 * tk (lns (pT tp) tp.length 0).tail ≤ 2 * tp.length + 4) ∧ tp.length ≤ 1398 := by
  obtain ⟨l1, l2⟩ := lns_tk (tp := tp)
  have l3 := tk_tail (lns (pT tp) tp.length 0)
  omega
theorem W_define2 {B0 : Nat} (hB0 : mS M ≤ B0 + 8 * capC (k + 1) M) (h : WWC A on ws lf M) (hg : GWC BB A T tp pl L V P M) (hk : k < 3) (hon : on k = true) (hp : SpD (ws k)) (hd : dD (ws k) + (2 * tp.length + 4) ≤ 2800) (hn : tp.length ≤ 1290) (hB : ∀ l ∈ lns (pT tp) tp.length 0, NB BB l) (hQ : ∀ v A' M', v = defO (ws k) tp (2 * tp.length + 4) → A <+: A' → WWC A' on (up1 ws k v.2.1) lf M' ∧ GWC BB A' T [] v.2.2 L V P M' ∧ Fr WKF M M' ∧ Ty M' ∧ CpE (k + 1) M M' → mS M' ≤ B0 + 8 * capC (k + 1) M' → Q v.1 M') : w_Works_define 0 (Int32.ofNat k) Q M := by
  obtain ⟨⟨a1, a2⟩, ⟨a3, a4⟩, a5⟩ := def_hyp (ws := ws) (k := k) hd
  refine W_define (n := 2 * tp.length + 4) hB0 h hg hk hon hp hp.1.1.1.1.1 hn hB a1 a2 hd a3 (pT_end tp) (fun A' W' M' e p w z => hQ (Int32.ofNat (W'.length - (dW (ws k)).length), sSW (ws k) W' (2 * tp.length + 4), -2) A' M' ?_ p w z) (fun A' x M' e p w z => hQ (-10 - Int32.ofNat x.1, sSW (ws k) (dW (ws k)) (2 * tp.length + 4), Int32.ofNat x.2) A' M' ?_ p w z)
  · unfold defO; rw [e]
  · unfold defO; rw [e]
theorem T_define2 {B0 : Nat} (hB0 : mS M ≤ B0 + 2 * rs G M) (h : WWT G U1 A S on ws lf M) (hg : GTC G U1 BB A S T tp pl L V P M) (hG : GM M) (hz : ∀ q, 3 ≤ q → mR M 702 0 q = none) (hk : k < 3) (hon : on k = true) (hp : SpD (ws k)) (hd : dD (ws k) + (2 * tp.length + 4) ≤ 2800) (hn : tp.length ≤ 1290) (hB : ∀ l ∈ lns (pT tp) tp.length 0, NB BB l ∧ UL (U1, S) l) (hQ : ∀ v A' S' M', v = defO (ws k) tp (2 * tp.length + 4) → A <+: A' → WWT G U1 A' S' on (up1 ws k v.2.1) lf M' ∧ GTC G U1 BB A' S' T [] v.2.2 L V P M' ∧ Fr TWF M M' ∧ Ty M' → mS M' ≤ B0 + 2 * rs G M' → Q v.1 M') : w_Model_define 0 (Int32.ofNat k) Q M := by
  obtain ⟨⟨a1, a2⟩, ⟨a3, a4⟩, a5⟩ := def_hyp (ws := ws) (k := k) hd
  refine T_define (n := 2 * tp.length + 4) hB0 h hg hG hz hk hon hp hp.1.1.1.1.1 hn hB a4 hd (pT_end tp) (fun A' S' W' M' e p w z => hQ (Int32.ofNat (W'.length - (dW (ws k)).length), sSW (ws k) W' (2 * tp.length + 4), -2) A' S' M' ?_ p w z) (fun A' S' x M' e p w z => hQ (-10 - Int32.ofNat x.1, sSW (ws k) (dW (ws k)) (2 * tp.length + 4), Int32.ofNat x.2) A' S' M' ?_ p w z)
  · unfold defO; rw [e]
  · unfold defO; rw [e]
end
theorem lnsF_m {p : Nat → Int32} {n : Nat} (hp : tend p n) : ∀ f a, a ≤ n → ∀ l ∈ lnsF p n f a, ∀ t ∈ l, t.1 = 2 → t.2.1 ≠ nMake ∧ t.2.1 ≠ nStart
  | 0, a, h => fun l hl => by cases hl
  | f + 1, a, h => by
    obtain ⟨n1, n2, n3, n4⟩ := nl_ok hp h
    have ho : ∀ t ∈ full (nl p n a) (tks p n a), t.1 = 2 → t.2.1 ≠ nMake ∧ t.2.1 ≠ nStart := fun t ht => by
      rcases full_mem ht with e | e
      · exact fun z => ((tks_ok hp _ a (Nat.le_refl _) (by omega) t e).2.2.1 z).2.2
      · rw [e]; intro z; exact absurd z (by simp)
    have rest : ∀ l ∈ (if nl p n a + 1 < n then lnsF p n f (nl p n a + 1) else []), ∀ t ∈ l, t.1 = 2 → t.2.1 ≠ nMake ∧ t.2.1 ≠ nStart := by
      split
      · exact lnsF_m hp f _ (by omega)
      · exact fun l hl => by cases hl
    unfold lnsF
    split
    · exact rest
    · intro l hl2
      rcases List.mem_cons.1 hl2 with e | e
      · rw [e]; exact ho
      · exact rest l e
section
variable {n f : Nat} {e : Nat → Nat} {U1 : List (List Kd × Kd)} {BB : List Nm} {on : Nat → Bool} {ws : Nat → Wld} {lf k : Nat} {tp : List Int32} {pl a c : Int32} {V : RV} {d : Wld}
/-- world k changes and the tape is emptied -/
theorem SPE.u0 (h : SPE n f e U1 BB on ws lf tp V) (hd : SPw n f (e k) 0 d) (hF : dF d ≤ e k + 4400) : SPE n f e U1 BB on (up1 ws k d) lf [] V := by
  obtain ⟨h1, h2, h3, h4, h5, h6, h7, h8⟩ := h.tp0
  refine ⟨fun j hj ho => ?_, fun j hj => ?_, h3, h4, h5, h6, h7, h8⟩
  · by_cases c : j = k
    · subst c; rw [up1_s]; exact hd
    · rw [up1_o c]; exact h1 j hj ho
  · by_cases c : j = k
    · subst c; rw [up1_s]; exact hF
    · rw [up1_o c]; exact h2 j hj
theorem SPE.cal (h0 : SPE n f e U1 BB on ws lf tp V) (hn : n < 64) (hk : k < 3) (hon : on k = true) {U2 : List (List Kd × Kd)} {B2 : List Nm} (hu : SPv (n + 1) f U2 B2) : SPE (n + 1) f e U2 B2 on (up1 ws k (calO (ws k) a tp pl).2.1) lf (calO (ws k) a tp pl).2.2.1 V := by
  have h := (h0.nx hn).un hu
  obtain ⟨hp, q1, q2, q3⟩ := h0.d hk hon
  have hfn := h0.2.2.2.2.2.2.1
  have hF := h0.2.1 k hk
  unfold calO
  split
  · show SPE _ _ _ _ _ _ (up1 ws k (ws k)) _ _ _
    rw [up1_id]; exact h
  · rename_i ha
    have ht : ∃ t, t < 3 ∧ a = Int32.ofNat t := in3 (fun z => ha (Or.inl z)) (fun z => ha (Or.inr (Int32.lt_of_lt_of_le (by decide) z)))
    obtain ⟨t, ht, ea⟩ := ht
    rw [ea, oN_tnc (k := t) (by omega)]
    split
    · show SPE _ _ _ _ _ _ (up1 ws k (ws k)) _ _ _
      rw [up1_id]; exact h
    · rename_i hl
      split
      · rename_i x hx
        obtain ⟨l, el, hl2⟩ := takO_in hx
        obtain ⟨n1, n2⟩ := pCall_nm (lnsF_m (pT_end tp) _ 0 (Nat.zero_le _) l (by show l ∈ lns (pT tp) tp.length 0; rw [el]; exact List.mem_cons_self)) hl2
        refine h.u0 ⟨⟨⟨hp.1.1, hp.1.2.cl ht hl (caO.of (pCall_len hl2) (pCall_kd hl2) n1 n2)⟩, hp.2⟩, ?_, ?_, q3⟩ hF
        · show dD (ws k) + 2 * 0 ≤ _
          omega
        · show dK (ws k) + 1 ≤ _
          omega
      · refine h.u0 ⟨⟨⟨hp.1.1, hp.1.2.cr ht hl⟩, hp.2⟩, ?_, ?_, q3⟩ hF
        · show dD (ws k) + 2 * 0 ≤ _
          omega
        · show dK (ws k) + 1 ≤ _
          omega
theorem SPE.ask (h0 : SPE n f e U1 BB on ws lf tp V) (hn : n < 64) (hk : k < 3) (hon : on k = true) {U2 : List (List Kd × Kd)} {B2 : List Nm} (hu : SPv (n + 1) f U2 B2) : SPE (n + 1) f e U2 B2 on (up1 ws k (askR (ws k) c tp pl).2.1) lf (askR (ws k) c tp pl).2.2.1 V := by
  have h := (h0.nx hn).un hu
  obtain ⟨hp, q1, q2, q3⟩ := h0.d hk hon
  have hfn := h0.2.2.2.2.2.2.1
  have hF := h0.2.1 k hk
  have h51 := hp.1.1.1.2.2.2
  unfold askR
  split
  · show SPE _ _ _ _ _ _ (up1 ws k (ws k)) _ _ _
    rw [up1_id]; exact h
  · rename_i hc
    have hi := idx_lt (n := (dW (ws k)).length) (by omega) (fun z => hc (Or.inl z)) (fun z => hc (Or.inr z))
    split
    · refine h.u0 ⟨⟨⟨hp.1.1, hp.1.2.ak h51 hi⟩, hp.2⟩, ?_, ?_, q3⟩ hF
      · show dD (ws k) + 2 * 0 ≤ _
        omega
      · show dK (ws k) ≤ _
        omega
    · show SPE _ _ _ _ _ _ (up1 ws k (ws k)) _ _ _
      rw [up1_id]; exact h.tp0
theorem SPE.df (h0 : SPE n f e U1 BB on ws lf tp V) (hn : n < 64) (hk : k < 3) (hon : on k = true) {U2 : List (List Kd × Kd)} {B2 : List Nm} (hu : SPv (n + 1) f U2 B2) (ht : tp.length ≤ 1290) (hd : dD (ws k) + (2 * tp.length + 4) ≤ 2800) : SPE (n + 1) f e U2 B2 on (up1 ws k (defO (ws k) tp (2 * tp.length + 4)).2.1) lf [] V := by
  have h := (h0.nx hn).un hu
  obtain ⟨hp, q1, q2, q3⟩ := h0.d hk hon
  have hfn := h0.2.2.2.2.2.2.1
  have hF := h0.2.1 k hk
  unfold defO
  split
  · rename_i W' e1
    obtain ⟨hC', hW'⟩ := hp.1.1.run hp.1.1.1.1.1 (pT_end tp) ht e1
    refine h.u0 ⟨⟨⟨hC', hp.1.2.gr hp.1.1 hC' hW'⟩, hd⟩, ?_, ?_, q3⟩ hF
    · show dD (ws k) + (2 * tp.length + 4) + 2 * 0 ≤ _
      omega
    · show dK (ws k) ≤ _
      omega
  · refine h.u0 ⟨⟨hp.1, hd⟩, ?_, ?_, q3⟩ hF
    · show dD (ws k) + (2 * tp.length + 4) + 2 * 0 ≤ _
      omega
    · show dK (ws k) ≤ _
      omega
end
section
variable {G : List Sl} {Z n f : Nat} {M : Mem} {a b c d e0 : Int32}
theorem JO_call (H : IVx G Z n f M) (hn : n < 64) : w_Works_call 0 a b (fun r M1 => w_Model_call 0 a b (fun r' M2 => r = r' ∧ IVx G Z (n + 1) f M2) M1) M := by
  obtain ⟨e, U1, BB, A1, A2, S, on, ws, lf, T, tp, pl, L, V, P, ⟨⟨h1, h2⟩, h3, h4⟩, sp, sz⟩ := H
  have fin : IVx G Z (n + 1) f M := ⟨e, U1, BB, A1, A2, S, on, ws, lf, T, tp, pl, L, V, P, ⟨⟨h1, h2⟩, h3, h4⟩, sp.nx hn, sz⟩
  cases hw : wOf on a with
  | none => exact nw_Works_call h1.1.2 hw (nw_Model_call h3.1.2 hw ⟨rfl, fin⟩)
  | some k =>
    obtain ⟨hk, ea, hon⟩ := wOf_some hw
    subst ea
    have hp := (sp.d hk hon).1
    have hfn := sp.2.2.2.2.2.2.1
    have hzz : zK (dS (ws k)) ≤ 60000 := by
      have q1 := (sp.d hk hon).2.2.2
      have q2 := sp.2.2.1
      have q3 : e k ≤ e 0 + e 1 + e 2 := by
        have : k = 0 ∨ k = 1 ∨ k = 2 := by omega
        rcases this with z | z | z <;> subst z <;> omega
      omega
    obtain ⟨U2, B2, ⟨g2, g3, g4⟩, hu, hnm, hsg⟩ := IVx.un h2 h3 h4 sp hn
    have ht := sp.2.2.2.1.1
    have h64 := sp.2.2.2.2.2.2.2
    have hd := (sp.d hk hon).2.1
    refine W_call2 (sz.b (w := k + 1) (by omega)) h1 g2 hk hon hp (by omega) (nmsT_in hnm) (fun v A1' M1 ev pw w z => ?_)
    obtain ⟨w1, w2, w3, w4, w5⟩ := w
    have hr := (g3.2.1.2.wk g3.2.1.1.1.1 w3).2
    have sz1 := SZ.b' (by omega) w5 hr z
    refine T_call2 sz1.t (g3.wk w3 w4) (g4.wk g3.2.1.1.1 g3.2.1.2 w3) w1.1.1 w2.z hk hon hp (by omega) (fun l hl => ⟨nmsT_in hnm l hl, sgT_in hsg l hl⟩) (fun v' A2' S' M2 ev' pt t z2 => ?_)
    subst ev
    subst ev'
    exact ⟨rfl, IVx.mk w1 w2 t z2 (sp.cal hn hk hon hu)⟩
theorem JO_asked (H : IVx G Z n f M) (hn : n < 64) : w_Works_asked 0 a b (fun r M1 => w_Model_asked 0 a b (fun r' M2 => r = r' ∧ IVx G Z (n + 1) f M2) M1) M := by
  obtain ⟨e, U1, BB, A1, A2, S, on, ws, lf, T, tp, pl, L, V, P, ⟨⟨h1, h2⟩, h3, h4⟩, sp, sz⟩ := H
  have fin : IVx G Z (n + 1) f M := ⟨e, U1, BB, A1, A2, S, on, ws, lf, T, tp, pl, L, V, P, ⟨⟨h1, h2⟩, h3, h4⟩, sp.nx hn, sz⟩
  cases hw : wOf on a with
  | none => exact nw_Works_asked h1.1.2 hw (nw_Model_asked h3.1.2 hw ⟨rfl, fin⟩)
  | some k =>
    obtain ⟨hk, ea, hon⟩ := wOf_some hw
    subst ea
    have hp := (sp.d hk hon).1
    have hfn := sp.2.2.2.2.2.2.1
    have hzz : zK (dS (ws k)) ≤ 60000 := by
      have q1 := (sp.d hk hon).2.2.2
      have q2 := sp.2.2.1
      have q3 : e k ≤ e 0 + e 1 + e 2 := by
        have : k = 0 ∨ k = 1 ∨ k = 2 := by omega
        rcases this with z | z | z <;> subst z <;> omega
      omega
    obtain ⟨U2, B2, ⟨g2, g3, g4⟩, hu, hnm, hsg⟩ := IVx.un h2 h3 h4 sp hn
    have ht := sp.2.2.2.1.1
    have h64 := sp.2.2.2.2.2.2.2
    have hd := (sp.d hk hon).2.1
    obtain ⟨nq, nk, np, nh, nr, B, hR, hb⟩ := (h1.2.2 k hk).1 hon
    have h12 := hR.1.1.1.w12 hp.1.1.1.2.2.2
    refine W_asked2 (sz.b (w := k + 1) (by omega)) h1 g2 hk hon hp (by omega) (nmsT_in hnm) (fun v A1' M1 ev pw w z => ?_)
    obtain ⟨w1, w2, w3, w4, w5⟩ := w
    have hr := (g3.2.1.2.wk g3.2.1.1.1.1 w3).2
    have sz1 := SZ.b' (by omega) w5 hr z
    refine T_asked2 h12 sz1.t (g3.wk w3 w4) (g4.wk g3.2.1.1.1 g3.2.1.2 w3) w1.1.1 w2.z hk hon hp (by omega) (fun l hl => ⟨nmsT_in hnm l hl, sgT_in hsg l hl⟩) (fun v' A2' S' M2 ev' pt t z2 => ?_)
    subst ev
    subst ev'
    exact ⟨rfl, IVx.mk w1 w2 t z2 (sp.ask hn hk hon hu)⟩
theorem JO_define (H : IVx G Z n f M) (hn : n < 64) : w_Works_define 0 a (fun r M1 => w_Model_define 0 a (fun r' M2 => r = r' ∧ IVx G Z (n + 1) f M2) M1) M := by
  obtain ⟨e, U1, BB, A1, A2, S, on, ws, lf, T, tp, pl, L, V, P, ⟨⟨h1, h2⟩, h3, h4⟩, sp, sz⟩ := H
  have fin : IVx G Z (n + 1) f M := ⟨e, U1, BB, A1, A2, S, on, ws, lf, T, tp, pl, L, V, P, ⟨⟨h1, h2⟩, h3, h4⟩, sp.nx hn, sz⟩
  cases hw : wOf on a with
  | none => exact nw_Works_define h1.1.2 hw (nw_Model_define h3.1.2 hw ⟨rfl, fin⟩)
  | some k =>
    obtain ⟨hk, ea, hon⟩ := wOf_some hw
    subst ea
    have hp := (sp.d hk hon).1
    have hfn := sp.2.2.2.2.2.2.1
    have hzz : zK (dS (ws k)) ≤ 60000 := by
      have q1 := (sp.d hk hon).2.2.2
      have q2 := sp.2.2.1
      have q3 : e k ≤ e 0 + e 1 + e 2 := by
        have : k = 0 ∨ k = 1 ∨ k = 2 := by omega
        rcases this with z | z | z <;> subst z <;> omega
      omega
    obtain ⟨U2, B2, ⟨g2, g3, g4⟩, hu, hnm, hsg⟩ := IVx.un h2 h3 h4 sp hn
    have ht := sp.2.2.2.1.1
    have h64 := sp.2.2.2.2.2.2.2
    have hd := (sp.d hk hon).2.1
    have hdd : dD (ws k) + (2 * tp.length + 4) ≤ 2800 := by omega
    refine W_define2 (sz.b (w := k + 1) (by omega)) h1 g2 hk hon hp hdd (by omega) (nmsT_in hnm) (fun v A1' M1 ev pw w z => ?_)
    obtain ⟨w1, w2, w3, w4, w5⟩ := w
    have hr := (g3.2.1.2.wk g3.2.1.1.1.1 w3).2
    have sz1 := SZ.b' (by omega) w5 hr z
    refine T_define2 sz1.t (g3.wk w3 w4) (g4.wk g3.2.1.1.1 g3.2.1.2 w3) w1.1.1 w2.z hk hon hp hdd (by omega) (fun l hl => ⟨nmsT_in hnm l hl, sgT_in hsg l hl⟩) (fun v' A2' S' M2 ev' pt t z2 => ?_)
    subst ev
    subst ev'
    exact ⟨rfl, IVx.mk w1 w2 t z2 (sp.df hn hk hon hu (by omega) hdd)⟩
end
