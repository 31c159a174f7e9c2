/-! THE LAW'S LOOP: joint steps of queries and of operations on a world (printed by gen/jo.py) -/
section
variable {G : List Sl} {U1 : List (List Kd × Kd)} {BB A : List Nm} {S : List Sg} {on : Nat → Bool} {ws : Nat → Wld} {lf k : Nat} {M : Mem} {T : List Trl} {tp P : List Int32} {pl a b c : Int32} {L : Tl} {V : RV} {Q : Int32 → Mem → Prop}
theorem T_told {B0 : Nat} (hB0 : mS M ≤ B0 + 2 * rs G M) (h : WWT G U1 A S on ws lf M) (hg : GTC G U1 BB A S T tp pl L V P M) (hG : GM M) (hz : ∀ q, 3 ≤ q → mR M 702 0 q = none) (hk : k < 3) (hon : on k = true) (hp : SpD (ws k)) (hQ : ∀ M', WWT G U1 A S on (up1 ws k (ws k)) lf M' ∧ GTC G U1 BB A S T tp pl L V P M' ∧ Fr TWF M M' ∧ Ty M' → mS M' ≤ B0 + 2 * rs G M' → Q (tolO (dW (ws k)) (dS (ws k)) c a) M') : w_Model_told 0 (Int32.ofNat k) c a Q M := by
  obtain ⟨nq, nl, nf, nk, B1, x, ⟨hR1, hx⟩, hb⟩ := (h.2.2.2 k hk).1 hon
  have hR := hR1.bb hB0
  obtain ⟨⟨hD, hD6⟩, hS⟩ := h.st hG hz hk
  refine mo_w_Model_told (T := fun q => q = 1000 + k) hD hD6 (by rw [n0k hk]) (Q := fun r M' => Fr F_Model_told M M' ∧ r = (tolO (dW (ws k)) (dS (ws k)) c a) ∧ TAx G (U1, S) A S (dW (ws k)) k (dB (ws k)) nq nl nf nk B0 (dF (ws k)) x (dS (ws k)) M') (fun r M' ho hx2 => ?_) hS (mf_w_Model_told (fun _ _ hf h => ⟨hf, h⟩) (ct_wtold hk h.1.2 hon hp.1.1.1 hR (fun M' hR' _ => ⟨rfl, hR'⟩)))
  obtain ⟨hf, e, hR'⟩ := hx2
  subst e
  exact hQ M' (RT.nx h hg hk hon ho hf (K2.fr hf rfl) ⟨nq, nl, nf, nk, B0, x, ⟨hR', hx⟩, hb⟩ h.2.2.1.1 ((hf.I (f := 11) (k := 93) rfl 0).trans h.2.2.1.2) (hg.2.2.2.1.1.fr hf)) hR'.md.2.2.2.2.2.1
theorem T_object {B0 : Nat} (hB0 : mS M ≤ B0 + 2 * rs G M) (h : WWT G U1 A S on ws lf M) (hg : GTC G U1 BB A S T tp pl L V P M) (hG : GM M) (hz : ∀ q, 3 ≤ q → mR M 702 0 q = none) (hk : k < 3) (hon : on k = true) (hp : SpD (ws k)) (hQ : ∀ M', WWT G U1 A S on (up1 ws k (ws k)) lf M' ∧ GTC G U1 BB A S T tp pl L V P M' ∧ Fr TWF M M' ∧ Ty M' → mS M' ≤ B0 + 2 * rs G M' → Q (objO (dS (ws k)) a b) M') : w_Model_object 0 (Int32.ofNat k) a b Q M := by
  obtain ⟨nq, nl, nf, nk, B1, x, ⟨hR1, hx⟩, hb⟩ := (h.2.2.2 k hk).1 hon
  have hR := hR1.bb hB0
  obtain ⟨⟨hD, hD6⟩, hS⟩ := h.st hG hz hk
  refine mo_w_Model_object (T := fun q => q = 1000 + k) hD hD6 (by rw [n0k hk]) (Q := fun r M' => Fr F_Model_object M M' ∧ r = (objO (dS (ws k)) a b) ∧ TAx G (U1, S) A S (dW (ws k)) k (dB (ws k)) nq nl nf nk B0 (dF (ws k)) x (dS (ws k)) M') (fun r M' ho hx2 => ?_) hS (mf_w_Model_object (fun _ _ hf h => ⟨hf, h⟩) (ct_object hk h.1.2 hon hp.1.1.1 hp.1.2.1.1.1.1.1.1 hR (fun M' hR' _ => ⟨rfl, hR'⟩)))
  obtain ⟨hf, e, hR'⟩ := hx2
  subst e
  exact hQ M' (RT.nx h hg hk hon ho hf (K2.fr hf rfl) ⟨nq, nl, nf, nk, B0, x, ⟨hR', hx⟩, hb⟩ h.2.2.1.1 ((hf.I (f := 11) (k := 93) rfl 0).trans h.2.2.1.2) (hg.2.2.2.1.1.fr hf)) hR'.md.2.2.2.2.2.1
theorem up1_id {α : Type} {f : Nat → α} {k : Nat} : up1 f k (f k) = f := by
  funext j
  unfold up1
  split
  · rename_i h; rw [h]
  · rfl
theorem SpD.b51 {d : Wld} (hp : SpD d) : (zB (dS d)).length ≤ 51 := by
  have hCO := hp.1.2.1.1.1.1.1.1.2.2.2.2
  have h51 := hp.1.1.1.2.2.2
  have := nd_leN (A := zB (dS d)) (B := List.range 51) hCO.2.2.1 (fun k hk => List.mem_range.mpr (by have := (hCO.2.2.2 k hk).1.2; omega))
  rw [List.length_range] at this
  exact this
theorem SpD.zf {d : Wld} {m : Nat} (hp : SpD d) (hz : zK (dS d) ≤ 60000) (hK : dK d ≤ m) (hm : m ≤ 64) : (zF (dS d)).length < 1000000 := by
  have h1 := hp.1.2.1.1.1.2.2
  have h2 := nC3_le (f := zC (dS d))
  omega
theorem hkb (hz : zK (dS (ws k)) ≤ 60000) : zK (dS (ws k)) < 1000000 := by omega
theorem T_run (hzz : zK (dS (ws k)) ≤ 60000) {B0 : Nat} (hB0 : mS M ≤ B0 + 2 * rs G M) (h : WWT G U1 A S on ws lf M) (hg : GTC G U1 BB A S T tp pl L V P M) (hG : GM M) (hz : ∀ q, 3 ≤ q → mR M 702 0 q = none) (hk : k < 3) (hon : on k = true) (hp : SpD (ws k)) (hQ : ∀ M', WWT G U1 A S on (up1 ws k (ws k)) lf M' ∧ GTC G U1 BB A S T tp pl L V P M' ∧ Fr TWF M M' ∧ Ty M' → mS M' ≤ B0 + 2 * rs G M' → Q (runO (dS (ws k)) b a) M') : w_Model_run 0 (Int32.ofNat k) b a Q M := by
  obtain ⟨nq, nl, nf, nk, B1, x, ⟨hR1, hx⟩, hb⟩ := (h.2.2.2 k hk).1 hon
  have hR := hR1.bb hB0
  obtain ⟨⟨hD, hD6⟩, hS⟩ := h.st hG hz hk
  refine mo_w_Model_run (T := fun q => q = 1000 + k) hD hD6 (by rw [n0k hk]) (Q := fun r M' => Fr F_Model_run M M' ∧ r = (runO (dS (ws k)) b a) ∧ TAx G (U1, S) A S (dW (ws k)) k (dB (ws k)) nq nl nf nk B0 (dF (ws k)) x (dS (ws k)) M') (fun r M' ho hx2 => ?_) hS (mf_w_Model_run (fun _ _ hf h => ⟨hf, h⟩) (ct_run hk h.1.2 hon hp.1.1.1 hp.1.2.1.1.1.1 hp.1.2.1.1.2.1 (hkb hzz) hp.1.2.1.1.2.2.1 hR (fun M' hR' _ => ⟨rfl, hR'⟩)))
  obtain ⟨hf, e, hR'⟩ := hx2
  subst e
  exact hQ M' (RT.nx h hg hk hon ho hf (K2.fr hf rfl) ⟨nq, nl, nf, nk, B0, x, ⟨hR', hx⟩, hb⟩ h.2.2.1.1 ((hf.I (f := 11) (k := 93) rfl 0).trans h.2.2.1.2) (hg.2.2.2.1.1.fr hf)) hR'.md.2.2.2.2.2.1
end
section
variable {G : List Sl} {Z n f : Nat} {M : Mem} {a b c d e0 : Int32}
theorem JO_classes (H : IVx G Z n f M) (hn : n < 64) : w_Works_classes 0 a (fun r M1 => w_Model_classes 0 a (fun r' M2 => r = r' ∧ IVx G Z (n + 1) f M2) M1) M := by
  obtain ⟨e, U1, BB, A1, A2, S, on, ws, lf, T, tp, pl, L, V, P, ⟨⟨h1, h2⟩, h3, h4⟩, sp, sz⟩ := H
  have fin : IVx G Z (n + 1) f M := ⟨e, U1, BB, A1, A2, S, on, ws, lf, T, tp, pl, L, V, P, ⟨⟨h1, h2⟩, h3, h4⟩, sp.nx hn, sz⟩
  cases hw : wOf on a with
  | none => exact nw_Works_classes h1.1.2 hw (nw_Model_classes h3.1.2 hw ⟨rfl, fin⟩)
  | some k =>
    obtain ⟨hk, ea, hon⟩ := wOf_some hw
    subst ea
    have hp := (sp.d hk hon).1
    have hzz : zK (dS (ws k)) ≤ 60000 := by
      have q1 := (sp.d hk hon).2.2.2
      have q2 := sp.2.2.1
      have q3 : e k ≤ e 0 + e 1 + e 2 := by
        have : k = 0 ∨ k = 1 ∨ k = 2 := by omega
        rcases this with z | z | z <;> subst z <;> omega
      omega
    obtain ⟨nq, nk, np, nh, nr, B, hR, hb⟩ := (h1.2.2 k hk).1 hon
    obtain ⟨mq, ml, mf, m4, B', x, ⟨hT, hx⟩, hb'⟩ := (h3.2.2.2 k hk).1 hon
    exact c_classes hk h1.1.2 hon hR (ct_classes hk h3.1.2 hon hT ⟨rfl, fin⟩)
theorem JO_checked (H : IVx G Z n f M) (hn : n < 64) : w_Works_checked 0 a c (fun r M1 => w_Model_checked 0 a c (fun r' M2 => r = r' ∧ IVx G Z (n + 1) f M2) M1) M := by
  obtain ⟨e, U1, BB, A1, A2, S, on, ws, lf, T, tp, pl, L, V, P, ⟨⟨h1, h2⟩, h3, h4⟩, sp, sz⟩ := H
  have fin : IVx G Z (n + 1) f M := ⟨e, U1, BB, A1, A2, S, on, ws, lf, T, tp, pl, L, V, P, ⟨⟨h1, h2⟩, h3, h4⟩, sp.nx hn, sz⟩
  cases hw : wOf on a with
  | none => exact nw_Works_checked h1.1.2 hw (nw_Model_checked h3.1.2 hw ⟨rfl, fin⟩)
  | some k =>
    obtain ⟨hk, ea, hon⟩ := wOf_some hw
    subst ea
    have hp := (sp.d hk hon).1
    have hzz : zK (dS (ws k)) ≤ 60000 := by
      have q1 := (sp.d hk hon).2.2.2
      have q2 := sp.2.2.1
      have q3 : e k ≤ e 0 + e 1 + e 2 := by
        have : k = 0 ∨ k = 1 ∨ k = 2 := by omega
        rcases this with z | z | z <;> subst z <;> omega
      omega
    obtain ⟨nq, nk, np, nh, nr, B, hR, hb⟩ := (h1.2.2 k hk).1 hon
    obtain ⟨mq, ml, mf, m4, B', x, ⟨hT, hx⟩, hb'⟩ := (h3.2.2.2 k hk).1 hon
    exact c_checked hk h1.1.2 hon hR (ct_checked hk h3.1.2 hon hT ⟨rfl, fin⟩)
theorem JO_started (H : IVx G Z n f M) (hn : n < 64) : w_Works_started 0 a c (fun r M1 => w_Model_started 0 a c (fun r' M2 => r = r' ∧ IVx G Z (n + 1) f M2) M1) M := by
  obtain ⟨e, U1, BB, A1, A2, S, on, ws, lf, T, tp, pl, L, V, P, ⟨⟨h1, h2⟩, h3, h4⟩, sp, sz⟩ := H
  have fin : IVx G Z (n + 1) f M := ⟨e, U1, BB, A1, A2, S, on, ws, lf, T, tp, pl, L, V, P, ⟨⟨h1, h2⟩, h3, h4⟩, sp.nx hn, sz⟩
  cases hw : wOf on a with
  | none => exact nw_Works_started h1.1.2 hw (nw_Model_started h3.1.2 hw ⟨rfl, fin⟩)
  | some k =>
    obtain ⟨hk, ea, hon⟩ := wOf_some hw
    subst ea
    have hp := (sp.d hk hon).1
    have hzz : zK (dS (ws k)) ≤ 60000 := by
      have q1 := (sp.d hk hon).2.2.2
      have q2 := sp.2.2.1
      have q3 : e k ≤ e 0 + e 1 + e 2 := by
        have : k = 0 ∨ k = 1 ∨ k = 2 := by omega
        rcases this with z | z | z <;> subst z <;> omega
      omega
    obtain ⟨nq, nk, np, nh, nr, B, hR, hb⟩ := (h1.2.2 k hk).1 hon
    obtain ⟨mq, ml, mf, m4, B', x, ⟨hT, hx⟩, hb'⟩ := (h3.2.2.2 k hk).1 hon
    exact c_started hk h1.1.2 hon hR hp.b51 (ct_started hk h3.1.2 hon hT hp.b51 ⟨rfl, fin⟩)
theorem JO_done (H : IVx G Z n f M) (hn : n < 64) : w_Works_done 0 a c (fun r M1 => w_Model_done 0 a c (fun r' M2 => r = r' ∧ IVx G Z (n + 1) f M2) M1) M := by
  obtain ⟨e, U1, BB, A1, A2, S, on, ws, lf, T, tp, pl, L, V, P, ⟨⟨h1, h2⟩, h3, h4⟩, sp, sz⟩ := H
  have fin : IVx G Z (n + 1) f M := ⟨e, U1, BB, A1, A2, S, on, ws, lf, T, tp, pl, L, V, P, ⟨⟨h1, h2⟩, h3, h4⟩, sp.nx hn, sz⟩
  cases hw : wOf on a with
  | none => exact nw_Works_done h1.1.2 hw (nw_Model_done h3.1.2 hw ⟨rfl, fin⟩)
  | some k =>
    obtain ⟨hk, ea, hon⟩ := wOf_some hw
    subst ea
    have hp := (sp.d hk hon).1
    have hzz : zK (dS (ws k)) ≤ 60000 := by
      have q1 := (sp.d hk hon).2.2.2
      have q2 := sp.2.2.1
      have q3 : e k ≤ e 0 + e 1 + e 2 := by
        have : k = 0 ∨ k = 1 ∨ k = 2 := by omega
        rcases this with z | z | z <;> subst z <;> omega
      omega
    obtain ⟨nq, nk, np, nh, nr, B, hR, hb⟩ := (h1.2.2 k hk).1 hon
    obtain ⟨mq, ml, mf, m4, B', x, ⟨hT, hx⟩, hb'⟩ := (h3.2.2.2 k hk).1 hon
    exact c_done hk h1.1.2 hon hR (ct_done hk h3.1.2 hon hT ⟨rfl, fin⟩)
theorem JO_trace (H : IVx G Z n f M) (hn : n < 64) : w_Works_trace 0 a b c (fun r M1 => w_Model_trace 0 a b c (fun r' M2 => r = r' ∧ IVx G Z (n + 1) f M2) M1) M := by
  obtain ⟨e, U1, BB, A1, A2, S, on, ws, lf, T, tp, pl, L, V, P, ⟨⟨h1, h2⟩, h3, h4⟩, sp, sz⟩ := H
  have fin : IVx G Z (n + 1) f M := ⟨e, U1, BB, A1, A2, S, on, ws, lf, T, tp, pl, L, V, P, ⟨⟨h1, h2⟩, h3, h4⟩, sp.nx hn, sz⟩
  cases hw : wOf on a with
  | none => exact nw_Works_trace h1.1.2 hw (nw_Model_trace h3.1.2 hw ⟨rfl, fin⟩)
  | some k =>
    obtain ⟨hk, ea, hon⟩ := wOf_some hw
    subst ea
    have hp := (sp.d hk hon).1
    have hzz : zK (dS (ws k)) ≤ 60000 := by
      have q1 := (sp.d hk hon).2.2.2
      have q2 := sp.2.2.1
      have q3 : e k ≤ e 0 + e 1 + e 2 := by
        have : k = 0 ∨ k = 1 ∨ k = 2 := by omega
        rcases this with z | z | z <;> subst z <;> omega
      omega
    obtain ⟨nq, nk, np, nh, nr, B, hR, hb⟩ := (h1.2.2 k hk).1 hon
    obtain ⟨mq, ml, mf, m4, B', x, ⟨hT, hx⟩, hb'⟩ := (h3.2.2.2 k hk).1 hon
    exact c_trace hk h1.1.2 hon hp.1.2.1.1.1.1.1.2.1 hR (ct_trace hk h3.1.2 hon hp.1.2.1.1.1.1.1.2.1 hp.1.2.1.1.2.2.2 hT ⟨rfl, fin⟩)
theorem JO_value (H : IVx G Z n f M) (hn : n < 64) : w_Works_value 0 a b c d (fun r M1 => w_Model_value 0 a b c d (fun r' M2 => r = r' ∧ IVx G Z (n + 1) f M2) M1) M := by
  obtain ⟨e, U1, BB, A1, A2, S, on, ws, lf, T, tp, pl, L, V, P, ⟨⟨h1, h2⟩, h3, h4⟩, sp, sz⟩ := H
  have fin : IVx G Z (n + 1) f M := ⟨e, U1, BB, A1, A2, S, on, ws, lf, T, tp, pl, L, V, P, ⟨⟨h1, h2⟩, h3, h4⟩, sp.nx hn, sz⟩
  cases hw : wOf on a with
  | none => exact nw_Works_value h1.1.2 hw (nw_Model_value h3.1.2 hw ⟨rfl, fin⟩)
  | some k =>
    obtain ⟨hk, ea, hon⟩ := wOf_some hw
    subst ea
    have hp := (sp.d hk hon).1
    have hzz : zK (dS (ws k)) ≤ 60000 := by
      have q1 := (sp.d hk hon).2.2.2
      have q2 := sp.2.2.1
      have q3 : e k ≤ e 0 + e 1 + e 2 := by
        have : k = 0 ∨ k = 1 ∨ k = 2 := by omega
        rcases this with z | z | z <;> subst z <;> omega
      omega
    obtain ⟨nq, nk, np, nh, nr, B, hR, hb⟩ := (h1.2.2 k hk).1 hon
    obtain ⟨mq, ml, mf, m4, B', x, ⟨hT, hx⟩, hb'⟩ := (h3.2.2.2 k hk).1 hon
    exact c_value hk h1.1.2 hon hp.1.1.1 hp.1.2.1.1.1.1 hR (ct_value hk h3.1.2 hon hp.1.1.1 hp.1.2.1.1.1.1 hp.1.2.1.1.2.2.1 hT ⟨rfl, fin⟩)
theorem JO_fixed (H : IVx G Z n f M) (hn : n < 64) : w_Works_fixed 0 a c d (fun r M1 => w_Model_fixed 0 a c d (fun r' M2 => r = r' ∧ IVx G Z (n + 1) f M2) M1) M := by
  obtain ⟨e, U1, BB, A1, A2, S, on, ws, lf, T, tp, pl, L, V, P, ⟨⟨h1, h2⟩, h3, h4⟩, sp, sz⟩ := H
  have fin : IVx G Z (n + 1) f M := ⟨e, U1, BB, A1, A2, S, on, ws, lf, T, tp, pl, L, V, P, ⟨⟨h1, h2⟩, h3, h4⟩, sp.nx hn, sz⟩
  cases hw : wOf on a with
  | none => exact nw_Works_fixed h1.1.2 hw (nw_Model_fixed h3.1.2 hw ⟨rfl, fin⟩)
  | some k =>
    obtain ⟨hk, ea, hon⟩ := wOf_some hw
    subst ea
    have hp := (sp.d hk hon).1
    have hzz : zK (dS (ws k)) ≤ 60000 := by
      have q1 := (sp.d hk hon).2.2.2
      have q2 := sp.2.2.1
      have q3 : e k ≤ e 0 + e 1 + e 2 := by
        have : k = 0 ∨ k = 1 ∨ k = 2 := by omega
        rcases this with z | z | z <;> subst z <;> omega
      omega
    obtain ⟨nq, nk, np, nh, nr, B, hR, hb⟩ := (h1.2.2 k hk).1 hon
    obtain ⟨mq, ml, mf, m4, B', x, ⟨hT, hx⟩, hb'⟩ := (h3.2.2.2 k hk).1 hon
    exact c_fixed hk h1.1.2 hon hp.1.1.1 h2.na.1 hp.1.1.ty hR (ct_fixed hk h3.1.2 hon hp.1.1.1 hp.1.2.1.1.1.1.1.1 hp.1.1.ty hT ⟨rfl, fin⟩)
theorem JO_member (H : IVx G Z n f M) (hn : n < 64) : w_Works_member 0 a b c d (fun r M1 => w_Model_member 0 a b c d (fun r' M2 => r = r' ∧ IVx G Z (n + 1) f M2) M1) M := by
  obtain ⟨e, U1, BB, A1, A2, S, on, ws, lf, T, tp, pl, L, V, P, ⟨⟨h1, h2⟩, h3, h4⟩, sp, sz⟩ := H
  have fin : IVx G Z (n + 1) f M := ⟨e, U1, BB, A1, A2, S, on, ws, lf, T, tp, pl, L, V, P, ⟨⟨h1, h2⟩, h3, h4⟩, sp.nx hn, sz⟩
  cases hw : wOf on a with
  | none => exact nw_Works_member h1.1.2 hw (nw_Model_member h3.1.2 hw ⟨rfl, fin⟩)
  | some k =>
    obtain ⟨hk, ea, hon⟩ := wOf_some hw
    subst ea
    have hp := (sp.d hk hon).1
    have hzz : zK (dS (ws k)) ≤ 60000 := by
      have q1 := (sp.d hk hon).2.2.2
      have q2 := sp.2.2.1
      have q3 : e k ≤ e 0 + e 1 + e 2 := by
        have : k = 0 ∨ k = 1 ∨ k = 2 := by omega
        rcases this with z | z | z <;> subst z <;> omega
      omega
    obtain ⟨nq, nk, np, nh, nr, B, hR, hb⟩ := (h1.2.2 k hk).1 hon
    obtain ⟨mq, ml, mf, m4, B', x, ⟨hT, hx⟩, hb'⟩ := (h3.2.2.2 k hk).1 hon
    exact c_wmember hk h1.1.2 hon hp.1.1.1 h2.na.1 hR (ct_wmember hk h3.1.2 hon hp.1.1.1 hT ⟨rfl, fin⟩)
theorem JO_name (H : IVx G Z n f M) (hn : n < 64) : w_Works_name 0 a b c d e0 (fun r M1 => w_Model_name 0 a b c d e0 (fun r' M2 => r = r' ∧ IVx G Z (n + 1) f M2) M1) M := by
  obtain ⟨e, U1, BB, A1, A2, S, on, ws, lf, T, tp, pl, L, V, P, ⟨⟨h1, h2⟩, h3, h4⟩, sp, sz⟩ := H
  have fin : IVx G Z (n + 1) f M := ⟨e, U1, BB, A1, A2, S, on, ws, lf, T, tp, pl, L, V, P, ⟨⟨h1, h2⟩, h3, h4⟩, sp.nx hn, sz⟩
  cases hw : wOf on a with
  | none => exact nw_Works_name h1.1.2 hw (nw_Model_name h3.1.2 hw ⟨rfl, fin⟩)
  | some k =>
    obtain ⟨hk, ea, hon⟩ := wOf_some hw
    subst ea
    have hp := (sp.d hk hon).1
    have hzz : zK (dS (ws k)) ≤ 60000 := by
      have q1 := (sp.d hk hon).2.2.2
      have q2 := sp.2.2.1
      have q3 : e k ≤ e 0 + e 1 + e 2 := by
        have : k = 0 ∨ k = 1 ∨ k = 2 := by omega
        rcases this with z | z | z <;> subst z <;> omega
      omega
    obtain ⟨nq, nk, np, nh, nr, B, hR, hb⟩ := (h1.2.2 k hk).1 hon
    obtain ⟨mq, ml, mf, m4, B', x, ⟨hT, hx⟩, hb'⟩ := (h3.2.2.2 k hk).1 hon
    exact c_wname hk h1.1.2 hon hp.1.1.1 h2.nc.1 hR (ct_wname hk h3.1.2 hon hp.1.1.1 hT ⟨rfl, fin⟩)
theorem JO_told (H : IVx G Z n f M) (hn : n < 64) : w_Works_told 0 a b c (fun r M1 => w_Model_told 0 a b c (fun r' M2 => r = r' ∧ IVx G Z (n + 1) f M2) M1) M := by
  obtain ⟨e, U1, BB, A1, A2, S, on, ws, lf, T, tp, pl, L, V, P, ⟨⟨h1, h2⟩, h3, h4⟩, sp, sz⟩ := H
  have fin : IVx G Z (n + 1) f M := ⟨e, U1, BB, A1, A2, S, on, ws, lf, T, tp, pl, L, V, P, ⟨⟨h1, h2⟩, h3, h4⟩, sp.nx hn, sz⟩
  cases hw : wOf on a with
  | none => exact nw_Works_told h1.1.2 hw (nw_Model_told h3.1.2 hw ⟨rfl, fin⟩)
  | some k =>
    obtain ⟨hk, ea, hon⟩ := wOf_some hw
    subst ea
    have hp := (sp.d hk hon).1
    have hzz : zK (dS (ws k)) ≤ 60000 := by
      have q1 := (sp.d hk hon).2.2.2
      have q2 := sp.2.2.1
      have q3 : e k ≤ e 0 + e 1 + e 2 := by
        have : k = 0 ∨ k = 1 ∨ k = 2 := by omega
        rcases this with z | z | z <;> subst z <;> omega
      omega
    obtain ⟨nq, nk, np, nh, nr, B, hR, hb⟩ := (h1.2.2 k hk).1 hon
    obtain ⟨mq, ml, mf, m4, B', x, ⟨hT, hx⟩, hb'⟩ := (h3.2.2.2 k hk).1 hon
    refine c_wtold hk h1.1.2 hon hp.1.1.1 hR (T_told sz.t h3 h4 h1.1.1 h2.z hk hon hp (fun M2 t z2 => ⟨rfl, IVx.mk (ws := up1 ws k (ws k)) (by rw [up1_id]; exact h1) h2 t z2 (sp.up hn ((sp.d hk hon).nx (by omega) sp.2.2.2.2.2.2.1 (by have := sp.2.2.2.2.2.2.1; omega) (Nat.le_refl _)) (sp.2.1 k hk))⟩))
theorem JO_object (H : IVx G Z n f M) (hn : n < 64) : w_Works_object 0 a b c (fun r M1 => w_Model_object 0 a b c (fun r' M2 => r = r' ∧ IVx G Z (n + 1) f M2) M1) M := by
  obtain ⟨e, U1, BB, A1, A2, S, on, ws, lf, T, tp, pl, L, V, P, ⟨⟨h1, h2⟩, h3, h4⟩, sp, sz⟩ := H
  have fin : IVx G Z (n + 1) f M := ⟨e, U1, BB, A1, A2, S, on, ws, lf, T, tp, pl, L, V, P, ⟨⟨h1, h2⟩, h3, h4⟩, sp.nx hn, sz⟩
  cases hw : wOf on a with
  | none => exact nw_Works_object h1.1.2 hw (nw_Model_object h3.1.2 hw ⟨rfl, fin⟩)
  | some k =>
    obtain ⟨hk, ea, hon⟩ := wOf_some hw
    subst ea
    have hp := (sp.d hk hon).1
    have hzz : zK (dS (ws k)) ≤ 60000 := by
      have q1 := (sp.d hk hon).2.2.2
      have q2 := sp.2.2.1
      have q3 : e k ≤ e 0 + e 1 + e 2 := by
        have : k = 0 ∨ k = 1 ∨ k = 2 := by omega
        rcases this with z | z | z <;> subst z <;> omega
      omega
    obtain ⟨nq, nk, np, nh, nr, B, hR, hb⟩ := (h1.2.2 k hk).1 hon
    obtain ⟨mq, ml, mf, m4, B', x, ⟨hT, hx⟩, hb'⟩ := (h3.2.2.2 k hk).1 hon
    refine c_object hk h1.1.2 hon hp.1.1.1 hp.1.2.1.1.1.1.1.1 h2.na.1 hR (T_object sz.t h3 h4 h1.1.1 h2.z hk hon hp (fun M2 t z2 => ⟨rfl, IVx.mk (ws := up1 ws k (ws k)) (by rw [up1_id]; exact h1) h2 t z2 (sp.up hn ((sp.d hk hon).nx (by omega) sp.2.2.2.2.2.2.1 (by have := sp.2.2.2.2.2.2.1; omega) (Nat.le_refl _)) (sp.2.1 k hk))⟩))
theorem JO_run (H : IVx G Z n f M) (hn : n < 64) : w_Works_run 0 a b c (fun r M1 => w_Model_run 0 a b c (fun r' M2 => r = r' ∧ IVx G Z (n + 1) f M2) M1) M := by
  obtain ⟨e, U1, BB, A1, A2, S, on, ws, lf, T, tp, pl, L, V, P, ⟨⟨h1, h2⟩, h3, h4⟩, sp, sz⟩ := H
  have fin : IVx G Z (n + 1) f M := ⟨e, U1, BB, A1, A2, S, on, ws, lf, T, tp, pl, L, V, P, ⟨⟨h1, h2⟩, h3, h4⟩, sp.nx hn, sz⟩
  cases hw : wOf on a with
  | none => exact nw_Works_run h1.1.2 hw (nw_Model_run h3.1.2 hw ⟨rfl, fin⟩)
  | some k =>
    obtain ⟨hk, ea, hon⟩ := wOf_some hw
    subst ea
    have hp := (sp.d hk hon).1
    have hzz : zK (dS (ws k)) ≤ 60000 := by
      have q1 := (sp.d hk hon).2.2.2
      have q2 := sp.2.2.1
      have q3 : e k ≤ e 0 + e 1 + e 2 := by
        have : k = 0 ∨ k = 1 ∨ k = 2 := by omega
        rcases this with z | z | z <;> subst z <;> omega
      omega
    obtain ⟨nq, nk, np, nh, nr, B, hR, hb⟩ := (h1.2.2 k hk).1 hon
    obtain ⟨mq, ml, mf, m4, B', x, ⟨hT, hx⟩, hb'⟩ := (h3.2.2.2 k hk).1 hon
    refine c_run hk h1.1.2 hon hp.1.1.1 hp.1.2.1.1.1.1 hR (T_run hzz sz.t h3 h4 h1.1.1 h2.z hk hon hp (fun M2 t z2 => ⟨rfl, IVx.mk (ws := up1 ws k (ws k)) (by rw [up1_id]; exact h1) h2 t z2 (sp.up hn ((sp.d hk hon).nx (by omega) sp.2.2.2.2.2.2.1 (by have := sp.2.2.2.2.2.2.1; omega) (Nat.le_refl _)) (sp.2.1 k hk))⟩))
theorem JO_link (H : IVx G Z n f M) (hn : n < 64) : w_Works_link 0 a b (fun r M1 => w_Model_link 0 a b (fun r' M2 => r = r' ∧ IVx G Z (n + 1) f M2) M1) M := by
  obtain ⟨e, U1, BB, A1, A2, S, on, ws, lf, T, tp, pl, L, V, P, ⟨⟨h1, h2⟩, h3, h4⟩, sp, sz⟩ := H
  have fin : IVx G Z (n + 1) f M := ⟨e, U1, BB, A1, A2, S, on, ws, lf, T, tp, pl, L, V, P, ⟨⟨h1, h2⟩, h3, h4⟩, sp.nx hn, sz⟩
  cases hw : wOf on a with
  | none => exact nw_Works_link h1.1.2 hw (nw_Model_link h3.1.2 hw ⟨rfl, fin⟩)
  | some k =>
    obtain ⟨hk, ea, hon⟩ := wOf_some hw
    subst ea
    have hp := (sp.d hk hon).1
    have hzz : zK (dS (ws k)) ≤ 60000 := by
      have q1 := (sp.d hk hon).2.2.2
      have q2 := sp.2.2.1
      have q3 : e k ≤ e 0 + e 1 + e 2 := by
        have : k = 0 ∨ k = 1 ∨ k = 2 := by omega
        rcases this with z | z | z <;> subst z <;> omega
      omega
    refine W_link (sz.b (w := k + 1) (by omega)) h1 h2 hk hon hp (fun M1 w z => ?_)
    obtain ⟨w1, w2, w3, w4, w5⟩ := w
    have hr := (h3.2.1.2.wk h3.2.1.1.1.1 w3).2
    have sz1 := SZ.b' (by omega) w5 hr z
    exact T_link sz1.t (h3.wk w3 w4) (h4.wk h3.2.1.1.1 h3.2.1.2 w3) w1.1.1 w2.z hk hon hp (fun M2 t z2 => ⟨rfl, IVx.mk w1 w2 t z2 (sp.ms hn hk hon (hp.1.2.ln hp.1.1.1) lnk_K)⟩)
theorem JO_quantum (H : IVx G Z n f M) (hn : n < 64) : w_Works_quantum 0 a b (fun r M1 => w_Model_quantum 0 a b (fun r' M2 => r = r' ∧ IVx G Z (n + 1) f M2) M1) M := by
  obtain ⟨e, U1, BB, A1, A2, S, on, ws, lf, T, tp, pl, L, V, P, ⟨⟨h1, h2⟩, h3, h4⟩, sp, sz⟩ := H
  have fin : IVx G Z (n + 1) f M := ⟨e, U1, BB, A1, A2, S, on, ws, lf, T, tp, pl, L, V, P, ⟨⟨h1, h2⟩, h3, h4⟩, sp.nx hn, sz⟩
  cases hw : wOf on a with
  | none => exact nw_Works_quantum h1.1.2 hw (nw_Model_quantum h3.1.2 hw ⟨rfl, fin⟩)
  | some k =>
    obtain ⟨hk, ea, hon⟩ := wOf_some hw
    subst ea
    have hp := (sp.d hk hon).1
    have hzz : zK (dS (ws k)) ≤ 60000 := by
      have q1 := (sp.d hk hon).2.2.2
      have q2 := sp.2.2.1
      have q3 : e k ≤ e 0 + e 1 + e 2 := by
        have : k = 0 ∨ k = 1 ∨ k = 2 := by omega
        rcases this with z | z | z <;> subst z <;> omega
      omega
    refine W_quantum (sz.b (w := k + 1) (by omega)) h1 h2 hk hon hp (fun M1 w z => ?_)
    obtain ⟨w1, w2, w3, w4, w5⟩ := w
    have hr := (h3.2.1.2.wk h3.2.1.1.1.1 w3).2
    have sz1 := SZ.b' (by omega) w5 hr z
    exact T_quantum sz1.t (h3.wk w3 w4) (h4.wk h3.2.1.1.1 h3.2.1.2 w3) w1.1.1 w2.z hk hon hp (fun M2 t z2 => ⟨rfl, IVx.mk w1 w2 t z2 (sp.ms hn hk hon hp.1.2.qn qnt_K)⟩)
theorem JO_halt (H : IVx G Z n f M) (hn : n < 64) : w_Works_halt 0 a (fun r M1 => w_Model_halt 0 a (fun r' M2 => r = r' ∧ IVx G Z (n + 1) f M2) M1) M := by
  obtain ⟨e, U1, BB, A1, A2, S, on, ws, lf, T, tp, pl, L, V, P, ⟨⟨h1, h2⟩, h3, h4⟩, sp, sz⟩ := H
  have fin : IVx G Z (n + 1) f M := ⟨e, U1, BB, A1, A2, S, on, ws, lf, T, tp, pl, L, V, P, ⟨⟨h1, h2⟩, h3, h4⟩, sp.nx hn, sz⟩
  cases hw : wOf on a with
  | none => exact nw_Works_halt h1.1.2 hw (nw_Model_halt h3.1.2 hw ⟨rfl, fin⟩)
  | some k =>
    obtain ⟨hk, ea, hon⟩ := wOf_some hw
    subst ea
    have hp := (sp.d hk hon).1
    have hzz : zK (dS (ws k)) ≤ 60000 := by
      have q1 := (sp.d hk hon).2.2.2
      have q2 := sp.2.2.1
      have q3 : e k ≤ e 0 + e 1 + e 2 := by
        have : k = 0 ∨ k = 1 ∨ k = 2 := by omega
        rcases this with z | z | z <;> subst z <;> omega
      omega
    refine W_halt (hp.zf hzz (sp.d hk hon).2.2.1 sp.2.2.2.2.2.2.2) (sz.b (w := k + 1) (by omega)) h1 h2 hk hon hp (fun M1 w z => ?_)
    obtain ⟨w1, w2, w3, w4, w5⟩ := w
    have hr := (h3.2.1.2.wk h3.2.1.1.1.1 w3).2
    have sz1 := SZ.b' (by omega) w5 hr z
    exact T_halt (hp.zf hzz (sp.d hk hon).2.2.1 sp.2.2.2.2.2.2.2) sz1.t (h3.wk w3 w4) (h4.wk h3.2.1.1.1 h3.2.1.2 w3) w1.1.1 w2.z hk hon hp (fun M2 t z2 => ⟨rfl, IVx.mk w1 w2 t z2 (sp.ms hn hk hon hp.1.2.hl rfl)⟩)
theorem JO_foretell (H : IVx G Z n f M) (hn : n < 64) : w_Works_foretell 0 a b c d (fun r M1 => w_Model_foretell 0 a b c d (fun r' M2 => r = r' ∧ IVx G Z (n + 1) f M2) M1) M := by
  obtain ⟨e, U1, BB, A1, A2, S, on, ws, lf, T, tp, pl, L, V, P, ⟨⟨h1, h2⟩, h3, h4⟩, sp, sz⟩ := H
  have fin : IVx G Z (n + 1) f M := ⟨e, U1, BB, A1, A2, S, on, ws, lf, T, tp, pl, L, V, P, ⟨⟨h1, h2⟩, h3, h4⟩, sp.nx hn, sz⟩
  cases hw : wOf on a with
  | none => exact nw_Works_foretell h1.1.2 hw (nw_Model_foretell h3.1.2 hw ⟨rfl, fin⟩)
  | some k =>
    obtain ⟨hk, ea, hon⟩ := wOf_some hw
    subst ea
    have hp := (sp.d hk hon).1
    have hzz : zK (dS (ws k)) ≤ 60000 := by
      have q1 := (sp.d hk hon).2.2.2
      have q2 := sp.2.2.1
      have q3 : e k ≤ e 0 + e 1 + e 2 := by
        have : k = 0 ∨ k = 1 ∨ k = 2 := by omega
        rcases this with z | z | z <;> subst z <;> omega
      omega
    refine W_foretell (sz.b (w := k + 1) (by omega)) h1 h2 hk hon hp (fun M1 w z => ?_)
    obtain ⟨w1, w2, w3, w4, w5⟩ := w
    have hr := (h3.2.1.2.wk h3.2.1.1.1.1 w3).2
    have sz1 := SZ.b' (by omega) w5 hr z
    exact T_foretell sz1.t (h3.wk w3 w4) (h4.wk h3.2.1.1.1 h3.2.1.2 w3) w1.1.1 w2.z hk hon hp (fun M2 t z2 => ⟨rfl, IVx.mk w1 w2 t z2 (sp.ms hn hk hon (hp.1.2.fr hp.1.1.1.2.2.2) frt_K)⟩)
theorem JO_collect (H : IVx G Z n f M) (hn : n < 64) : w_Works_collect 0 a (fun r M1 => w_Model_collect 0 a (fun r' M2 => r = r' ∧ IVx G Z (n + 1) f M2) M1) M := by
  obtain ⟨e, U1, BB, A1, A2, S, on, ws, lf, T, tp, pl, L, V, P, ⟨⟨h1, h2⟩, h3, h4⟩, sp, sz⟩ := H
  have fin : IVx G Z (n + 1) f M := ⟨e, U1, BB, A1, A2, S, on, ws, lf, T, tp, pl, L, V, P, ⟨⟨h1, h2⟩, h3, h4⟩, sp.nx hn, sz⟩
  cases hw : wOf on a with
  | none => exact nw_Works_collect h1.1.2 hw (nw_Model_collect h3.1.2 hw ⟨rfl, fin⟩)
  | some k =>
    obtain ⟨hk, ea, hon⟩ := wOf_some hw
    subst ea
    have hp := (sp.d hk hon).1
    have hzz : zK (dS (ws k)) ≤ 60000 := by
      have q1 := (sp.d hk hon).2.2.2
      have q2 := sp.2.2.1
      have q3 : e k ≤ e 0 + e 1 + e 2 := by
        have : k = 0 ∨ k = 1 ∨ k = 2 := by omega
        rcases this with z | z | z <;> subst z <;> omega
      omega
    refine W_collect (sz.b (w := k + 1) (by omega)) h1 h2 hk hon hp (fun M1 w z => ?_)
    obtain ⟨w1, w2, w3, w4, w5⟩ := w
    have hr := (h3.2.1.2.wk h3.2.1.1.1.1 w3).2
    have sz1 := SZ.b' (by omega) w5 hr z
    exact T_collect sz1.t (h3.wk w3 w4) (h4.wk h3.2.1.1.1 h3.2.1.2 w3) w1.1.1 w2.z hk hon hp (fun M2 t z2 => ⟨rfl, IVx.mk w1 w2 t z2 (sp.ms hn hk hon (hp.1.2.co hp.1.1.1.1) rfl)⟩)
end
