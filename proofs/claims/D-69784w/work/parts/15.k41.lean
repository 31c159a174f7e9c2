/-! THE LAW'S LOOP: joint steps of the other operations (printed by gen/jo2.py) -/
section
variable {G : List Sl} {Z n f : Nat} {M : Mem} {a b c d e0 : Int32} {X1 : Mem → Mem → Prop} {X2 : Mem → Prop}
theorem JO_print (H : IVx G Z n f M) (hn : n < 64) : w_Works_print 0 a b (fun r M1 => w_Model_print 0 a b (fun r' M2 => r = r' ∧ IVx G Z (n + 1) f M2) M1) M := by
  obtain ⟨e, U1, BB, A1, A2, S, on, ws, lf, T, tp, pl, L, V, P, ⟨⟨h1, h2⟩, h3, h4⟩, sp, sz⟩ := H
  have fin : IVx G Z (n + 1) f M := ⟨e, U1, BB, A1, A2, S, on, ws, lf, T, tp, pl, L, V, P, ⟨⟨h1, h2⟩, h3, h4⟩, sp.nx hn, sz⟩
  cases hw : wOf on a with
  | none => exact nw_Works_print h1.1.2 hw (nw_Model_print h3.1.2 hw ⟨rfl, fin⟩)
  | some k =>
    obtain ⟨hk, ea, hon⟩ := wOf_some hw
    subst ea
    have hp := (sp.d hk hon).1
    have hfn := sp.2.2.2.2.2.2.1
    have hzz : zK (dS (ws k)) ≤ 60000 := by
      have q1 := (sp.d hk hon).2.2.2
      have q2 := sp.2.2.1
      have q3 : e k ≤ e 0 + e 1 + e 2 := by
        have : k = 0 ∨ k = 1 ∨ k = 2 := by omega
        rcases this with z | z | z <;> subst z <;> omega
      omega
    refine W_print (sz.b (w := k + 1) (by omega)) h1 h2 hk hon hp (fun M1 w z => ?_)
    obtain ⟨w1, w2, w3, w4, w5⟩ := w
    have hr := (h3.2.1.2.wk h3.2.1.1.1.1 w3).2
    have sz1 := SZ.b' (by omega) w5 hr z
    exact T_print sz1.t (h3.wk w3 w4) (h4.wk h3.2.1.1.1 h3.2.1.2 w3) w1.1.1 w2.z hk hon hp (fun M2 t z2 => ⟨rfl, IVx.mk w1 w2 t z2 (sp.up hn ((sp.d hk hon).nx (by omega) hfn (by omega) (Nat.le_refl _)) (sp.2.1 k hk))⟩)
theorem JO_kinds {inf : Bool} (H : IVx G Z n f M) (hn : n < 64) : w_Works_kinds 0 a b c (b2 inf) (fun r M1 => w_Model_kinds 0 a b c (b2 inf) (fun r' M2 => r = r' ∧ IVx G Z (n + 1) f M2) M1) M := by
  obtain ⟨e, U1, BB, A1, A2, S, on, ws, lf, T, tp, pl, L, V, P, ⟨⟨h1, h2⟩, h3, h4⟩, sp, sz⟩ := H
  have fin : IVx G Z (n + 1) f M := ⟨e, U1, BB, A1, A2, S, on, ws, lf, T, tp, pl, L, V, P, ⟨⟨h1, h2⟩, h3, h4⟩, sp.nx hn, sz⟩
  cases hw : wOf on a with
  | none => exact nw_Works_kinds h1.1.2 hw (nw_Model_kinds h3.1.2 hw ⟨rfl, fin⟩)
  | some k =>
    obtain ⟨hk, ea, hon⟩ := wOf_some hw
    subst ea
    have hp := (sp.d hk hon).1
    have hfn := sp.2.2.2.2.2.2.1
    have hzz : zK (dS (ws k)) ≤ 60000 := by
      have q1 := (sp.d hk hon).2.2.2
      have q2 := sp.2.2.1
      have q3 : e k ≤ e 0 + e 1 + e 2 := by
        have : k = 0 ∨ k = 1 ∨ k = 2 := by omega
        rcases this with z | z | z <;> subst z <;> omega
      omega
    refine W_kinds (sz.b (w := k + 1) (by omega)) h1 h2 hk hon hp (fun M1 w z => ?_)
    obtain ⟨w1, w2, w3, w4, w5⟩ := w
    have hr := (h3.2.1.2.wk h3.2.1.1.1.1 w3).2
    have sz1 := SZ.b' (by omega) w5 hr z
    exact T_kinds sz1.t (h3.wk w3 w4) (h4.wk h3.2.1.1.1 h3.2.1.2 w3) w1.1.1 w2.z hk hon hp (fun M2 t z2 => ⟨rfl, IVx.mk w1 w2 t z2 (sp.up hn ((sp.d hk hon).nx (by omega) hfn (by omega) (Nat.le_refl _)) (sp.2.1 k hk))⟩)
theorem JO_reach (H : IVx G Z n f M) (hn : n < 64) : w_Works_reach 0 a b c (fun r M1 => w_Model_reach 0 a b c (fun r' M2 => r = r' ∧ IVx G Z (n + 1) f M2) M1) M := by
  obtain ⟨e, U1, BB, A1, A2, S, on, ws, lf, T, tp, pl, L, V, P, ⟨⟨h1, h2⟩, h3, h4⟩, sp, sz⟩ := H
  have fin : IVx G Z (n + 1) f M := ⟨e, U1, BB, A1, A2, S, on, ws, lf, T, tp, pl, L, V, P, ⟨⟨h1, h2⟩, h3, h4⟩, sp.nx hn, sz⟩
  cases hw : wOf on a with
  | none => exact nw_Works_reach h1.1.2 hw (nw_Model_reach h3.1.2 hw ⟨rfl, fin⟩)
  | some k =>
    obtain ⟨hk, ea, hon⟩ := wOf_some hw
    subst ea
    have hp := (sp.d hk hon).1
    have hfn := sp.2.2.2.2.2.2.1
    have hzz : zK (dS (ws k)) ≤ 60000 := by
      have q1 := (sp.d hk hon).2.2.2
      have q2 := sp.2.2.1
      have q3 : e k ≤ e 0 + e 1 + e 2 := by
        have : k = 0 ∨ k = 1 ∨ k = 2 := by omega
        rcases this with z | z | z <;> subst z <;> omega
      omega
    obtain ⟨nq, nk, np, nh, nr, B, hR, hb⟩ := (h1.2.2 k hk).1 hon
    have h51 := hp.1.1.1.2.2.2
    have h12 := hR.1.1.1.w12 h51
    refine W_reach (sz.b (w := k + 1) (by omega)) h1 h2 hk hon hp (fun M1 w z => ?_)
    obtain ⟨w1, w2, w3, w4, w5⟩ := w
    have hr := (h3.2.1.2.wk h3.2.1.1.1.1 w3).2
    have sz1 := SZ.b' (by omega) w5 hr z
    refine T_reach h12 (hR.1.1.1.vl h51) sz1.t (h3.wk w3 w4) (h4.wk h3.2.1.1.1 h3.2.1.2 w3) w1.1.1 w2.z hk hon hp (fun M2 t z2 hov => ⟨rfl, IVx.mk w1 w2 t z2 ?_⟩)
    obtain ⟨x1, x2, x3, x4, x5, x6, x7, x8⟩ := sp.ms hn hk hon (hp.1.2.rc h51) rch_K
    refine ⟨x1, x2, x3, x4, x5, ?_, x7, x8⟩
    rcases hov with hov | hov
    · exact ⟨hR.1.1.1.vl h51 _ hov, fun m hm => ⟨by have := (hov.2 m hm).1; omega, by have := (hov.2 m hm).2; have := h12.2 m.1; omega⟩⟩
    · rw [hov]; exact x6
theorem SPE.stp {e : Nat → Nat} {U1 : List (List Kd × Kd)} {BB : List Nm} {on : Nat → Bool} {ws : Nat → Wld} {lf k F' : Nat} {tp : List Int32} {V : RV} {s : Ms} (h : SPE n f e U1 BB on ws lf tp V) (hn : n < 64) (hk : k < 3) (hon : on k = true) (hs : SpM (dW (ws k)) (dK (ws k)) s) (hz : zK (dS (ws k)) ≤ zK s) (hz2 : zK s ≤ zK (dS (ws k)) + lf) (hF : F' ≤ e k + 4400) : ∃ e', SPE (n + 1) f e' U1 BB on (up1 ws k (sSF (ws k) s F')) (zK (dS (ws k)) + lf - zK s) tp V := by
  obtain ⟨h1, h2, h3, h4, h5, h6, h7, h8⟩ := h
  obtain ⟨⟨⟨p1, p2⟩, p3⟩, q1, q2, q3⟩ := h1 k hk hon
  have hm : max (e k) (zK s) ≤ e k + (zK s - zK (dS (ws k))) := by omega
  refine ⟨up1 e k (max (e k) (zK s)), fun j hj ho => ?_, fun j hj => ?_, ?_, h4, h5.nx (by omega) (Nat.le_refl _) (by omega), h6, by omega, by omega⟩
  · by_cases c : j = k
    · subst c
      rw [up1_s, up1_s]
      refine ⟨⟨⟨p1, hs⟩, p3⟩, ?_, ?_, ?_⟩
      · show dD (ws j) + _ ≤ _
        omega
      · show dK (ws j) ≤ _
        omega
      · show zK s ≤ _
        omega
    · rw [up1_o c, up1_o c]; exact (h1 j hj ho).nx (by omega) h7 (by omega) (Nat.le_refl _)
  · by_cases c : j = k
    · subst c
      rw [up1_s, up1_s]
      show F' ≤ _
      omega
    · rw [up1_o c, up1_o c]; exact h2 j hj
  · have key : up1 e k (max (e k) (zK s)) 0 + up1 e k (max (e k) (zK s)) 1 + up1 e k (max (e k) (zK s)) 2 + e k = e 0 + e 1 + e 2 + max (e k) (zK s) := by
      unfold up1
      have : k = 0 ∨ k = 1 ∨ k = 2 := by omega
      rcases this with z | z | z <;> subst z <;> simp <;> omega
    omega
theorem JO_step (H : IVx G Z n f M) (hn : n < 64) : w_Works_step 0 a b (fun r M1 => w_Model_step 0 a b (fun r' M2 => r = r' ∧ IVx G Z (n + 1) f M2) M1) M := by
  obtain ⟨e, U1, BB, A1, A2, S, on, ws, lf, T, tp, pl, L, V, P, ⟨⟨h1, h2⟩, h3, h4⟩, sp, sz⟩ := H
  have fin : IVx G Z (n + 1) f M := ⟨e, U1, BB, A1, A2, S, on, ws, lf, T, tp, pl, L, V, P, ⟨⟨h1, h2⟩, h3, h4⟩, sp.nx hn, sz⟩
  cases hw : wOf on a with
  | none => exact nw_Works_step h1.1.2 hw (nw_Model_step h3.1.2 hw ⟨rfl, fin⟩)
  | some k =>
    obtain ⟨hk, ea, hon⟩ := wOf_some hw
    subst ea
    have hp := (sp.d hk hon).1
    have hfn := sp.2.2.2.2.2.2.1
    have hzz : zK (dS (ws k)) ≤ 60000 := by
      have q1 := (sp.d hk hon).2.2.2
      have q2 := sp.2.2.1
      have q3 : e k ≤ e 0 + e 1 + e 2 := by
        have : k = 0 ∨ k = 1 ∨ k = 2 := by omega
        rcases this with z | z | z <;> subst z <;> omega
      omega
    obtain ⟨q1, q2, q3⟩ := (sp.d hk hon).2
    have hlf : lf ≤ 60000 := h3.2.2.1.1
    have hdF := sp.2.1 k hk
    have h64 := sp.2.2.2.2.2.2.2
    obtain ⟨nq, nk, np, nh, nr, B, hR, hb⟩ := (h1.2.2 k hk).1 hon
    have h12 := hR.1.1.1.w12 hp.1.1.1.2.2.2
    have hek : e k ≤ 60000 := by
      have q2 := sp.2.2.1
      have : k = 0 ∨ k = 1 ∨ k = 2 := by omega
      rcases this with z | z | z <;> subst z <;> omega
    have hF' : max (dF (ws k)) (zK (dS (ws k)) + 4000 + dK (ws k) + 301) ≤ e k + 4400 := by omega
    refine W_step (F' := max (dF (ws k)) (zK (dS (ws k)) + 4000 + dK (ws k) + 301)) (by omega) (by omega) (by omega) (by omega) (sz.b (w := k + 1) (by omega)) h1 h2 hk hon hp (fun M1 s' hs hz' w z => ?_)
    obtain ⟨w1, w2, w3, w4, w5⟩ := w
    have hr := (h3.2.1.2.wk h3.2.1.1.1.1 w3).2
    have sz1 := SZ.b' (by omega) w5 hr z
    have hsp : SpM (dW (ws k)) (dK (ws k)) s' := by rw [hs]; exact hp.1.2.st hp.1.1.1 h12 (by omega)
    have hzz' : zK (dS (ws k)) ≤ zK s' := by rw [hs]; exact step_K hp.1.1.1 hp.1.2.1.1.1 (by omega)
    obtain ⟨e', sp'⟩ := sp.stp hn hk hon hsp hzz' hz' hF'
    exact T_step (by omega) (by omega) (by omega) sz1.t (h3.wk w3 w4) (h4.wk h3.2.1.1.1 h3.2.1.2 w3) w1.1.1 w2.z hk hon hp hs hz' (fun M2 t z2 => ⟨rfl, IVx.mk w1 w2 t z2 sp'⟩)
theorem IVx.un {e : Nat → Nat} {U1 : List (List Kd × Kd)} {BB A1 A2 : List Nm} {S : List Sg} {on : Nat → Bool} {ws : Nat → Wld} {lf : Nat} {T : List Trl} {tp : List Int32} {pl : Int32} {L : Tl} {V : RV} {P : List Int32} (h2 : GWC BB A1 T tp pl L V P M) (h3 : WWT G U1 A2 S on ws lf M) (h4 : GTC G U1 BB A2 S T tp pl L V P M) (sp : SPE n f e U1 BB on ws lf tp V) (hn : n < 64) : ∃ U2 B2, (GWC B2 A1 T tp pl L V P M ∧ WWT G U2 A2 S on ws lf M ∧ GTC G U2 B2 A2 S T tp pl L V P M) ∧ SPv (n + 1) f U2 B2 ∧ (nmsT tp ⊆ B2 ∧ sgT tp ⊆ U2) := by
  have h5 := sp.2.2.2.2.1
  have ht := sp.2.2.2.1.1
  have h7 := sp.2.2.2.2.2.2.1
  have hm : (n + 1 - f) * (20 * f + 1) = (n - f) * (20 * f + 1) + (20 * f + 1) := by
    rw [show n + 1 - f = (n - f) + 1 by omega, Nat.succ_mul]
  have l1 := nmsT_len (tp := tp)
  have l2 := sgT_len (tp := tp)
  have l3 := sgT_sum (tp := tp)
  have hu : SPv (n + 1) f (U1 ++ sgT tp) (BB ++ nmsT tp) := by
    obtain ⟨a1, a2, a3⟩ := h5
    refine ⟨?_, ?_, ?_⟩
    · rw [List.length_append]; omega
    · rw [List.length_append]; omega
    · rw [List.map_append, List.sum_append]; omega
  obtain ⟨k1, k2⟩ := hu.ok (by omega) (by omega)
  exact ⟨U1 ++ sgT tp, BB ++ nmsT tp, ⟨h2.uu (List.subset_append_left _ _) k1, h3.uu (List.subset_append_left _ _) k2, h4.uu (List.subset_append_left _ _) k2 (List.subset_append_left _ _) (by omega)⟩, hu, List.subset_append_right _ _, List.subset_append_right _ _⟩
theorem SPE.un {e : Nat → Nat} {U1 U2 : List (List Kd × Kd)} {BB B2 : List Nm} {on : Nat → Bool} {ws : Nat → Wld} {lf : Nat} {tp : List Int32} {V : RV} (h : SPE n f e U1 BB on ws lf tp V) (hu : SPv n f U2 B2) : SPE n f e U2 B2 on ws lf tp V := by
  obtain ⟨h1, h2, h3, h4, h5, h6⟩ := h
  exact ⟨h1, h2, h3, h4, hu, h6⟩
/-- the tape is emptied -/
theorem SPE.tp0 {e : Nat → Nat} {U1 : List (List Kd × Kd)} {BB : List Nm} {on : Nat → Bool} {ws : Nat → Wld} {lf : Nat} {tp : List Int32} {V : RV} (h : SPE n f e U1 BB on ws lf tp V) : SPE n f e U1 BB on ws lf [] V := by
  obtain ⟨h1, h2, h3, h4, h5, h6, h7, h8⟩ := h
  exact ⟨fun k hk ho => (h1 k hk ho).nx (Nat.le_refl _) h7 (by show _ + 2 * 0 ≤ _; omega) (Nat.le_refl _), h2, h3, ⟨Nat.zero_le _, fun x hx => by cases hx⟩, h5, h6, h7, h8⟩
end
