/-! THE LAW'S LOOP: what holds of works and twin together between operations -/
def bysT (tp : List Int32) : Prop := ∀ x ∈ tp, x.toInt8.toInt32 = x
/-- what holds of a world that is on; n operations are done, f of them feed; e bounds its steps, t is the tape's length -/
def SPw (n f e t : Nat) (d : Wld) : Prop := SpD d ∧ dD d + 2 * t ≤ 40 * f + 4 * (n - f) ∧ dK d ≤ n ∧ zK (dS d) ≤ e
def SPv (n f : Nat) (U1 : List (List Kd × Kd)) (BB : List Nm) : Prop := BB.length ≤ 1000 + (n - f) * (20 * f + 1) ∧ U1.length ≤ 1000 + (n - f) * (20 * f + 1) ∧ (U1.map (fun x => x.1.length)).sum ≤ 1000 + (n - f) * (20 * f + 1)
def SPE (n f : Nat) (e : Nat → Nat) (U1 : List (List Kd × Kd)) (BB : List Nm) (on : Nat → Bool) (ws : Nat → Wld) (lf : Nat) (tp : List Int32) (V : RV) : Prop := (∀ k, k < 3 → on k = true → SPw n f (e k) tp.length (ws k)) ∧ (∀ k, k < 3 → dF (ws k) ≤ e k + 4400) ∧ e 0 + e 1 + e 2 + lf ≤ 60000 ∧ (tp.length ≤ 20 * f ∧ bysT tp) ∧ SPv n f U1 BB ∧ (V.length ≤ 381 ∧ ∀ m ∈ V, m.1 < 51 ∧ m.2 < 12) ∧ f ≤ n ∧ n ≤ 64
def cS (M : Mem) : Nat := capC 0 M + capC 1 M + capC 2 M + capC 3 M
def oCp (w : Nat) (M : Mem) : Nat := (if w = 0 then 0 else capC 0 M) + (if w = 1 then 0 else capC 1 M) + (if w = 2 then 0 else capC 2 M) + (if w = 3 then 0 else capC 3 M)
/-- how much room is taken -/
def SZ (G : List Sl) (Z : Nat) (M : Mem) : Prop := mS M ≤ Z + 8 * cS M + 2 * rs G M
def IVx (G : List Sl) (Z n f : Nat) (M : Mem) : Prop := ∃ (e : Nat → Nat) (U1 : List (List Kd × Kd)) (BB A1 A2 : List Nm) (S : List Sg) (on : Nat → Bool) (ws : Nat → Wld) (lf : Nat) (T : List Trl) (tp : List Int32) (pl : Int32) (L : Tl) (V : RV) (P : List Int32), ((WWC A1 on ws lf M ∧ GWC BB A1 T tp pl L V P M) ∧ WWT G U1 A2 S on ws lf M ∧ GTC G U1 BB A2 S T tp pl L V P M) ∧ SPE n f e U1 BB on ws lf tp V ∧ SZ G Z M
theorem cS_oCp {w : Nat} {M : Mem} (hw : w < 4) : cS M = oCp w M + capC w M := by
  unfold cS oCp
  have : w = 0 ∨ w = 1 ∨ w = 2 ∨ w = 3 := by omega
  rcases this with e | e | e | e <;> subst e <;> simp <;> omega
theorem oCp_eq {w : Nat} {M M' : Mem} (h : CpE w M M') : oCp w M' = oCp w M := by
  unfold oCp
  have k : ∀ v, v < 4 → (if w = v then 0 else capC v M') = if w = v then 0 else capC v M := fun v hv => by
    by_cases e : w = v
    · rw [if_pos e, if_pos e]
    · rw [if_neg e, if_neg e, h v hv (fun z => e z.symm)]
  rw [k 0 (by omega), k 1 (by omega), k 2 (by omega), k 3 (by omega)]
theorem mul_m {a b c d : Nat} (h1 : a ≤ c) (h2 : b ≤ d) : a * b ≤ c * d := Nat.mul_le_mul h1 h2
section
variable {G : List Sl} {Z n f n' f' w k lf : Nat} {e e' : Nat → Nat} {U1 : List (List Kd × Kd)} {BB A1 A2 : List Nm} {S : List Sg} {on : Nat → Bool} {ws : Nat → Wld} {T : List Trl} {tp tp' P : List Int32} {pl a : Int32} {L : Tl} {V V' : RV} {M M1 M2 : Mem} {d : Wld}
theorem SZ.b (h : SZ G Z M) (hw : w < 4) : mS M ≤ (Z + 8 * oCp w M + 2 * rs G M) + 8 * capC w M := by
  unfold SZ at h
  rw [cS_oCp hw] at h
  omega
theorem SZ.b' (hw : w < 4) (hC : CpE w M M1) (hr : rs G M1 = rs G M) (h : mS M1 ≤ (Z + 8 * oCp w M + 2 * rs G M) + 8 * capC w M1) : SZ G Z M1 := by
  unfold SZ
  rw [cS_oCp hw, oCp_eq hC, hr]
  omega
theorem SZ.t (h : SZ G Z M) : mS M ≤ (Z + 8 * cS M) + 2 * rs G M := h
theorem capC.tw {v : Nat} (hG : GM M) (hf : Fr TWF M M1) (hv : v < 4) (hr : ∃ j, mR M 6 v 22 = some (301, j)) : capC v M1 = capC v M := by
  obtain ⟨j, hj⟩ := hr
  have e1 : mR M1 6 v 22 = mR M 6 v 22 := (hf.1 6 22 rfl v).2.2
  unfold capC
  rw [e1, hj]
  exact (hf.2.2.2 _ (hG.2.2.2.1 v 0 301 j hv (by omega) hj).2).2
theorem wOf_some (h : wOf on a = some k) : k < 3 ∧ a = Int32.ofNat k ∧ on k = true := by
  unfold wOf at h
  by_cases c0 : a = 0
  · rw [if_pos c0] at h
    by_cases o : on 0 = true
    · rw [if_pos o] at h; cases h; exact ⟨by omega, c0, o⟩
    · rw [if_neg o] at h; cases h
  · rw [if_neg c0] at h
    by_cases c1 : a = 1
    · rw [if_pos c1] at h
      by_cases o : on 1 = true
      · rw [if_pos o] at h; cases h; exact ⟨by omega, c1, o⟩
      · rw [if_neg o] at h; cases h
    · rw [if_neg c1] at h
      by_cases c2 : a = 2
      · rw [if_pos c2] at h
        by_cases o : on 2 = true
        · rw [if_pos o] at h; cases h; exact ⟨by omega, c2, o⟩
        · rw [if_neg o] at h; cases h
      · rw [if_neg c2] at h; cases h
theorem GWC.z (h : GWC BB A1 T tp pl L V P M) : ∀ q, 3 ≤ q → mR M 702 0 q = none := h.2.2.2.2.2.2.2.2
theorem IVx.mk (w1 : WWC A1 on ws lf M1) (w2 : GWC BB A1 T tp pl L V P M1) (t : WWT G U1 A2 S on ws lf M2 ∧ GTC G U1 BB A2 S T tp pl L V P M2 ∧ Fr TWF M1 M2 ∧ Ty M2) (hs : mS M2 ≤ (Z + 8 * cS M1) + 2 * rs G M2) (sp : SPE n f e U1 BB on ws lf tp V) : IVx G Z n f M2 := by
  obtain ⟨t1, t2, t3, t4⟩ := t
  refine ⟨e, U1, BB, A1, A2, S, on, ws, lf, T, tp, pl, L, V, P, ⟨⟨w1.tw w2.na.2 t3 t4, w2.tw t3⟩, t1, t2⟩, sp, ?_⟩
  unfold SZ
  have c : ∀ v, v < 4 → capC v M2 = capC v M1 := fun v hv => capC.tw w1.1.1 t3 hv (w1.r22 w2 hv)
  have : cS M2 = cS M1 := by
    unfold cS
    rw [c 0 (by omega), c 1 (by omega), c 2 (by omega), c 3 (by omega)]
  omega
theorem SPv.nx (h : SPv n f U1 BB) (hn : n ≤ n') (hf : f ≤ f') (hd : n - f ≤ n' - f') : SPv n' f' U1 BB := by
  have := mul_m hd (show 20 * f + 1 ≤ 20 * f' + 1 by omega)
  obtain ⟨h1, h2, h3⟩ := h
  exact ⟨by omega, by omega, by omega⟩
theorem SPv.ok (h : SPv n f U1 BB) (hf : f ≤ n) (hn : n ≤ 64) : BB.length < 41200 ∧ U2k U1 := by
  have hm : (n - f) * (20 * f + 1) ≤ 39711 := by
    by_cases c : n - f ≤ 31
    · exact mul_m c (show 20 * f + 1 ≤ 1281 by omega)
    · by_cases c2 : n - f ≤ 45
      · have := mul_m c2 (show 20 * f + 1 ≤ 641 by omega)
        omega
      · have := mul_m (show n - f ≤ 64 by omega) (show 20 * f + 1 ≤ 361 by omega)
        omega
  obtain ⟨h1, h2, h3⟩ := h
  exact ⟨by omega, by omega, by omega⟩
theorem SPw.nx {t t' e0 e1 : Nat} (h : SPw n f e0 t d) (hn : n ≤ n') (hfn : f ≤ n) (ht : 40 * f + 4 * (n - f) + 2 * t' ≤ 40 * f' + 4 * (n' - f') + 2 * t) (he : e0 ≤ e1) : SPw n' f' e1 t' d := ⟨h.1, by have := h.2.1; omega, by have := h.2.2.1; omega, by have := h.2.2.2; omega⟩
/-- an operation that changes nothing -/
theorem SPE.nx (h : SPE n f e U1 BB on ws lf tp V) (hn : n < 64) : SPE (n + 1) f e U1 BB on ws lf tp V := by
  obtain ⟨h1, h2, h3, h4, h5, h6, h7, h8⟩ := h
  exact ⟨fun k hk ho => (h1 k hk ho).nx (by omega) h7 (by omega) (Nat.le_refl _), h2, h3, h4, h5.nx (by omega) (Nat.le_refl _) (by omega), h6, by omega, by omega⟩
/-- an operation on world k -/
theorem SPE.up (h : SPE n f e U1 BB on ws lf tp V) (hn : n < 64) (hd : SPw (n + 1) f (e k) tp.length d) (hF : dF d ≤ e k + 4400) : SPE (n + 1) f e U1 BB on (up1 ws k d) lf tp V := by
  obtain ⟨h1, h2, h3, h4, h5, h6, h7, h8⟩ := h
  refine ⟨fun j hj ho => ?_, fun j hj => ?_, h3, h4, h5.nx (by omega) (Nat.le_refl _) (by omega), h6, by omega, by omega⟩
  · by_cases c : j = k
    · subst c; rw [up1_s]; exact hd
    · rw [up1_o c]; exact (h1 j hj ho).nx (by omega) h7 (by omega) (Nat.le_refl _)
  · by_cases c : j = k
    · subst c; rw [up1_s]; exact hF
    · rw [up1_o c]; exact h2 j hj
theorem SPE.d (h : SPE n f e U1 BB on ws lf tp V) (hk : k < 3) (hon : on k = true) : SPw n f (e k) tp.length (ws k) := h.1 k hk hon
/-- only the machine of world k changes, no step is done -/
theorem SPE.ms {s : Ms} (h : SPE n f e U1 BB on ws lf tp V) (hn : n < 64) (hk : k < 3) (hon : on k = true) (hs : SpM (dW (ws k)) (dK (ws k)) s) (hz : zK s = zK (dS (ws k))) : SPE (n + 1) f e U1 BB on (up1 ws k (sS (ws k) s)) lf tp V := by
  refine h.up hn ?_ (h.2.1 k hk)
  obtain ⟨⟨⟨p1, p2⟩, p3⟩, q1, q2, q3⟩ := h.d hk hon
  refine ⟨⟨⟨p1, hs⟩, p3⟩, ?_, ?_, ?_⟩
  · have : dD (sS (ws k) s) = dD (ws k) := rfl
    have := h.2.2.2.2.2.2.1
    omega
  · have : dK (sS (ws k) s) = dK (ws k) := rfl
    omega
  · show zK s ≤ e k
    omega
end
