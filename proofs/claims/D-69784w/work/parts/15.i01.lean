/-! THE OPERATION reach: spec -/
abbrev RV : Type := List (Nat × Nat)
abbrev gV (V : RV) (i : Nat) : Nat × Nat := V.getD i (0, 0)
def addV (V : RV) (m : Nat × Nat) : RV := if m.1 < 21 then V else ins V m
/-- the starts that would come -/
def stsV (W : List Cls) (C : Nat → Int32) : Nat → Option Nat → RV → RV
  | 0, _, V => V
  | _ + 1, none, V => V
  | n + 1, some k, V => if C k = 2 then V else stsV W C n (if isFc W k = true then none else upW W k) (match ownN nStart 0 (gc W k).2.2.2.2.2 with | none => V | some j => addV V (k, j))
/-- what may be called -/
noncomputable def clsV (br : Int32) (W : List Cls) (x : Mth) (ab : Nat) : List Nat → RV × LkS → RV × LkS
  | [], z => z
  | k :: ks, z => if (gc W k).2.2.2.1 &&& 6 = 0 ∧ bel W k ab = true then (if (lkN br W 60 z.2 k).1 = 1 then clsV br W x ab ks ((match dspW W x k with | .inl _ => z.1 | .inr m => addV z.1 m), (lkN br W 60 z.2 k).2) else clsV br W x ab ks (z.1, (lkN br W 60 z.2 k).2)) else clsV br W x ab ks z
noncomputable def rchI (br : Int32) (W : List Cls) (C : Nat → Int32) (c : Nat) (x : Mth) (i : Ins) (z : RV × LkS) : RV × LkS :=
  if i.1 = 41 ∨ i.1 = 48 ∨ i.1 = 49 ∨ isMo i.1 then (match fIns br W z.2 c x i with
    | (.inl _, L) => (z.1, L)
    | (.inr q, L) => if isMo i.1 then (if i.1 = 52 then (stsV W C 60 (some q.1) (addV z.1 q), L) else if i.1 = 51 ∨ ¬ (gmt (gc W q.1) q.2).2.2.2.1 &&& 4 = 0 then (addV z.1 q, L) else match fnd W (iK i) with
        | none => (z.1, L)
        | some ab => clsV br W (xi i) ab (List.range W.length) (z.1, L))
      else (stsV W C 60 (some q.1) z.1, L)) else z
noncomputable def rchC (br : Int32) (W : List Cls) (C : Nat → Int32) (c : Nat) (x : Mth) : List Ins → RV × LkS → RV × LkS
  | [], z => z
  | i :: is, z => rchC br W C c x is (rchI br W C c x i z)
noncomputable def rchN (br : Int32) (W : List Cls) (C : Nat → Int32) : Nat → Nat → RV × LkS → RV × LkS
  | 0, _, z => z
  | n + 1, k, z => if k < z.1.length then rchN br W C n (k + 1) (rchC br W C (gV z.1 k).1 (gmt (gc W (gV z.1 k).1) (gV z.1 k).2) (co (gmt (gc W (gV z.1 k).1) (gV z.1 k).2)) z) else z
/-- reach: the answer is how many there are -/
noncomputable def rchO (br : Int32) (W : List Cls) (c a : Int32) (V0 : RV) (s : Ms) : Int32 × RV × Ms := if (c < 0 ∨ Int32.ofNat W.length ≤ c) ∨ a < 0 ∨ Int32.ofNat (gc W c.toNatClampNeg).2.2.2.2.2.length ≤ a then (-1, V0, s)
  else (Int32.ofNat (rchN br W (zC s) 400 0 ([(c.toNatClampNeg, a.toNatClampNeg)], zL s)).1.length, (rchN br W (zC s) 400 0 ([(c.toNatClampNeg, a.toNatClampNeg)], zL s)).1, yL s (rchN br W (zC s) 400 0 ([(c.toNatClampNeg, a.toNatClampNeg)], zL s)).2)
def rcdO (V : RV) (a : Int32) : Int32 := if a < 0 ∨ Int32.ofNat V.length ≤ a then -2 else Int32.ofNat (100 * (gV V a.toNatClampNeg).1 + (gV V a.toNatClampNeg).2)
def okV (W : List Cls) (V : RV) : Prop := V.Nodup ∧ ∀ m ∈ V, m.1 < W.length ∧ m.2 < (gc W m.1).2.2.2.2.2.length
section
variable {W : List Cls} {V : RV} {m : Nat × Nat} {br : Int32} {C : Nat → Int32} {L : Nat → Int32} {x : Mth} {k ab : Nat}
theorem moff_lt2 {c d j : Nat} (hcd : c < d) (hd : d < W.length) (hj : j < (gc W c).2.2.2.2.2.length) (e : Nat) : moff W c + j < moff W d + e := by
  have h1 := moff_succ (W := W) (n := c) (by omega)
  have h2 := moff_mono (W := W) (a := c + 1) (b := d) (by omega) (by omega)
  omega
theorem moff_inj {a b : Nat × Nat} (ha : a.1 < W.length ∧ a.2 < (gc W a.1).2.2.2.2.2.length) (hb : b.1 < W.length ∧ b.2 < (gc W b.1).2.2.2.2.2.length) (e : moff W a.1 + a.2 = moff W b.1 + b.2) : a = b := by
  rcases Nat.lt_trichotomy a.1 b.1 with h | h | h
  · have := moff_lt2 h hb.1 ha.2 b.2; omega
  · obtain ⟨a1, a2⟩ := a
    obtain ⟨b1, b2⟩ := b
    have h : a1 = b1 := h
    subst h
    have e : moff W a1 + a2 = moff W a1 + b2 := e
    have : a2 = b2 := by omega
    rw [this]
  · have := moff_lt2 h ha.1 hb.2 a.2; omega
theorem okV.len {n : Nat} (h : okV W V) (hn : ∀ m : Nat × Nat, m.1 < W.length → m.2 < (gc W m.1).2.2.2.2.2.length → moff W m.1 + m.2 < n) : V.length ≤ n := by
  have h1 : (V.map (fun m => moff W m.1 + m.2)).Nodup := by
    unfold List.Nodup
    rw [List.pairwise_map]
    refine List.Pairwise.imp_of_mem (fun {a b} ha hb hne e => hne (moff_inj (h.2 a ha) (h.2 b hb) e)) h.1
  have h2 := (sum_sub (fun _ => 0) h1 (T := List.range n) (fun y hy => by
    obtain ⟨m, hm, e⟩ := List.mem_map.mp hy
    rw [← e]
    exact List.mem_range.mpr (hn m (h.2 m hm).1 (h.2 m hm).2))).2
  rw [List.length_map, List.length_range] at h2
  exact h2
theorem okV_ins (h : okV W V) (hm : m.1 < W.length ∧ m.2 < (gc W m.1).2.2.2.2.2.length) : okV W (ins V m) := by
  refine ⟨ins_nodup h.1 m, fun y hy => ?_⟩
  unfold ins at hy
  split at hy
  · exact h.2 y hy
  · rcases List.mem_append.mp hy with z | z
    · exact h.2 y z
    · rw [List.mem_singleton.mp z]; exact hm
theorem okV.add (h : okV W V) (hm : m.1 < W.length ∧ m.2 < (gc W m.1).2.2.2.2.2.length) : okV W (addV V m) := by
  unfold addV
  split
  · exact h
  · exact okV_ins h hm
theorem lsF_low (hB : BI W) : ∀ n k v, k < 21 → lsF W n (some k) v = v
  | 0, _, _, _ => rfl
  | n + 1, k, v, h => by
    unfold lsF
    have hf : (gc W k).2.2.1 = [] := by rw [hB.2 k h]; exact (W21_m k h).2.1
    have e : lsO W 60 k v = v := by unfold lsO; rw [hf]; rfl
    rw [e]
    by_cases h0 : k = 0
    · have : upW W k = none := by unfold upW; rw [if_pos h0]
      rw [this]
      cases n <;> rfl
    · rw [hB.up h (by omega)]
      exact lsF_low hB n _ v (by split; · omega
                                 split <;> omega)
theorem mthUp_low (hB : BI W) {msk : Int32} : ∀ n k q, k < 21 → mthUp W x msk n (some k) = some q → q.1 < 21
  | 0, _, _, _, h => by cases h
  | n + 1, k, q, h, e => by
    unfold mthUp at e
    split at e
    · cases e; exact h
    · by_cases h0 : k = 0
      · have : upW W k = none := by unfold upW; rw [if_pos h0]
        rw [this] at e
        cases n <;> cases e
      · rw [hB.up h (by omega)] at e
        exact mthUp_low hB n _ q (by split; · omega
                                     split <;> omega) e
theorem dsp_low (hB : BI W) (hk : k < 21) (h : dspW W x k = .inr m) : m.1 < 21 := by
  unfold dspW at h
  split at h
  · cases h
  · rename_i m' em
    split at h
    · cases h
    · cases h
      unfold mthW at em
      split at em
      · rename_i r er
        cases em
        exact mthUp_low hB _ _ _ hk er
      · rw [lsF_low hB _ _ _ hk] at em
        cases em
/-- classes from the beginning call nothing new -/
theorem clsV_low (hB : BI W) {Lk : LkS} (hL : ∀ d, d < 21 → Lk.1 d = 1) : ∀ (ks rest : List Nat) (V : RV), (∀ k ∈ ks, k < 21) → clsV br W x ab (ks ++ rest) (V, Lk) = clsV br W x ab rest (V, Lk)
  | [], rest, V, _ => rfl
  | k :: ks, rest, V, h => by
    have hk := h k List.mem_cons_self
    have ih := fun V => clsV_low hB hL ks rest V (fun q hq => h q (List.mem_cons_of_mem _ hq))
    show clsV br W x ab (k :: (ks ++ rest)) (V, Lk) = _
    conv => lhs; unfold clsV
    have hl : lkN br W 60 Lk k = (1, Lk) := by
      unfold lkN
      rw [if_neg (by rw [hL k hk]; decide), hL k hk]
    dsimp only
    rw [hl]
    dsimp only
    rw [if_pos rfl]
    have e : (match dspW W x k with | .inl _ => V | .inr m => addV V m) = V := by
      cases ed : dspW W x k with
      | inl e => rfl
      | inr m =>
        show addV V m = V
        unfold addV
        rw [if_pos (dsp_low hB hk ed)]
    rw [e]
    split
    · exact ih V
    · exact ih V
end
