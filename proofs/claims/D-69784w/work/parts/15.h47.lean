/-! THE OPERATION halt, in the works: the whole -/
abbrev SHz : Nat := (271716135220527900227848059256329966269188730667858255327392016125085080980259530097354569541628135880683786117563499155641707943643090584163691478067565424538181223394065859352662725435191685403601856866132078124983936270104340791716755550435504851676404146007069995902164723629804392157257270056365848805907401253653932164878335353491734963651823654989796671267619703683002599949441472343402074737417219445362232317614110095859225209220904466439194474003153799504406503212890919697957160410917757148687020739469545163024591796708729418111720724568322251920554100042827803417027532704523587764675604207652212286648540797517385122588208341664227346764272672861945077760085668332689519562788910490319049655238248568728367111602176)
section
variable {A : List Nm} {W : List Cls} {w k C B F K L n : Nat} {br : Int32} {nq nk np nh nr : Nat} {s : Ms} {M M' M0 : Mem} {Q : Int32 → Mem → Prop} {U : List Un} {lk : LkS} {on : Nat → Bool}
def Hm (A : List Nm) (W : List Cls) (w : Nat) (br : Int32) (nq nk np nh nr : Nat) (s : Ms) (M : Mem) (t : Nat) (Mk : Mem) : Prop := (Fr SHt M Mk ∧ LKw A W w br nq nk np nh nr (zL s) Mk ∧ cSt w Mk) ∧ (∀ t', t' < t → clrd (3 * w + t') Mk ∧ mI Mk 7 (3 * w + t') 0 = Int32.ofNat t') ∧ (∀ t', t ≤ t' → t' < 3 → ∀ k, k < 20 → mI Mk 7 (3 * w + t') k = mI M 7 (3 * w + t') k) ∧ (∀ k, (∃ t', t' < t ∧ k ∈ sts (gU s t')) → mI Mk 46 w k = 3) ∧ ∀ k, (¬ ∃ t', t' < t ∧ k ∈ sts (gU s t')) → mI Mk 46 w k = mI M 46 w k
theorem m46 (hf : Fr (70368744177664) M M') {k : Nat} (hk : k < 20) (i : Nat) : mI M' 7 i k = mI M 7 i k := hf.I ((by decide : ∀ k, k < 20 → ((70368744177664) : Nat).testBit (cd 7 k) = false) k hk) i
theorem onN_le : ∀ t, onN s t ≤ t
  | 0 => Nat.le_refl _
  | t + 1 => by
    have := onN_le t
    show onN s t + (if lSt (zN s t) = 1 then 1 else 0) ≤ t + 1
    split <;> omega
theorem c_haltT (hW : WO W) (hK : KB w nq nk np nh nr) (hA : MA W s) (h : RA A W w br nq nk np nh nr C B F s M) (hQ : ∀ Mk, Hm A W w br nq nk np nh nr s M 3 Mk → ∃ M2, M2 = (sI (sI Mk 6 w 3 (0 : Int32)) 6 w 4 (mI (sI Mk 6 w 3 (0 : Int32)) 6 w 5)) ∧ ∃ n9 : Nat, w_Machine_halt_L115 w Q n9 (Int32.ofNat (onN s 3)) (1 : Int32) M2) : ∀ n t Mk, 3 - t < n → t ≤ 3 → Hm A W w br nq nk np nh nr s M t Mk → w_Machine_halt_L13 w Q n (Int32.ofNat (onN s t)) (Int32.ofNat 3) (Int32.ofNat t) Mk := by
  intro n
  induction n with
  | zero => intro t Mk hn; exact absurd hn (by omega)
  | succ n ih =>
    intro t Mk hn ht hH
    unfold w_Machine_halt_L13
    by_cases c3 : 3 ≤ t
    · have e3 : t = 3 := by omega
      subst e3
      exact itp (by decide) (hQ Mk hH)
    have ht3 : t < 3 := by omega
    obtain ⟨⟨hf, hL, hc⟩, h1, h2, h3, h4⟩ := hH
    have l46 : mL M 46 w = 51 := h.1.1.1.2.2.2.1.2.2.2.2.2.2 46 (by omega) (by omega)
    obtain ⟨hrL, ⟨u1, u2, hU⟩, -⟩ := h.2.2.2.2.2 t ht3
    obtain ⟨⟨l89, -⟩, ⟨e0, -, e11, -⟩, -⟩ := hrL
    have hst := UO.stk hW hA.1.1 (hA.2.2.1 t ht3).1.1
    have hlen := (hA.2.2.1 t ht3).1.len hW
    have h7 := h2 t (Nat.le_refl _) ht3
    have hX := (hA.2.1 t ht3).2.1.1
    have ho := onN_le (s := s) t
    have hU' : LU W (3 * w + t) Mk (gU s t) := by
      refine LU.kp (M := M) (n := 91) (fun g f a b _ => ?_) (fun j _ => ⟨hf.Ia (f := 94) rfl rfl _ j, hf.Ia (f := 514) rfl rfl _ j⟩) hU hst hlen
      have : g = 89 ∨ g = 90 ∨ g = 91 ∨ g = 92 ∨ g = 93 := by omega
      rcases this with z | z | z | z | z <;> subst z
      · exact hf.Ia (f := 89) rfl rfl _ f
      · exact hf.Ia (f := 90) rfl rfl _ f
      · exact hf.Ia (f := 91) rfl rfl _ f
      · exact hf.Ia (f := 92) rfl rfl _ f
      · exact hf.Ia (f := 93) rfl rfl _ f
    refine itn (fun z => by have := (oN_le (by omega) (by omega)).mp z; omega) ⟨by rw [hf.L (f := 700) rfl, h.2.2.2.2.1.1]; exact (vp_oN (by omega)).mpr ht3, 3 * w + t, ?_, ?_⟩
    · rw [oN_tnc (k := t) (by omega), hf.Ra (f := 700) rfl rfl]; exact h.2.2.2.2.1.2 t ht3
    rw [h7 11 (by omega), e11]
    -- what a thread's end leaves
    have step : ∀ o : Nat, onN s (t + 1) = onN s t + o → w_Machine_halt_j40 w Q (w_Machine_halt_L13 w Q n) (Int32.ofNat 3) (Int32.ofNat t) (3 * w + t) (Int32.ofNat o) (Int32.ofNat (onN s t)) Mk := fun o eo => by
      unfold w_Machine_halt_j40
      rw [oN_add, ← eo]
      refine ⟨(gU s t).length + 1, c_haltU (M0 := Mk) (lk := zL s) hK hU' hlen (hA.sts51 hW ht3) ((hf.L (f := 46) rfl w).trans l46) ((hf.L (f := 92) rfl _).trans (l89 92 (by omega) (by omega))) ((h7 1 (by omega)).trans u1) (fun M1 f1 L1 s3 s4 => ?_) _ 0 Mk (by omega) (by omega) (Fr.rf _ _) hL (fun j hj => ?_) (fun j hj => rfl)⟩
      · refine c_clear (fun M2 f2 cl c0 c7 => ?_)
        rw [show Int32.ofNat t + (1 : Int32) = Int32.ofNat (t + 1) from oN_add t 1]
        have fa : Fr SHt Mk M2 := (f1.sub rfl).trans (f2.sub rfl)
        have m7 : ∀ i k, k < 20 → mI M1 7 i k = mI Mk 7 i k := fun i j hj => m46 f1 hj i
        refine ih (t + 1) M2 (by omega) (by omega) ⟨⟨hf.trans fa, (L1.fr f2).1, (hc.fr f1).fr f2⟩, fun t' ht' => ?_, fun t' a b j hj => ?_, fun j hj => ?_, fun j hj => ?_⟩
        · by_cases e : t' = t
          · subst e
            exact ⟨cl, c0.trans ((m7 _ _ (by omega)).trans ((h7 0 (by omega)).trans e0))⟩
          · obtain ⟨g1, g2⟩ := h1 t' (by omega)
            have hne : 3 * w + t' ≠ 3 * w + t := by omega
            have r : ∀ j, j < 20 → mI M2 7 (3 * w + t') j = mI Mk 7 (3 * w + t') j := fun j hj => (c7 _ hne j).trans (m7 _ _ hj)
            obtain ⟨⟨x1, x2, x10, x11, x12⟩, x13, x14, x15, x16, x18, x19⟩ := g1
            exact ⟨⟨⟨(r 1 (by omega)).trans x1, (r 2 (by omega)).trans x2, (r 10 (by omega)).trans x10, (r 11 (by omega)).trans x11, (r 12 (by omega)).trans x12⟩, (r 13 (by omega)).trans x13, (r 14 (by omega)).trans x14, (r 15 (by omega)).trans x15, (r 16 (by omega)).trans x16, (r 18 (by omega)).trans x18, (r 19 (by omega)).trans x19⟩, (r 0 (by omega)).trans g2⟩
        · exact (c7 _ (by omega) j).trans ((m7 _ _ hj).trans (h2 t' (by omega) b j hj))
        · rw [f2.Ia (f := 46) rfl rfl]
          obtain ⟨t', a, b⟩ := hj
          by_cases e : j ∈ sts (gU s t)
          · exact s3 j e
          · rw [s4 j e]
            have : t' ≠ t := fun z => e (by rw [← z]; exact b)
            exact h3 j ⟨t', by omega, b⟩
        · rw [f2.Ia (f := 46) rfl rfl, s4 j (fun z => hj ⟨t, by omega, z⟩)]
          exact h4 j (fun ⟨t', a, b⟩ => hj ⟨t', by omega, b⟩)
      · rw [Nat.sub_zero, List.drop_length] at hj; cases hj
    by_cases c1 : lSt (zN s t) = 1
    · exact itp (by rw [c1]; rfl) (step 1 (by show onN s t + _ = _; rw [if_pos c1]))
    · exact itn (ne_oN (b := 1) c1 (by omega) (by omega)) (step 0 (by show onN s t + _ = _; rw [if_neg c1]))
end
