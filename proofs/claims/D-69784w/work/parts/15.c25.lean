/-! B: lines of a text, as the twin cuts them -/
theorem line_place {p : Nat → Int32} {n a : Nat} (hp : tend p n) (ha : a ≤ n) (hk : (lex p n a).1.1 ≠ 0) : a ≤ (lex p n a).1.2.2.2 ∧ (lex p n a).1.2.2.2 ≤ nl p n a := by
  obtain ⟨x1, x2, x3, x4⟩ := nl_ok hp ha
  obtain ⟨s1, s2, s3, s4⟩ := scn_spec (q := fun b => b == 32) hp (by decide) a
  have hsk : scn (fun b => b == 32) p n a ≤ nl p n a := Nat.le_of_not_lt (fun q => by have := s3 _ x1 q; rw [x3] at this; exact absurd this (by decide))
  unfold lex at hk ⊢
  obtain ⟨kd, nm, v, pl, nx, e, h1, h2, h3⟩ := lex1_ok (k := scn (fun b => b == 32) p n a) hp (by omega)
  rw [e] at hk ⊢
  have hk : kd ≠ 0 := hk
  have : pl = scn (fun b => b == 32) p n a := by
    by_cases c : kd = 1
    · exact (h3 c).1
    · exact (h2 (by omega)).1
  show a ≤ pl ∧ pl ≤ _
  rw [this]; exact ⟨s1, hsk⟩
theorem tks_last {p : Nat → Int32} {n : Nat} (hp : tend p n) : ∀ d a, n + 2 - a ≤ d → a ≤ n + 1 → ∃ i z, tks p n a = i ++ [z] ∧ z.1 ≤ 1 := by
  intro d
  induction d with
  | zero => intro a h1 h2; omega
  | succ d ih =>
    intro a h1 h2
    rw [tks_eq hp h2]
    by_cases c : (lex p n a).1.1 ≤ 1
    · rw [if_pos c]; exact ⟨[], _, rfl, c⟩
    · rw [if_neg c]
      obtain ⟨q1, q2⟩ := (lex_ok hp h2).2 (by omega)
      obtain ⟨i, z, e, hz⟩ := ih (lex p n a).2 (by omega) (by omega)
      exact ⟨(lex p n a).1 :: i, z, by rw [e]; rfl, hz⟩
theorem full_lz {p : Nat → Int32} {n a to : Nat} (hp : tend p n) (ha : a ≤ n + 1) : lz (full to (tks p n a)) := by
  obtain ⟨i, z, e, hz⟩ := tks_last hp _ a (Nat.le_refl _) ha
  unfold full
  rw [e]
  have : (i ++ [z]).getLastD (0, [], 0, 0) = z := by simp
  rw [this]
  by_cases c : z.1 = 1
  · rw [if_pos c]; exact ⟨i ++ [z], _, rfl, rfl⟩
  · rw [if_neg c]; exact ⟨i, z, rfl, by omega⟩
theorem full_mem {to : Nat} {ts : List Tok} {t : Tok} (h : t ∈ full to ts) : t ∈ ts ∨ t = (0, [], 0, to) := by
  unfold full at h
  split at h
  · rcases List.mem_append.mp h with q | q
    · exact Or.inl q
    · exact Or.inr (List.mem_singleton.mp q)
  · exact Or.inl h
theorem full_ge (to : Nat) (ts : List Tok) : ts.length ≤ (full to ts).length := by unfold full; split <;> simp
theorem full_two {p : Nat → Int32} {n a to : Nat} (hp : tend p n) (ha : a ≤ n + 1) : 1 < (full to (tks p n a)).length ↔ (hd (full to (tks p n a))).1 ≠ 0 := by
  rw [full_hd (tks_ne hp ha), tks_hd hp ha, tks_eq hp ha]
  by_cases c : (lex p n a).1.1 ≤ 1
  · rw [if_pos c]
    generalize (lex p n a).1 = t at c ⊢
    have e : full to [t] = if t.1 = 1 then [t] ++ [(0, [], 0, to)] else [t] := rfl
    rw [e]
    by_cases c1 : t.1 = 1
    · rw [if_pos c1]; simp [c1]
    · rw [if_neg c1]; simp; omega
  · rw [if_neg c]
    obtain ⟨q1, q2⟩ := (lex_ok hp ha).2 (by omega)
    have hne := tks_ne hp (a := (lex p n a).2) (by omega)
    rw [full_cons hne]
    have := full_ge to (tks p n (lex p n a).2)
    have := List.length_pos_iff.mpr hne
    refine ⟨fun _ => by omega, fun _ => ?_⟩
    rw [List.length_cons]; omega
theorem lns_end {p : Nat → Int32} {n : Nat} (hp : tend p n) : lns p n n = [] := by
  have h10 : p n = 10 := hp n (Nat.le_refl _)
  obtain ⟨x1, x2, -, -⟩ := nl_ok (a := n) hp (Nat.le_refl _)
  rw [lns_eq hp (Nat.le_refl _)]
  have ek : (hd (full (nl p n n) (tks p n n))).1 = 0 := by
    rw [full_hd (tks_ne hp (by omega)), tks_hd hp (by omega), lex_word (by rw [h10]; decide)]
    have : lex1 p n n = ((0, [], 0, scn (fun b => b != 10) p n n), n) := if_pos (Or.inr h10)
    rw [this]
  rw [if_pos ek]
  unfold rln; rw [if_neg (by omega)]
/-- lines from a place on, also behind the end -/
def Lr (p : Nat → Int32) (n a : Nat) : List (List Tok) := if a ≤ n then lns p n a else []
theorem rln_Lr {p : Nat → Int32} {n to : Nat} (hp : tend p n) (hto : to ≤ n) : rln p n to = Lr p n (to + 1) := by
  unfold rln Lr
  by_cases c : to + 1 < n
  · rw [if_pos c, if_pos (by omega)]
  · rw [if_neg c]
    by_cases c2 : to + 1 ≤ n
    · rw [if_pos c2]
      have : to + 1 = n := by omega
      rw [this, lns_end hp]
    · rw [if_neg c2]
theorem Lr_eq {p : Nat → Int32} {n a : Nat} (hp : tend p n) (ha : a ≤ n) : Lr p n a = if 1 < (full (nl p n a) (tks p n a)).length then full (nl p n a) (tks p n a) :: Lr p n (nl p n a + 1) else Lr p n (nl p n a + 1) := by
  obtain ⟨x1, x2, -, -⟩ := nl_ok (a := a) hp ha
  have e : Lr p n a = lns p n a := if_pos ha
  rw [e, lns_eq hp ha, ← rln_Lr hp x2]
  by_cases c : (hd (full (nl p n a) (tks p n a))).1 = 0
  · rw [if_pos c, if_neg (fun q => (full_two hp (by omega)).mp q c)]
  · rw [if_neg c, if_pos ((full_two hp (by omega)).mpr c)]
theorem foldT_pre : ∀ (ts : List Tok) (A : List Nm), A <+: foldT A ts
  | [], A => List.prefix_refl _
  | t :: ts, A => (insT_pre A t).trans (foldT_pre ts (insT A t))
theorem foldT_sub {B : List Nm} : ∀ (ts : List Tok) (A : List Nm), A ⊆ B → (∀ t ∈ ts, t.1 = 2 → t.2.1 ∈ B) → foldT A ts ⊆ B
  | [], A, h, _ => h
  | t :: ts, A, h, h1 => by
    refine foldT_sub ts (insT A t) (fun x hx => ?_) (fun u hu => h1 u (List.mem_cons_of_mem _ hu))
    unfold insT at hx
    by_cases c : t.1 = 2
    · rw [if_pos c] at hx
      unfold ins at hx
      split at hx
      · exact h hx
      · rcases List.mem_append.mp hx with q | q
        · exact h q
        · rw [List.mem_singleton.mp q]; exact h1 t List.mem_cons_self c
    · rw [if_neg c] at hx; exact h hx
theorem nd_le : ∀ {A B : List Nm}, A.Nodup → A ⊆ B → A.length ≤ B.length := by
  intro A
  induction A with
  | nil => intro B _ _; simp
  | cons a A ih =>
    intro B hn hs
    have ha := hs List.mem_cons_self
    obtain ⟨hn1, hn2⟩ := List.nodup_cons.mp hn
    have h1 : A ⊆ B.erase a := fun x hx => (List.mem_erase_of_ne (fun (e : x = a) => hn1 (e ▸ hx))).mpr (hs (List.mem_cons_of_mem _ hx))
    have := ih hn2 h1
    rw [List.length_erase_of_mem ha] at this
    have := List.length_pos_of_mem ha
    simp; omega
/-- the end of a line is found -/
theorem ct_scan {Q : Int32 → Mem → Prop} {k63 : Nat → Int32 → Int32 → Int32 → Int32 → Int32 → Int32 → Int32 → Mem → Prop} {r n a to : Nat} {p : Nat → Int32} {v3 v4 v5 v6 v7 v8 : Int32} {M : Mem} (hT : TXt r n p M) (hto : to ≤ n) (h10 : p to = 10) (hno : ∀ k, a ≤ k → k < to → p k ≠ 10) (h : w_Model_take_j94 0 Q k63 r (Int32.ofNat n) v3 v4 v5 v6 v7 v8 (Int32.ofNat to) M) : ∀ d k, to - k < d → a ≤ k → k ≤ to → w_Model_take_L73 0 Q k63 d r (Int32.ofNat n) v3 v4 v5 v6 v7 v8 (Int32.ofNat k) M := by
  obtain ⟨t1, t2, t3, t4⟩ := hT
  intro d
  induction d with
  | zero => intro k h1; omega
  | succ d ih =>
    intro k h1 h2 h3
    unfold w_Model_take_L73
    by_cases c : k = n
    · have : to = n := by omega
      subst this; subst c
      exact itp (le_oN (by omega) (by omega)) h
    · refine itn (nle_oN (by omega) (by omega)) ⟨(vp_oN (by omega)).mpr (by omega), ?_⟩
      rw [oN_tnc (by omega), t3 k (by omega)]
      by_cases c2 : k = to
      · subst c2; exact itp h10 h
      · refine itn (hno k h2 (by omega)) ?_
        rw [lit32 1, oN_add]
        exact ih (k + 1) (by omega) (by omega) (by omega)
