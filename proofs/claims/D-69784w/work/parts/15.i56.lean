/-! WHAT IS WRITTEN TELLS WHAT IT IS: atoms (words, and signs between them) -/
abbrev Atm : Type := List Int32 ⊕ Int32
/-- what words are of -/
def wc (c : Int32) : Bool := isW c || (c == 45 || (c == 60 || c == 62))
def wcL (w : List Int32) : Prop := w ≠ [] ∧ ∀ c ∈ w, wc c = true
def tX : List Atm → List Int32
  | [] => []
  | .inl w :: r => w ++ tX r
  | .inr c :: r => c :: tX r
theorem tX_app : ∀ a b, tX (a ++ b) = tX a ++ tX b
  | [], b => rfl
  | .inl w :: r, b => by
    show w ++ tX (r ++ b) = (w ++ tX r) ++ tX b
    rw [tX_app r b, List.append_assoc]
  | .inr c :: r, b => by
    show c :: tX (r ++ b) = (c :: tX r) ++ tX b
    rw [tX_app r b]; rfl
/-- words stand between signs -/
def okA : Bool → List Atm → Prop
  | _, [] => True
  | p, .inl w :: r => (p = false ∧ wcL w) ∧ okA true r
  | _, .inr c :: r => wc c = false ∧ okA false r
def lsA : Bool → List Atm → Bool
  | p, [] => p
  | _, .inl _ :: r => lsA true r
  | _, .inr _ :: r => lsA false r
theorem okA_app : ∀ a b p, okA p a → okA (lsA p a) b → okA p (a ++ b)
  | [], b, p, _, h => h
  | .inl w :: r, b, p, h1, h2 => ⟨h1.1, okA_app r b true h1.2 h2⟩
  | .inr c :: r, b, p, h1, h2 => ⟨h1.1, okA_app r b false h1.2 h2⟩
theorem lsA_app : ∀ a b p, lsA p (a ++ b) = lsA (lsA p a) b
  | [], b, p => rfl
  | .inl w :: r, b, p => lsA_app r b true
  | .inr c :: r, b, p => lsA_app r b false
theorem cut_w : ∀ (a a' s s' : List Int32), (∀ c ∈ a, wc c = true) → (∀ c ∈ a', wc c = true) → (∀ c r, s = c :: r → wc c = false) → (∀ c r, s' = c :: r → wc c = false) → a ++ s = a' ++ s' → a = a' ∧ s = s'
  | [], [], s, s', _, _, _, _, h => ⟨rfl, h⟩
  | [], c :: a', s, s', _, h2, h3, _, h => by
    have := h3 c (a' ++ s') h
    rw [h2 c (List.mem_cons_self ..)] at this
    cases this
  | c :: a, [], s, s', h1, _, _, h4, h => by
    have := h4 c (a ++ s) h.symm
    rw [h1 c (List.mem_cons_self ..)] at this
    cases this
  | c :: a, c' :: a', s, s', h1, h2, h3, h4, h => by
    injection h with e1 e2
    obtain ⟨e3, e4⟩ := cut_w a a' s s' (fun x hx => h1 x (List.mem_cons_of_mem _ hx)) (fun x hx => h2 x (List.mem_cons_of_mem _ hx)) h3 h4 e2
    exact ⟨by rw [e1, e3], e4⟩
theorem okA_hd {r : List Atm} (h : okA true r) : ∀ c t, tX r = c :: t → wc c = false := by
  cases r with
  | nil => intro c t e; cases e
  | cons x r =>
    cases x with
    | inl w => exact absurd h.1.1 (by decide)
    | inr d =>
      intro c t e
      have e : d :: tX r = c :: t := e
      injection e with e1 e2
      rw [← e1]; exact h.1
theorem tX_inj : ∀ (a b : List Atm) (p q : Bool), okA p a → okA q b → tX a = tX b → a = b
  | [], [], p, q, _, _, _ => rfl
  | [], .inl w :: r, p, q, _, h2, h => by
    have : w = [] := by
      have h : [] = w ++ tX r := h
      exact (List.append_eq_nil_iff.1 h.symm).1
    exact absurd this h2.1.2.1
  | [], .inr c :: r, p, q, _, h2, h => by
    have h : ([] : List Int32) = c :: tX r := h
    cases h
  | .inl w :: r, [], p, q, h1, _, h => by
    have : w = [] := by
      have h : w ++ tX r = [] := h
      exact (List.append_eq_nil_iff.1 h).1
    exact absurd this h1.1.2.1
  | .inr c :: r, [], p, q, _, _, h => by
    have h : c :: tX r = [] := h
    cases h
  | .inl w :: r, .inl w' :: r', p, q, h1, h2, h => by
    have h : w ++ tX r = w' ++ tX r' := h
    obtain ⟨e1, e2⟩ := cut_w w w' _ _ h1.1.2.2 h2.1.2.2 (okA_hd h1.2) (okA_hd h2.2) h
    rw [e1, tX_inj r r' true true h1.2 h2.2 e2]
  | .inl w :: r, .inr c :: r', p, q, h1, h2, h => by
    have h : w ++ tX r = c :: tX r' := h
    cases w with
    | nil => exact absurd rfl h1.1.2.1
    | cons d w =>
      injection h with e1 e2
      have z1 := h1.1.2.2 d (List.mem_cons_self ..)
      have z2 : wc c = false := h2.1
      rw [e1, z2] at z1
      cases z1
  | .inr c :: r, .inl w :: r', p, q, h1, h2, h => by
    have h : c :: tX r = w ++ tX r' := h
    cases w with
    | nil => exact absurd rfl h2.1.2.1
    | cons d w =>
      injection h with e1 e2
      have z1 := h2.1.2.2 d (List.mem_cons_self ..)
      have z2 : wc c = false := h1.1
      rw [← e1, z2] at z1
      cases z1
  | .inr c :: r, .inr c' :: r', p, q, h1, h2, h => by
    have h : c :: tX r = c' :: tX r' := h
    injection h with e1 e2
    rw [e1, tX_inj r r' false false h1.2 h2.2 e2]
/-! lines of atoms -/
def tL (ls : List (List Atm)) : List Atm := ls.flatMap (fun l => l ++ [.inr 10])
theorem tL_cons {l : List Atm} {ls : List (List Atm)} : tL (l :: ls) = l ++ (.inr 10 :: tL ls) := by
  show (l ++ [.inr 10]) ++ tL ls = _
  rw [List.append_assoc]; rfl
theorem tL_app {a b : List (List Atm)} : tL (a ++ b) = tL a ++ tL b := by
  unfold tL
  rw [List.flatMap_append]
theorem cut_l : ∀ (a a' s s' : List Atm), (Sum.inr 10 : Atm) ∉ a → (Sum.inr 10 : Atm) ∉ a' → a ++ (.inr 10 :: s) = a' ++ (.inr 10 :: s') → a = a' ∧ s = s'
  | [], [], s, s', _, _, h => by
    injection h with _ e
    exact ⟨rfl, e⟩
  | [], c :: a', s, s', _, h2, h => by
    injection h with e _
    exact absurd (by rw [← e]; exact List.mem_cons_self ..) h2
  | c :: a, [], s, s', h1, _, h => by
    injection h with e _
    exact absurd (by rw [e]; exact List.mem_cons_self ..) h1
  | c :: a, c' :: a', s, s', h1, h2, h => by
    injection h with e1 e2
    obtain ⟨e3, e4⟩ := cut_l a a' s s' (fun z => h1 (List.mem_cons_of_mem _ z)) (fun z => h2 (List.mem_cons_of_mem _ z)) e2
    exact ⟨by rw [e1, e3], e4⟩
theorem tL_inj : ∀ (a b : List (List Atm)), (∀ l ∈ a, (Sum.inr 10 : Atm) ∉ l) → (∀ l ∈ b, (Sum.inr 10 : Atm) ∉ l) → tL a = tL b → a = b
  | [], [], _, _, _ => rfl
  | [], l :: b, _, _, h => by
    rw [tL_cons] at h
    have h : [] = l ++ (.inr 10 :: tL b) := h
    have := (List.append_eq_nil_iff.1 h.symm).2
    cases this
  | l :: a, [], _, _, h => by
    rw [tL_cons] at h
    have h : l ++ (.inr 10 :: tL a) = [] := h
    have := (List.append_eq_nil_iff.1 h).2
    cases this
  | l :: a, l' :: b, h1, h2, h => by
    rw [tL_cons, tL_cons] at h
    obtain ⟨e1, e2⟩ := cut_l _ _ _ _ (h1 l (List.mem_cons_self ..)) (h2 l' (List.mem_cons_self ..)) h
    rw [e1, tL_inj a b (fun x hx => h1 x (List.mem_cons_of_mem _ hx)) (fun x hx => h2 x (List.mem_cons_of_mem _ hx)) e2]
theorem okL_lines : ∀ (ls : List (List Atm)), (∀ l ∈ ls, okA false l) → okA false (tL ls)
  | [], _ => trivial
  | l :: ls, h => by
    rw [tL_cons]
    exact okA_app _ _ _ (h l (List.mem_cons_self ..)) ⟨by decide, okL_lines ls (fun x hx => h x (List.mem_cons_of_mem _ hx))⟩
/-- texts that are alike have alike lines -/
theorem lines_inj {a b : List (List Atm)} (ha : ∀ l ∈ a, okA false l ∧ (Sum.inr 10 : Atm) ∉ l) (hb : ∀ l ∈ b, okA false l ∧ (Sum.inr 10 : Atm) ∉ l) (h : tX (tL a) = tX (tL b)) : a = b :=
  tL_inj a b (fun l hl => (ha l hl).2) (fun l hl => (hb l hl).2) (tX_inj _ _ false false (okL_lines a (fun l hl => (ha l hl).1)) (okL_lines b (fun l hl => (hb l hl).1)) h)
/-! numbers -/
def dvl (l : List Int32) : Nat := l.foldl (fun a c => 10 * a + (c.toNatClampNeg - 48)) 0
theorem dgF_val (n : Nat) : ∀ f u a, u < 10 ^ f → (u = 0 ∨ ∃ e, u = 10 ^ e) → (dgF f n u).foldl (fun a c => 10 * a + (c.toNatClampNeg - 48)) a = if u = 0 then a else a * (10 * u) + n % (10 * u)
  | 0, u, a, h, _ => by
    have : u = 0 := by rw [Nat.pow_zero] at h; omega
    rw [if_pos this]; rfl
  | f + 1, u, a, h, hu => by
    unfold dgF
    by_cases e0 : u = 0
    · rw [if_pos e0, if_pos e0]; rfl
    rw [if_neg e0, if_neg e0, List.foldl_cons]
    have hm : n / u % 10 < 10 := Nat.mod_lt _ (by omega)
    have ec : (Int32.ofNat (48 + n / u % 10)).toNatClampNeg - 48 = n / u % 10 := by
      rw [oN_tnc (by omega)]; omega
    rw [ec]
    obtain ⟨e, he⟩ := hu.resolve_left e0
    have h10 : u / 10 < 10 ^ f := by
      rw [Nat.pow_succ] at h
      exact Nat.div_lt_of_lt_mul (by rw [Nat.mul_comm]; exact h)
    cases e with
    | zero =>
      have u1 : u = 1 := he
      subst u1
      rw [dgF_val n f (1 / 10) _ h10 (Or.inl rfl), if_pos rfl]
      omega
    | succ e =>
      have eu : u / 10 = 10 ^ e := by rw [he, Nat.pow_succ]; exact Nat.mul_div_cancel _ (by omega)
      have eu2 : u = 10 * (u / 10) := by rw [eu, he, Nat.pow_succ, Nat.mul_comm]
      have hp : 0 < 10 ^ e := Nat.pos_of_ne_zero (by intro z; rw [eu, z] at eu2; omega)
      rw [dgF_val n f (u / 10) _ h10 (Or.inr ⟨e, eu⟩), if_neg (by omega), ← eu2]
      generalize u / 10 = w at *
      clear he eu h10 h ec hm e0 hu
      subst eu2
      have e1 : n % (10 * (10 * w)) = n / (10 * w) % 10 * (10 * w) + n % (10 * w) := by
        rw [Nat.mul_comm 10 (10 * w), Nat.mod_mul, Nat.mul_comm (10 * w)]
        omega
      rw [e1]
      have e2 : (10 * a + n / (10 * w) % 10) * (10 * w) = a * (10 * (10 * w)) + n / (10 * w) % 10 * (10 * w) := by
        rw [Nat.add_mul]
        congr 1
        rw [Nat.mul_comm 10 a, Nat.mul_assoc]
      rw [e2]
      omega
theorem unF_pow : ∀ f n u, ∃ e, unF f n u = u * 10 ^ e
  | 0, n, u => ⟨0, (Nat.mul_one u).symm⟩
  | f + 1, n, u => by
    unfold unF
    split
    · obtain ⟨e, h⟩ := unF_pow f n (u * 10)
      exact ⟨e + 1, by rw [h, Nat.pow_succ, Nat.mul_comm (10 ^ e) 10, Nat.mul_assoc]⟩
    · exact ⟨0, (Nat.mul_one u).symm⟩
theorem unF_top : ∀ f n u, 1 ≤ u → n < u * 10 ^ (f + 1) → n < 10 * unF f n u
  | 0, n, u, hu, h => by
    rw [Nat.pow_succ, Nat.pow_zero, Nat.one_mul] at h
    show n < 10 * u
    omega
  | f + 1, n, u, hu, h => by
    unfold unF
    split
    · refine unF_top f n (u * 10) (by omega) ?_
      rw [Nat.pow_succ 10 (f + 1), Nat.mul_comm (10 ^ (f + 1)) 10, ← Nat.mul_assoc] at h
      exact h
    · rename_i c
      by_cases z : u * 10 ≤ n
      · exact absurd ((u10 hu).2 z) c
      · omega
theorem dgs_val {n : Nat} (h : n ≤ 2147483648) : dvl (dgs n) = n := by
  obtain ⟨e, he⟩ := unF_pow 12 n 1
  rw [Nat.one_mul] at he
  have ht := unF_top 12 n 1 (by omega) (by omega)
  have hb := unF_le 12 n 1 (by omega) (by omega)
  have hlt : unF 12 n 1 < 10 ^ 12 := by rcases unF_n 12 n 1 with z | z <;> omega
  unfold dvl dgs
  rw [dgF_val n 12 _ 0 hlt (Or.inr ⟨e, he⟩), if_neg (by omega), Nat.zero_mul, Nat.zero_add]
  exact Nat.mod_eq_of_lt ht
theorem dgF_d : ∀ f n u, ∀ c ∈ dgF f n u, ∃ d, d < 10 ∧ c = Int32.ofNat (48 + d)
  | 0, n, u, c, h => by cases h
  | f + 1, n, u, c, h => by
    unfold dgF at h
    split at h
    · cases h
    · rcases List.mem_cons.1 h with e | e
      · exact ⟨n / u % 10, Nat.mod_lt _ (by omega), e⟩
      · exact dgF_d f n (u / 10) c e
theorem dig_ne : ∀ d, d < 10 → Int32.ofNat (48 + d) ≠ 45 ∧ wc (Int32.ofNat (48 + d)) = true := by decide
theorem dgs_ne {n : Nat} (h : n ≤ 2147483648) : dgs n ≠ [] := by
  have hb := unF_le 12 n 1 (by omega) (by omega)
  unfold dgs
  rw [show dgF 12 n (unF 12 n 1) = if unF 12 n 1 = 0 then [] else Int32.ofNat (48 + n / unF 12 n 1 % 10) :: dgF 11 n (unF 12 n 1 / 10) from rfl, if_neg (by omega)]
  simp
theorem dgi_wc {v : Int32} : wcL (dgi v) := by
  have ha := abs_le v
  refine ⟨fun e => ?_, fun c hc => ?_⟩
  · unfold dgi at e
    exact dgs_ne ha (List.append_eq_nil_iff.1 e).2
  · unfold dgi at hc
    rcases List.mem_append.1 hc with z | z
    · split at z
      · cases z
      · rw [List.mem_singleton.1 z]; decide
    · obtain ⟨d, hd, e⟩ := dgF_d _ _ _ c z
      rw [e]; exact (dig_ne d hd).2
theorem dgi_inj {v v' : Int32} (h : dgi v = dgi v') : v = v' := by
  have ha := abs_le v
  have hb := abs_le v'
  have hd : ∀ w : Int32, ∀ r, dgs w.toInt.natAbs ≠ 45 :: r := fun w r e => by
    have : (45 : Int32) ∈ dgs w.toInt.natAbs := by rw [e]; exact List.mem_cons_self ..
    obtain ⟨d, h1, h2⟩ := dgF_d _ _ _ _ this
    exact (dig_ne d h1).1 h2.symm
  have key : dgs v.toInt.natAbs = dgs v'.toInt.natAbs ∧ (0 ≤ v ↔ 0 ≤ v') := by
    unfold dgi at h
    by_cases c1 : 0 ≤ v <;> by_cases c2 : 0 ≤ v'
    · rw [if_pos c1, if_pos c2] at h; exact ⟨h, by simp [c1, c2]⟩
    · rw [if_pos c1, if_neg c2] at h; exact absurd h (hd v _)
    · rw [if_neg c1, if_pos c2] at h; exact absurd h.symm (hd v' _)
    · rw [if_neg c1, if_neg c2] at h
      have h : (45 : Int32) :: dgs v.toInt.natAbs = 45 :: dgs v'.toInt.natAbs := h
      injection h with _ e
      exact ⟨e, by simp [c1, c2]⟩
  have e := congrArg dvl key.1
  rw [dgs_val ha, dgs_val hb] at e
  have k2 := key.2
  rw [Int32.le_iff_toInt_le, Int32.le_iff_toInt_le] at k2
  have z0 : (0 : Int32).toInt = 0 := rfl
  rw [z0] at k2
  apply Int32.toInt_inj.mp
  omega
