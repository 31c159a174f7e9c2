/-! the works' writer: bytes, words, numbers -/
def by8 (b : Int32) : Int32 := b.toInt8.toInt32.toInt8.toInt32
def cPg (P : List Int32) (M : Mem) : Prop := mL M 410 0 = 26000 ∧ mI M 8 0 1 = Int32.ofNat P.length ∧ ∀ i, i < P.length → mI M 410 0 i = by8 (P.getD i 0)
/-- g: the next word comes without a blank -/
def cPn (P : List Int32) (g : Bool) (M : Mem) : Prop := cPg P M ∧ ∃ f t : Bool, mI M 8 0 2 = b2 f ∧ mI M 8 0 3 = b2 t ∧ g = (f || t)
abbrev SPn : Nat := (6669860673210949530242007110941186830825999950075174151438599379347153987718568312081406713519785397369725646220463842210540608160038715473564796993219296579529807941020589719058971836299268572908603964459745362147812933936997898737875751227589874549693167705720991468851278585090738632215191296055409640739481500445098957548476919399293754792846403943570871017515315274891246333916863420239160156388686487356590156442968099143276771454070624672583643592838740444449558559708330519591770530356010850132873976077557767488899855231715359172000141630692952505812578784726985268103180265897255378168767909820227883126095032621163418159668539314433124595920809888093096727072496287658266390594602098866615389774989699405728586531807528238364198944941979914656152854366769717066200711692288)
def spc (g : Bool) : List Int32 := if g = true then [] else [32]
theorem unF_n : ∀ f n u, unF f n u ≤ u ∨ unF f n u ≤ n
  | 0, n, u => Or.inl (Nat.le_refl _)
  | f + 1, n, u => by
    unfold unF
    by_cases c : 9 < n / u
    · rw [if_pos c]
      have h1 : u * 10 ≤ n := Nat.le_trans (by rw [Nat.mul_comm]; exact Nat.mul_le_mul_right u (show 10 ≤ n / u by omega)) (Nat.div_mul_le_self n u)
      rcases unF_n f n (u * 10) with z | z
      · exact Or.inr (Nat.le_trans z h1)
      · exact Or.inr z
    · rw [if_neg c]; exact Or.inl (Nat.le_refl _)
theorem spc_len {g : Bool} : (spc g).length ≤ 1 := by cases g <;> decide
theorem app1_get {P : List Int32} {b d : Int32} {i : Nat} (h : i < P.length) : (P ++ [b]).getD i d = P.getD i d := by
  rw [List.getD_eq_getElem?_getD, List.getElem?_append_left h, ← List.getD_eq_getElem?_getD]
theorem app1_end {P : List Int32} {b d : Int32} : (P ++ [b]).getD P.length d = b := by
  rw [List.getD_eq_getElem?_getD, List.getElem?_append_right (Nat.le_refl _), Nat.sub_self]; rfl
section
variable {A : List Nm} {P : List Int32} {g : Bool} {b v : Int32} {M M' : Mem} {Q : Mem → Prop} {nm : Nm} {k : Nat}
theorem c_wput (h : cPg P M) (hl : P.length < 26000) (hQ : ∀ M', cPg (P ++ [b]) M' → Fr SPn M M' → (mI M' 8 0 2 = mI M 8 0 2 ∧ mI M' 8 0 3 = mI M 8 0 3) → Q M') : w_Writer_put 0 b Q M := by
  obtain ⟨h1, h2, h3⟩ := h
  unfold w_Writer_put
  rw [h2, h1]
  refine ⟨(vp_oN (by omega)).mpr hl, _, rfl, ?_⟩
  rw [oN_tnc (k := P.length) (by omega)]
  have e : ∀ u, mI (sI M 410 0 P.length u) 8 0 1 = Int32.ofNat P.length := fun u => h2
  rw [e, lit32 1, oN_add]
  refine hQ _ ⟨h1, ?_, fun i hi => ?_⟩ (Fr.wI rfl (Fr.wIa rfl rfl (Fr.rf _ _))) ⟨rfl, rfl⟩
  · rw [List.length_append, List.length_singleton]; rfl
  · rw [List.length_append, List.length_singleton] at hi
    by_cases ei : i = P.length
    · rw [ei, app1_end]
      simp only [mI_sI, Nat.reduceEqDiff, false_and, if_false, and_self, if_true]
      rfl
    · rw [app1_get (by omega)]
      simp only [mI_sI, Nat.reduceEqDiff, false_and, and_false, if_false, ei]
      exact h3 i (by omega)
theorem c_wspace (h : cPn P g M) (hl : P.length < 26000) (hQ : ∀ M', cPn (P ++ spc g) false M' → Fr SPn M M' → Q M') : w_Writer_space 0 Q M := by
  obtain ⟨h1, f, t, e1, e2, eg⟩ := h
  have fin : ∀ M1, cPg (P ++ spc g) M1 → Fr SPn M M1 → w_Writer_space_j20 0 Q M1 := fun M1 hp hf => by
    unfold w_Writer_space_j20
    exact ⟨Or.inl rfl, Or.inl rfl, hQ _ ⟨hp, false, false, rfl, rfl, rfl⟩ (Fr.wI rfl (Fr.wI rfl hf))⟩
  unfold w_Writer_space
  rw [e1]
  cases f with
  | true =>
    refine itn (by decide) (fin M ?_ (Fr.rf _ _))
    rw [show g = true by rw [eg]; rfl]
    show cPg (P ++ []) M
    rw [List.append_nil]; exact h1
  | false =>
    refine itp rfl ?_
    rw [e2]
    cases t with
    | true =>
      refine itn (by decide) (fin M ?_ (Fr.rf _ _))
      rw [show g = true by rw [eg]; rfl]
      show cPg (P ++ []) M
      rw [List.append_nil]; exact h1
    | false =>
      refine itp rfl (c_wput h1 hl (fun M1 hp hf _ => fin M1 ?_ hf))
      rw [show g = false by rw [eg]; rfl]
      exact hp
theorem c_wputs (h : cPn P false M) (hl : P.length < 26000) (hQ : ∀ M', cPn (P ++ [b]) false M' → Fr SPn M M' → Q M') : w_Writer_put 0 b Q M := by
  obtain ⟨h1, f, t, e1, e2, eg⟩ := h
  exact c_wput h1 hl (fun M1 hp hf e => hQ M1 ⟨hp, f, t, e.1.trans e1, e.2.trans e2, eg⟩ hf)
theorem c_wwordL (hn : A[k]? = some nm) : ∀ n i P M, i ≤ nm.length → nm.length - i < n → CNm A M → cPn P false M → P.length + (nm.length - i) ≤ 26000 → (∀ M', cPn (P ++ nm.drop i) false M' → Fr SPn M M' → Q M') → w_Writer_word_L6 0 Q n (Int32.ofNat k) (Int32.ofNat i) M
  | 0, i, P, M, hi, hf, hC, h, hl, hQ => absurd hf (by omega)
  | n + 1, i, P, M, hi, hf, hC, h, hl, hQ => by
    obtain ⟨hk, ok, -, -⟩ := hC.get hn
    have h12 := ok.1
    unfold w_Writer_word_L6
    refine c_at hC hn (by omega) ?_
    by_cases e : i = nm.length
    · refine itp ((gb0_pos ok i).mpr (by omega)) (hQ M ?_ (Fr.rf _ _))
      rw [e, List.drop_length, List.append_nil]; exact h
    refine itn (fun z => absurd ((gb0_pos ok i).mp z) (by omega)) (c_at hC hn (by omega) ?_)
    refine c_wputs h (by omega) (fun M1 h1 f1 => ?_)
    rw [lit32 1, oN_add]
    refine c_wwordL hn n (i + 1) _ M1 (by omega) (by omega) (hC.fr f1) h1 (by rw [List.length_append, List.length_singleton]; omega) (fun M2 h2 f2 => hQ M2 ?_ (f1.trans f2))
    have ed : nm.drop i = gb0 nm i :: nm.drop (i + 1) := by
      rw [List.drop_eq_getElem_cons (by omega)]
      congr 1
      unfold gb0
      rw [List.getD_eq_getElem?_getD, List.getElem?_eq_getElem (by omega)]; rfl
    rw [ed, List.append_cons]
    exact h2
theorem c_wword (hC : CNm A M) (h : cPn P g M) (hn : A[k]? = some nm) (hl : P.length + 1 + nm.length ≤ 25999) (hQ : ∀ M', cPn (P ++ spc g ++ nm) false M' → Fr SPn M M' → Q M') : w_Writer_word 0 (Int32.ofNat k) Q M := by
  unfold w_Writer_word
  have hs := spc_len (g := g)
  refine c_wspace h (by omega) (fun M1 h1 f1 => ⟨nm.length + 1, ?_⟩)
  refine c_wwordL hn _ 0 _ M1 (Nat.zero_le _) (by omega) (hC.fr f1) h1 (by rw [List.length_append]; omega) (fun M2 h2 f2 => hQ M2 h2 (f1.trans f2))
theorem c_wdg52 (n : Nat) (hn : n ≤ 2147483648) : ∀ f u P M, u < 10 ^ f → u < 1000000000000000 → cPn P false M → P.length + f ≤ 26000 → (∀ M', cPn (P ++ dgF f n u) false M' → Fr SPn M M' → Q M') → w_Writer_digits_L52 0 Q (f + 1) (jN n) (jN u) M
  | 0, u, P, M, hu, hb, h, hl, hQ => by
    have e0 : u = 0 := by rw [Nat.pow_zero] at hu; omega
    subst e0
    unfold w_Writer_digits_L52
    refine itp ((jN_cmp (a := 0) (b := 0) (by omega) (by omega)).mpr (Nat.le_refl _)) (hQ M ?_ (Fr.rf _ _))
    show cPn (P ++ []) false M
    rw [List.append_nil]; exact h
  | f + 1, u, P, M, hu, hb, h, hl, hQ => by
    unfold w_Writer_digits_L52
    by_cases e0 : u = 0
    · subst e0
      refine itp ((jN_cmp (a := 0) (b := 0) (by omega) (by omega)).mpr (Nat.le_refl _)) (hQ M ?_ (Fr.rf _ _))
      show cPn (P ++ []) false M
      rw [List.append_nil]; exact h
    have hle : n / u ≤ n := Nat.div_le_self n u
    have hm10 : n / u % 10 < 10 := Nat.mod_lt _ (by omega)
    refine itn (fun z => e0 (by have := (jN_cmp (a := u) (b := 0) (by omega) (by omega)).mp z; omega)) ⟨fun z => e0 ((jN_inj (a := u) (b := 0) (by omega) (by omega)).mp z), by decide, ?_⟩
    have ed : ((48 : Int64) + ((jN n / jN u) - (jN n / jN u) / (10 : Int64) * (10 : Int64))).toInt32 = Int32.ofNat (48 + n / u % 10) := by
      rw [jN_div (by omega) (by omega), show (10 : Int64) = jN 10 from rfl, jN_mod (by omega) (by omega), show (48 : Int64) = jN 48 from rfl, jN_add, jN_32 (by omega)]
    rw [ed]
    refine c_wputs h (by omega) (fun M1 h1 f1 => ⟨by decide, ?_⟩)
    rw [show (10 : Int64) = jN 10 from rfl, jN_div (by omega) (by omega)]
    refine c_wdg52 n hn f (u / 10) _ M1 ?_ (by have := Nat.div_le_self u 10; omega) h1 (by rw [List.length_append, List.length_singleton]; omega) (fun M2 h2 f2 => hQ M2 ?_ (f1.trans f2))
    · rw [Nat.pow_succ] at hu
      exact Nat.div_lt_of_lt_mul (by rw [Nat.mul_comm]; exact hu)
    · unfold dgF
      rw [if_neg e0, List.append_cons]
      exact h2
theorem c_wdg30 (n : Nat) (hn : n ≤ 2147483648) : ∀ f u M, 1 ≤ u → n < u * 10 ^ (f + 1) → u * 10 ^ f ≤ 100000000000 → (∀ M', M' = M → ∃ m, w_Writer_digits_L52 0 Q m (jN n) (jN (unF (f + 1) n u)) M') → w_Writer_digits_L30 0 Q (f + 1) (jN n) (jN u) M
  | 0, u, M, hu, hlt, hb, hQ => by
    unfold w_Writer_digits_L30
    rw [Nat.pow_zero, Nat.mul_one] at hb
    rw [Nat.pow_succ, Nat.pow_zero, Nat.one_mul] at hlt
    have hle : n / u ≤ n := Nat.div_le_self n u
    have h9 : n / u < 10 := Nat.div_lt_of_lt_mul hlt
    refine ⟨fun z => by have := (jN_inj (a := u) (b := 0) (by omega) (by omega)).mp z; omega, ?_⟩
    rw [jN_div (by omega) (by omega)]
    refine itp ((jN_cmp (a := n / u) (b := 9) (by omega) (by omega)).mpr (by omega)) ?_
    have := hQ M rfl
    unfold unF at this
    rw [if_neg (by omega)] at this
    exact this
  | f + 1, u, M, hu, hlt, hb, hQ => by
    unfold w_Writer_digits_L30
    have e : u * 10 ^ (f + 1) = u * 10 * 10 ^ f := by rw [Nat.pow_succ, Nat.mul_comm (10 ^ f) 10, Nat.mul_assoc]
    have hp : 1 ≤ 10 ^ f := Nat.le_trans Nat.one_le_two_pow (Nat.pow_le_pow_left (show 2 ≤ 10 by omega) f)
    have hub : u * 10 ≤ u * 10 * 10 ^ f := Nat.le_mul_of_pos_right (u * 10) hp
    have hle : n / u ≤ n := Nat.div_le_self n u
    refine ⟨fun z => by have := (jN_inj (a := u) (b := 0) (by omega) (by omega)).mp z; omega, ?_⟩
    rw [jN_div (by omega) (by omega)]
    by_cases c : 9 < n / u
    · refine itn (fun z => by have := (jN_cmp (a := n / u) (b := 9) (by omega) (by omega)).mp z; omega) ?_
      rw [show (10 : Int64) = jN 10 from rfl, jN_mul]
      refine c_wdg30 n hn f (u * 10) M (by omega) ?_ (by rw [← e]; exact hb) (fun M' e' => ?_)
      · have e2 : u * 10 ^ (f + 1 + 1) = u * 10 * 10 ^ (f + 1) := by rw [Nat.pow_succ (10) (f + 1), Nat.mul_comm (10 ^ (f + 1)) 10, Nat.mul_assoc]
        rw [← e2]; exact hlt
      · have := hQ M' e'
        rw [show unF (f + 1 + 1) n u = unF (f + 1) n (u * 10) by rw [unF, if_pos c]] at this
        exact this
    · refine itp ((jN_cmp (a := n / u) (b := 9) (by omega) (by omega)).mpr (by omega)) ?_
      have := hQ M rfl
      rw [show unF (f + 1 + 1) n u = u by rw [unF, if_neg c]] at this
      exact this
theorem c_wdigits (h : cPn P g M) (hl : P.length + 20 ≤ 26000) (hQ : ∀ M', cPn (P ++ spc g ++ dgi v) false M' → Fr SPn M M' → Q M') : w_Writer_digits 0 v Q M := by
  have hs := spc_len (g := g)
  have ha := abs_le v
  unfold w_Writer_digits
  refine c_wspace h (by omega) (fun M1 h1 f1 => ?_)
  have go : ∀ P1 M2, cPn P1 false M2 → P1.length ≤ P.length + 2 → Fr SPn M M2 → P1 ++ dgs v.toInt.natAbs = P ++ spc g ++ dgi v → w_Writer_digits_j27 0 Q (jN v.toInt.natAbs) M2 := fun P1 M2 h2 hl2 f2 e => by
    unfold w_Writer_digits_j27
    refine ⟨12, c_wdg30 _ ha 11 1 M2 (by omega) (by omega) (by omega) (fun M3 e3 => ⟨13, ?_⟩)⟩
    rw [e3]
    have u2 : unF 12 v.toInt.natAbs 1 ≤ 2147483648 := by rcases unF_n 12 v.toInt.natAbs 1 with z | z <;> omega
    show w_Writer_digits_L52 0 Q (12 + 1) (jN v.toInt.natAbs) (jN (unF 12 v.toInt.natAbs 1)) M2
    refine c_wdg52 _ ha 12 _ P1 M2 ?_ (by omega) h2 (by omega) (fun M4 h4 f4 => hQ M4 ?_ (f2.trans f4))
    · rcases unF_n 12 v.toInt.natAbs 1 with z | z <;> omega
    · rw [← e]; exact h4
  by_cases c : 0 ≤ v
  · refine itp c ?_
    unfold w_Writer_digits_j16
    rw [jN_of v c]
    refine itp c (go _ M1 h1 (by rw [List.length_append]; omega) f1 ?_)
    unfold dgi
    rw [if_pos c]; rfl
  · refine itn c ?_
    unfold w_Writer_digits_j16
    rw [jN_neg v c]
    refine itn c (c_wputs h1 (by rw [List.length_append]; omega) (fun M2 h2 f2 => go _ M2 h2 (by rw [List.length_append, List.length_append, List.length_singleton]; omega) (f1.trans f2) ?_))
    unfold dgi
    rw [if_neg c, ← List.append_assoc]
end
