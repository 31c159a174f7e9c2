/-! THE OPERATION change, in the works -/
section
variable {BB A : List Nm} {B F t w i j k r : Nat} {T : List Trl} {L L' : Trl} {M M' : Mem} {Q : Int32 → Mem → Prop} {Q' X : Mem → Prop} {a b c d v : Int32}
theorem txt_11 (l : List Int32) : txt [l] = l ++ [10] := by
  show (l ++ [10]) ++ [] = _
  rw [List.append_nil]
theorem eqN {a b : Nat} (ha : a < 1000) (hb : b < 1000) : Int32.ofNat a = Int32.ofNat b ↔ a = b := oN_inj (by omega) (by omega)
theorem WkT.row (h : WkT BB A B F T M) (ht : t < 40) : ∃ r, mR M 701 0 t = some (400, r) ∧ mL M 400 r = 1260 ∧ r ≠ 0 ∧ r ≠ 41 ∧ (t < T.length → (mI M 98 0 t = Int32.ofNat (txt (gTr T t)).length ∧ ∀ k, k < (txt (gTr T t)).length → mI M 400 r k = gi (txt (gTr T t)) k)) := by
  obtain ⟨-, -, π, hr, -, hx⟩ := h.2.1.1
  obtain ⟨r1, r2, r3, r4⟩ := hr t ht
  refine ⟨π t, r1, r2, r3, r4, fun h1 => ?_⟩
  obtain ⟨⟨x1, -⟩, x2⟩ := hx t (by rw [List.length_map]; exact h1)
  rw [gTr_map h1] at x1 x2
  exact ⟨x1, x2⟩
theorem c_wlines (h : WkT BB A B F T M) (ht : t < T.length) (hQ : Q (Int32.ofNat (gTr T t).length) M) : w_Works_lines 0 (Int32.ofNat t) Q M := by
  have h40 := h.n
  obtain ⟨hTO, -⟩ := h.2.2 _ (gTr_mem ht)
  obtain ⟨r, r1, r2, -, -, r5⟩ := h.row (t := t) (by omega)
  obtain ⟨x1, x2⟩ := r5 ht
  obtain ⟨-, ⟨l701, l98⟩, -⟩ := h.2.1.1
  have hle := hTO.2.1
  have hn := n10_txt _ hTO.2.2.1
  have loop : ∀ n k, (txt (gTr T t)).length - k < n → k ≤ (txt (gTr T t)).length → w_Works_lines_L4 0 Q n (Int32.ofNat t) (Int32.ofNat (n10 (txt (gTr T t)) k)) (Int32.ofNat k) M := by
    intro n
    induction n with
    | zero => intro k z; exact absurd z (by omega)
    | succ n ih =>
      intro k hk1 hk
      unfold w_Works_lines_L4
      rw [oN_tnc (k := t) (by omega), x1]
      refine ⟨by rw [l98]; exact (vp_oN (by omega)).mpr (by omega), ?_⟩
      by_cases e : k = (txt (gTr T t)).length
      · subst e
        refine itp (le_oN (Nat.le_refl _) (by omega)) ?_
        rw [hn]; exact hQ
      refine itn (nle_oN (by omega) (by omega)) ⟨by rw [l701]; exact (vp_oN (by omega)).mpr (by omega), r, r1, by rw [r2]; exact (vp_oN (by omega)).mpr (by omega), ?_⟩
      rw [oN_tnc (k := k) (by omega), x2 k (by omega)]
      have nx : ∀ v, v = (if gi (txt (gTr T t)) k = 10 then 1 else 0) → w_Works_lines_j33 0 Q (w_Works_lines_L4 0 Q n) (Int32.ofNat t) (Int32.ofNat k) (Int32.ofNat v) (Int32.ofNat (n10 (txt (gTr T t)) k)) M := fun v ev => by
        unfold w_Works_lines_j33
        rw [lit32 1, oN_add, oN_add, ev]
        exact ih (k + 1) (by omega) (by omega)
      by_cases c : gi (txt (gTr T t)) k = 10
      · rw [if_pos c] at nx; exact itp c (nx 1 rfl)
      · rw [if_neg c] at nx; exact itn c (nx 0 rfl)
  unfold w_Works_lines
  exact ⟨(txt (gTr T t)).length + 1, loop _ 0 (by omega) (Nat.zero_le _)⟩
theorem c_forget (hl : mL M 516 0 = 360) (ht : t < 40) (hQ : ∀ M', Fr (214524926879081553593184399971293538039669853129478294043576983099548224481176751628829988770670454843040509730983776813660062124991145119142938384097345536) M M' → (∀ k, k < 9 → mI M' 516 0 (9 * t + k) = 0) → (∀ q, (q < 9 * t ∨ 9 * t + 9 ≤ q) → mI M' 516 0 q = mI M 516 0 q) → Q' M') : w_Works_forget 0 (Int32.ofNat t) Q' M := by
  have loop : ∀ n k M1, 9 - k < n → k ≤ 9 → Fr (214524926879081553593184399971293538039669853129478294043576983099548224481176751628829988770670454843040509730983776813660062124991145119142938384097345536) M M1 → (∀ j, j < k → mI M1 516 0 (9 * t + j) = 0) → (∀ q, (q < 9 * t ∨ 9 * t + k ≤ q) → mI M1 516 0 q = mI M 516 0 q) → w_Works_forget_L2 0 Q' n (Int32.ofNat t) (Int32.ofNat k) M1 := by
    intro n
    induction n with
    | zero => intro k M1 z; exact absurd z (by omega)
    | succ n ih =>
      intro k M1 hn hk p1 p2 p3
      unfold w_Works_forget_L2
      by_cases e : k = 9
      · subst e
        exact itp (by decide) (hQ M1 p1 p2 p3)
      refine itn (nle_oN (a := 9) (by omega) (by omega)) ?_
      rw [lit32 9, oN_mul, oN_add, oN_tnc (k := 9 * t + k) (by omega), lit32 1, oN_add]
      refine ⟨by rw [p1.L (f := 516) rfl, hl]; exact (vp_oN (by omega)).mpr (by omega), _, rfl, ih (k + 1) _ (by omega) (by omega) (Fr.wIa rfl rfl p1) (fun j hj => ?_) (fun q hq => ?_)⟩
      · rw [mI_sI]
        by_cases ej : j = k
        · rw [if_pos ⟨rfl, rfl, by omega⟩]; rfl
        · rw [if_neg (fun z => ej (by have := z.2.2; omega))]; exact p2 j (by omega)
      · rw [mI_sI, if_neg (fun z => by have := z.2.2; omega)]; exact p3 q (by omega)
  unfold w_Works_forget
  exact ⟨10, loop 10 0 M (by omega) (by omega) (Fr.rf _ _) (fun j hj => absurd hj (by omega)) (fun _ _ => rfl)⟩
theorem gTr_sn {t : Nat} : gTr (T ++ [L']) t = if t < T.length then gTr T t else if t = T.length then L' else [] := by
  show (T ++ [L']).getD t [] = _
  by_cases c : t < T.length
  · rw [if_pos c, List.getD_eq_getElem?_getD, List.getElem?_append_left c, ← List.getD_eq_getElem?_getD]
  · rw [if_neg c, List.getD_eq_getElem?_getD, List.getElem?_append_right (by omega)]
    by_cases e : t = T.length
    · rw [if_pos e, e, Nat.sub_self]; rfl
    · rw [if_neg e, List.getElem?_eq_none (by rw [List.length_singleton]; omega)]; rfl
/-- one more trial -/
theorem WkT.snoc (h : WkT BB A B F T M) (hn : T.length < 40) (hL : TrO L') (hnm : nmL BB L') (hf : Fr (1323532713598280147952282587538779051904570666870942976243487852023793718373407346439829272934192523234348033018338392300878111134203327466082248784675349312806515329956751004245317043534652900124757921474709498706730629984024839957817689587061578969386681031001456936953788958264892420369399514162618077280707220101485117624701219719549311905140417745489717293534028155538163024090734725280721520278540873804922551792487790056493916027096049215762610864027263521250173046867423353135872373526780207359106951265657778099743136098188133185100681943291383423866943108286740432098933068487821682397526253880031584733253104988762594045657651243040937804784548692583326715169988351529766267597102334246462132308316201417738611490457533896451496579456902485150762812447442327224319862927747832942081738608836667459284033565736970267173737427808077926324834296459209208398952306533463828171469485712257033050537756459008) M M') (e10 : mI M' 10 0 10 = Int32.ofNat (T.length + 1)) (e98 : mI M' 98 0 T.length = Int32.ofNat (txt L').length) (o98 : ∀ j, j ≠ T.length → mI M' 98 0 j = mI M 98 0 j) (hr : mR M 701 0 T.length = some (400, r)) (e400 : ∀ k, k < (txt L').length → mI M' 400 r k = gi (txt L') k) (o400 : ∀ q k, q ≠ r → q ≠ 41 → q ≠ 0 → mI M' 400 q k = mI M 400 q k) (e516 : ∀ k, k < 9 → mI M' 516 0 (9 * T.length + k) = 0) (o516 : ∀ q, (q < 9 * T.length ∨ 9 * T.length + 9 ≤ q) → mI M' 516 0 q = mI M 516 0 q) : WkT BB A B F (T ++ [L']) M' := by
  obtain ⟨hW, ⟨hX, hK⟩, hT⟩ := h
  obtain ⟨-, ⟨l701, l98⟩, π, hr', hi, hx⟩ := hX
  have er : π T.length = r := by
    have := (hr' T.length hn).1.symm.trans hr
    cases this; rfl
  have hl := hL.2.1
  have hlen : ((T ++ [L']).map txt).length = T.length + 1 := by rw [List.length_map, List.length_append, List.length_singleton]
  refine ⟨hW.fr hf, ⟨⟨⟨by rw [hlen]; exact e10, by rw [hlen]; omega⟩, ⟨(hf.L (f := 701) rfl 0).trans l701, (hf.L (f := 98) rfl 0).trans l98⟩, π, fun t ht => ?_, hi, fun t ht => ?_⟩, ⟨(hf.L (f := 516) rfl 0).trans hK.1.1, (hf.L (f := 99) rfl 0).trans hK.1.2.1, (hf.L (f := 100) rfl 0).trans hK.1.2.2⟩, fun t k ht hk h3 => ?_⟩, fun L hL2 => ?_⟩
  · rw [hf.Ra (f := 701) rfl rfl, hf.L (f := 400) rfl]; exact hr' t ht
  · rw [hlen] at ht
    have ht' : t < (T ++ [L']).length := by rw [List.length_append, List.length_singleton]; exact ht
    rw [gTr_map ht', gTr_sn]
    by_cases e : t = T.length
    · subst e
      rw [if_neg (Nat.lt_irrefl _), if_pos rfl, er]
      exact ⟨⟨e98, by omega⟩, e400⟩
    · rw [if_pos (by omega), o98 t e]
      obtain ⟨⟨x1, x2⟩, x3⟩ := hx t (by rw [List.length_map]; omega)
      rw [gTr_map (by omega)] at x1 x2 x3
      refine ⟨⟨x1, x2⟩, fun q hq => ?_⟩
      rw [o400 (π t) q (fun z => e (hi t T.length (by omega) hn (z.trans er.symm))) (hr' t (by omega)).2.2.2 (hr' t (by omega)).2.2.1]
      exact x3 q hq
  · rw [List.length_append, List.length_singleton] at ht
    by_cases e : t = T.length
    · subst e; exact absurd (e516 k hk) h3
    · rw [gTr_sn, if_pos (by omega), hf.Ia (f := 99) rfl rfl, hf.Ia (f := 100) rfl rfl]
      rw [o516 _ (Or.inl (by omega))] at h3
      exact hK.2 t k (by omega) hk h3
  · rcases List.mem_append.mp hL2 with z | z
    · exact hT L z
    · rw [List.mem_singleton.mp z]; exact ⟨hL, hnm⟩
theorem in_n2 {n : Nat} (h1 : 1 ≤ n) (h6 : n ≤ 60) (h : ¬ (c < 0 ∨ Int32.ofNat n - 2 < c)) : ∃ k, c = Int32.ofNat k ∧ c.toNatClampNeg = k ∧ k + 1 < n := by
  have h0 : ¬ c < 0 := fun z => h (Or.inl z)
  have h2 : ¬ Int32.ofNat n - 2 < c := fun z => h (Or.inr z)
  refine ⟨c.toNatClampNeg, (ofNat_tnc h0).symm, rfl, ?_⟩
  rw [← ofNat_tnc h0] at h2
  by_cases e : n = 1
  · subst e
    exact absurd (show Int32.ofNat 1 - 2 < Int32.ofNat c.toNatClampNeg from by
      rw [Int32.lt_iff_toInt_lt, oN_toInt (tnc_lt _), show (Int32.ofNat 1 - 2).toInt = -1 from rfl]; omega) h2
  · rw [lit32 2, oN_sub (by omega)] at h2
    have : ¬ n - 2 < c.toNatClampNeg := fun z => h2 ((oN_lt (by omega) (tnc_lt _)).mpr z)
    omega
theorem add_sub32 {p q s u : Nat} (h : p + q = u + s) : Int32.ofNat p + (Int32.ofNat q - Int32.ofNat s) = Int32.ofNat u := by
  rw [Int32.sub_eq_add_neg, ← Int32.add_assoc, oN_add, h, ← oN_add, Int32.add_assoc, Int32.add_right_neg, Int32.add_zero]
theorem add_neg32 {p s u : Nat} (h : p = u + s) : Int32.ofNat p + -Int32.ofNat s = Int32.ofNat u := by
  rw [h, ← oN_add, Int32.add_assoc, Int32.add_right_neg, Int32.add_zero]
theorem c_wchange (h : WkT BB A B F T M) (hd : mL M 400 41 = 1260) (hQ : ∀ M', WkT BB A B F (chgO T a b c d).2 M' → Q (chgO T a b c d).1 M') : w_Works_change 0 a b c d Q M := by
  have h40 := h.n
  unfold chgO at hQ
  unfold w_Works_change
  refine c_wkTr h (fun z => itp rfl (by rw [if_pos z] at hQ; exact hQ M h)) (fun t ht ea ea2 z => itn (by decide) ?_)
  rw [if_neg z, ea2] at hQ
  refine c_isInG (fun z => itp rfl (by rw [if_pos z] at hQ; exact hQ M h)) (fun z => itn (by decide) ?_)
  rw [if_neg z] at hQ
  obtain ⟨w, hw, eb, eb2⟩ : ∃ w, w ≤ 3 ∧ b = Int32.ofNat w ∧ b.toNatClampNeg = w := by
    have h0 : ¬ b < 0 := fun q => z (Or.inl q)
    have h1 : ¬ (3 : Int32) < b := fun q => z (Or.inr q)
    refine ⟨b.toNatClampNeg, ?_, (ofNat_tnc h0).symm, rfl⟩
    rw [← ofNat_tnc h0, lit32 3] at h1
    have : ¬ 3 < b.toNatClampNeg := fun z => h1 ((oN_lt (a := 3) (by omega) (tnc_lt _)).mpr z)
    omega
  rw [ea]
  refine c_wlines h ht ?_
  obtain ⟨hTO, hnm⟩ := h.2.2 _ (gTr_mem ht)
  obtain ⟨⟨hne, h60⟩, hsz, h10, -⟩ := id hTO
  have hn1 : 1 ≤ (gTr T t).length := by
    cases e : gTr T t with
    | nil => exact absurd e hne
    | cons x y => rw [List.length_cons]; omega
  obtain ⟨r, r1, r2, r3, r4, r5⟩ := h.row (t := t) (by omega)
  obtain ⟨x1, x2⟩ := r5 ht
  obtain ⟨-, ⟨l701, l98⟩, -⟩ := id h.2.1.1
  generalize gTr T t = L at hQ hTO hnm hne h60 hsz h10 hn1 r5 x1 x2 ⊢
  have hT : (txt L).length ≤ mL M 400 r ∧ ∀ k, k < (txt L).length → mI M 400 r k = gi (txt L) k := ⟨by rw [r2]; omega, x2⟩
  rw [eb] at hQ ⊢
  rw [oN_tnc (k := w) (by omega)] at hQ
  have cw : ∀ m, m < 100 → (Int32.ofNat w = (OfNat.ofNat m : Int32) ↔ w = m) := fun m hm => by rw [lit32 m]; exact eqN (by omega) (by omega)
  -- the last part
  have j133 : ∀ i j s0, c = Int32.ofNat i → i + 1 < L.length → (2 ≤ w → d = Int32.ofNat j ∧ j + 1 < L.length) → d.toNatClampNeg = j → Int32.ofNat (txt L).length + s0 = Int32.ofNat (txt (chL w i j L)).length → (txt (chL w i j L)).length ≤ 2500 → (∀ M', WkT BB A B F (if T.length = 40 ∨ 1200 < (txt (chL w i j L)).length ∨ (Int32.ofNat w = 1 ∧ L.length = 60) then ((-3 : Int32), T) else (Int32.ofNat T.length, T ++ [chL w i j L])).2 M' → Q (if T.length = 40 ∨ 1200 < (txt (chL w i j L)).length ∨ (Int32.ofNat w = 1 ∧ L.length = 60) then ((-3 : Int32), T) else (Int32.ofNat T.length, T ++ [chL w i j L])).1 M') → w_Works_change_j133 0 Q (Int32.ofNat t) (Int32.ofNat w) c d (Int32.ofNat L.length) r s0 M := by
    intro i j s0 ec hi hj edj hs hbig hq
    unfold w_Works_change_j133
    rw [h40.1]
    by_cases c40 : T.length = 40
    · rw [if_pos (Or.inl c40)] at hq
      exact itp (by rw [c40]; rfl) (hq M h)
    refine itn (fun z => c40 ((oN_inj (by omega) (by omega)).mp (z.trans (lit32 40)))) ⟨by rw [l98]; exact (vp_oN (by omega)).mpr (by omega), ?_⟩
    rw [oN_tnc (k := t) (by omega), x1, hs]
    by_cases cbig : 1200 < (txt (chL w i j L)).length
    · rw [if_pos (Or.inr (Or.inl cbig))] at hq
      exact itp (lt_oN (a := 1200) cbig (by omega)) (hq M h)
    refine itn (nlt_oN (b := (txt (chL w i j L)).length) (a := 1200) (by omega) (by omega)) ?_
    have j174 : ¬ (Int32.ofNat w = 1 ∧ L.length = 60) → w_Works_change_j174 0 Q (Int32.ofNat w) c d (Int32.ofNat L.length) r M := fun cn => by
      rw [if_neg (fun z => z.elim c40 (fun z => z.elim cbig cn))] at hq
      have hj2 : j + 1 < L.length ∨ w ≤ 1 := by
        by_cases c2 : 2 ≤ w
        · exact Or.inl (hj c2).2
        · exact Or.inr (by omega)
      have hTO' : TrO (chL w i j L) := hTO.ch hi hj2 (fun z q => cn ⟨(cw 1 (by omega)).mpr z, q⟩) (by omega)
      have hnm' : nmL BB (chL w i j L) := fun l hl => hnm l (ch_mem (by omega) (hj2.imp (fun z => by omega) id) _ (Nat.le_refl _) l hl)
      unfold w_Works_change_j174
      refine ⟨L.length + 1, ?_⟩
      -- lines are copied
      have loop : ∀ n k M1, L.length - k < n → k ≤ L.length → Fr (1320951468044303979436222683331055661866906843070613657951409130029606724519251253181513685497775078886508289941725824392958777387898418765340212683483294404375581425416940078058371421090908285623355542567660862094892236323181374434165396535122800353829281625404466897803837526166279753753954380403939810851873799838257078776293015284900743654417850068159202747327823192239790751986317613632534215082972408287390824254181533206262803044422348322503363599732416269678568400786295207283348181528069164225839708889228020373056781807178767852996170571312847131916049191853747585950477180167196065130387792486110021933441495517376613807631950949950496324062058105356856306161547395809069778819569080764161728475737388020113833485242753634399306398681218960471329218045101420161723329264994503181716572442963441214667866573103587858373957569023534566897028596240251483804009921066536365205094838337300156130016834355200) M M1 → (∀ q, q ≠ 41 → ∀ x, mI M1 400 q x = mI M 400 q x) → dfW (txt (chF w i j L k)) M1 → w_Works_change_L182 0 Q n (Int32.ofNat w) c d (Int32.ofNat L.length) r (Int32.ofNat k) M1 := by
        intro n
        induction n with
        | zero => intro k M1 z; exact absurd z (by omega)
        | succ n ih =>
          intro k M1 hkn hk p1 p2 p3
          unfold w_Works_change_L182
          by_cases ek : k = L.length
          · subst ek
            have p3 : dfW (txt (chL w i j L)) M1 := p3
            obtain ⟨d1, d2, d3⟩ := p3
            obtain ⟨r', g1, g2, g3, g4, -⟩ := h.row (t := T.length) (by omega)
            have e10 : mI M1 10 0 10 = Int32.ofNat T.length := (p1.I (f := 10) (k := 10) rfl 0).trans h40.1
            rw [e10, d2, oN_tnc (k := T.length) (by omega), oN_tnc (k := (txt (chL w i j L)).length) (by omega), show (0 : Int32).toNatClampNeg = 0 from rfl]
            refine itp (le_oN (Nat.le_refl _) (by omega)) ⟨by rw [p1.L (f := 701) rfl, l701]; exact (vp_oN (by omega)).mpr (by omega), r', (p1.Ra (f := 701) rfl rfl 0 _).trans g1, by decide, by decide, nlt_oN (b := 0) (by omega) (by omega), by rw [d1]; omega, by rw [p1.L (f := 400) rfl, g2]; omega, _, rfl, ?_⟩
            have f2 : Fr (2582249878086908589655919172003011874329705792829223512830659356540647622016841194629645353280137831435903171972747493376) M1 (cpI M1 400 41 0 400 r' 0 (txt (chL w i j L)).length) := Fr.wcp rfl rfl (Fr.rf _ _)
            have o2 : ∀ q x, q ≠ r' → mI (cpI M1 400 41 0 400 r' 0 (txt (chL w i j L)).length) 400 q x = mI M1 400 q x := fun q x hq => by rw [mI_cpI, if_neg (fun z => hq z.2)]
            have e2 : ∀ x, x < (txt (chL w i j L)).length → mI (cpI M1 400 41 0 400 r' 0 (txt (chL w i j L)).length) 400 r' x = gi (txt (chL w i j L)) x := fun x hx => by
              rw [mI_cpI, if_pos ⟨rfl, rfl⟩, if_pos ⟨Nat.zero_le _, by omega⟩, Nat.sub_zero, Nat.zero_add]; exact d3 x hx
            generalize cpI M1 400 41 0 400 r' 0 (txt (chL w i j L)).length = M2 at f2 o2 e2 ⊢
            have e10' : mI M2 10 0 10 = Int32.ofNat T.length := (f2.I (f := 10) (k := 10) rfl 0).trans e10
            have e30' : mI M2 10 0 30 = Int32.ofNat (txt (chL w i j L)).length := (f2.I (f := 10) (k := 30) rfl 0).trans d2
            rw [e10', e30', oN_tnc (k := T.length) (by omega)]
            refine ⟨by rw [f2.L (f := 98) rfl, p1.L (f := 98) rfl, l98]; exact (vp_oN (by omega)).mpr (by omega), ?_⟩
            have f3 : Fr (316912650057057350374175801344) M2 (sI M2 98 0 T.length (Int32.ofNat (txt (chL w i j L)).length)) := Fr.wIa rfl rfl (Fr.rf _ _)
            have e98 : mI (sI M2 98 0 T.length (Int32.ofNat (txt (chL w i j L)).length)) 98 0 T.length = Int32.ofNat (txt (chL w i j L)).length := by rw [mI_sI, if_pos ⟨rfl, rfl, rfl⟩]
            have o98 : ∀ q, q ≠ T.length → mI (sI M2 98 0 T.length (Int32.ofNat (txt (chL w i j L)).length)) 98 0 q = mI M2 98 0 q := fun q hq => by rw [mI_sI, if_neg (fun z => hq z.2.2)]
            generalize sI M2 98 0 T.length (Int32.ofNat (txt (chL w i j L)).length) = M3 at f3 e98 o98 ⊢
            have e10'' : mI M3 10 0 10 = Int32.ofNat T.length := (f3.I (f := 10) (k := 10) rfl 0).trans e10'
            rw [e10'']
            refine c_forget (by rw [f3.L (f := 516) rfl, f2.L (f := 516) rfl, p1.L (f := 516) rfl]; exact h.2.1.2.1.1) (by omega) (fun M4 f4 z1 z2 => ?_)
            have e10d : mI M4 10 0 10 = Int32.ofNat T.length := (f4.I (f := 10) (k := 10) rfl 0).trans e10''
            rw [e10d, lit32 1, oN_add, show mI (sI M4 10 0 10 (Int32.ofNat (T.length + 1))) 10 0 10 = Int32.ofNat (T.length + 1) from by rw [mI_sI, if_pos ⟨rfl, rfl, rfl⟩], oN_sub (by omega), Nat.add_sub_cancel]
            have fA : Fr (1323532713598280147952282587538779051904570666870942976243487852023793718373407346439829272934192523234348033018338392300878111134203327466082248784675349312806515329956751004245317043534652900124757921474709498706730629984024839957817689587061578969386681031001456936953788958264892420369399514162618077280707220101485117624701219719549311905140417745489717293534028155538163024090734725280721520278540873804922551792487790056493916027096049215762610864027263521250173046867423353135872373526780207359106951265657778099743136098188133185100681943291383423866943108286740432098933068487821682397526253880031584733253104988762594045657651243040937804784548692583326715169988351529766267597102334246462132308316201417738611490457533896451496579456902485150762812447442327224319862927747832942081738608836667459284033565736970267173737427808077926324834296459209208398952306533463828171469485712257033050537756459008) M (sI M4 10 0 10 (Int32.ofNat (T.length + 1))) := Fr.wI rfl ((((p1.sub rfl).trans (f2.sub rfl)).trans (f3.sub rfl)).trans (f4.sub rfl))
            have i9 : ∀ f q x, f ≠ 10 → mI (sI M4 10 0 10 (Int32.ofNat (T.length + 1))) f q x = mI M4 f q x := fun f q x hne => by rw [mI_sI, if_neg (fun z => hne z.1)]
            refine hq _ (h.snoc (by omega) hTO' hnm' fA (by rw [mI_sI, if_pos ⟨rfl, rfl, rfl⟩]) ?_ (fun q hq => ?_) g1 (fun x hx => ?_) (fun q x q1 q2 q3 => ?_) (fun x hx => ?_) (fun q hq => ?_))
            · rw [i9 98 0 _ (by decide), f4.Ia (f := 98) rfl rfl]; exact e98
            · rw [i9 98 0 _ (by decide), f4.Ia (f := 98) rfl rfl, o98 q hq, f2.Ia (f := 98) rfl rfl, p1.Ia (f := 98) rfl rfl]
            · rw [i9 400 _ _ (by decide), f4.Ia (f := 400) rfl rfl, f3.Ia (f := 400) rfl rfl]; exact e2 x hx
            · rw [i9 400 _ _ (by decide), f4.Ia (f := 400) rfl rfl, f3.Ia (f := 400) rfl rfl, o2 q x q1]; exact p2 q q2 x
            · rw [i9 516 _ _ (by decide)]; exact z1 x hx
            · rw [i9 516 _ _ (by decide), z2 q hq, f3.Ia (f := 516) rfl rfl, f2.Ia (f := 516) rfl rfl, p1.Ia (f := 516) rfl rfl]
          refine itn (nle_oN (by omega) (by omega)) ?_
          have hTk : ∀ M2, (∀ q, q ≠ 41 → ∀ x, mI M2 400 q x = mI M 400 q x) → Fr (1320951468044303979436222683331055661866906843070613657951409130029606724519251253181513685497775078886508289941725824392958777387898418765340212683483294404375581425416940078058371421090908285623355542567660862094892236323181374434165396535122800353829281625404466897803837526166279753753954380403939810851873799838257078776293015284900743654417850068159202747327823192239790751986317613632534215082972408287390824254181533206262803044422348322503363599732416269678568400786295207283348181528069164225839708889228020373056781807178767852996170571312847131916049191853747585950477180167196065130387792486110021933441495517376613807631950949950496324062058105356856306161547395809069778819569080764161728475737388020113833485242753634399306398681218960471329218045101420161723329264994503181716572442963441214667866573103587858373957569023534566897028596240251483804009921066536365205094838337300156130016834355200) M M2 → (txt L).length ≤ mL M2 400 r ∧ ∀ x, x < (txt L).length → mI M2 400 r x = gi (txt L) x := fun M2 q1 q2 => ⟨by rw [q2.L (f := 400) rfl]; exact hT.1, fun x hx => by rw [q1 r r4]; exact hT.2 x hx⟩
          have hmo := ch_mono (w := w) (i := i) (j := j) (L := L) (k := k + 1) (m := L.length) (by omega)
          have hmo : (txt (chF w i j L (k + 1))).length ≤ (txt (chL w i j L)).length := hmo
          have hcs := chF_s (w := w) (i := i) (j := j) (L := L) (k := k)
          have hcl := congrArg List.length hcs
          rw [List.length_append, chP_len] at hcl
          have eik : (Int32.ofNat k = c ↔ k = i) := by rw [ec]; exact eqN (by omega) (by omega)
          have j276 : ∀ M2, Fr (1320951468044303979436222683331055661866906843070613657951409130029606724519251253181513685497775078886508289941725824392958777387898418765340212683483294404375581425416940078058371421090908285623355542567660862094892236323181374434165396535122800353829281625404466897803837526166279753753954380403939810851873799838257078776293015284900743654417850068159202747327823192239790751986317613632534215082972408287390824254181533206262803044422348322503363599732416269678568400786295207283348181528069164225839708889228020373056781807178767852996170571312847131916049191853747585950477180167196065130387792486110021933441495517376613807631950949950496324062058105356856306161547395809069778819569080764161728475737388020113833485242753634399306398681218960471329218045101420161723329264994503181716572442963441214667866573103587858373957569023534566897028596240251483804009921066536365205094838337300156130016834355200) M M2 → (∀ q, q ≠ 41 → ∀ x, mI M2 400 q x = mI M 400 q x) → dfW (txt (chF w i j L (k + 1))) M2 → w_Works_change_j276 0 Q (w_Works_change_L182 0 Q n) (Int32.ofNat w) c d (Int32.ofNat L.length) r (Int32.ofNat k) M2 := fun M2 q1 q2 q3 => by
            unfold w_Works_change_j276
            rw [lit32 1, oN_add]
            exact ih (k + 1) M2 (by omega) (by omega) q1 q2 q3
          have j247 : ∀ x, x < L.length → ¬ (w = 0 ∧ k = i) → (¬ (w = 1 ∧ k = i) → x = (if (w = 2 ∨ w = 3) ∧ k = i then j else if w = 2 ∧ k = j then i else k)) → ((w = 1 ∧ k = i) → x = k) → w_Works_change_j247 0 Q (w_Works_change_L182 0 Q n) (Int32.ofNat w) c d (Int32.ofNat L.length) r (Int32.ofNat k) (Int32.ofNat x) M1 := fun x hx c0 cx cx1 => by
            unfold w_Works_change_j247
            rw [if_neg c0] at hcl
            have ep : w = 1 ∧ k = i → txt (chP w i j k L) = (glL L k ++ [10]) ++ (glL L k ++ [10]) := fun z => by
              unfold chP
              rw [if_neg c0, if_pos z]
              show (glL L k ++ [10]) ++ ((glL L k ++ [10]) ++ []) = _
              rw [List.append_nil]
            have ep1 : ¬ (w = 1 ∧ k = i) → txt (chP w i j k L) = glL L x ++ [10] := fun z => by
              unfold chP
              rw [if_neg c0, if_neg z, cx z]
              exact txt_11 _
            refine c_copyLine h10 (by omega) r4 (hTk M1 p2 p1) hx p3 ?_ (fun M2 q1 q2 q3 => ?_)
            · by_cases z : w = 1 ∧ k = i
              · rw [if_pos z] at hcl
                rw [cx1 z]
                have : szL L k = (glL L k).length + 1 := rfl
                omega
              · rw [if_neg z, ← cx z] at hcl
                have : szL L x = (glL L x).length + 1 := rfl
                omega
            have f12 : Fr (1320951468044303979436222683331055661866906843070613657951409130029606724519251253181513685497775078886508289941725824392958777387898418765340212683483294404375581425416940078058371421090908285623355542567660862094892236323181374434165396535122800353829281625404466897803837526166279753753954380403939810851873799838257078776293015284900743654417850068159202747327823192239790751986317613632534215082972408287390824254181533206262803044422348322503363599732416269678568400786295207283348181528069164225839708889228020373056781807178767852996170571312847131916049191853747585950477180167196065130387792486110021933441495517376613807631950949950496324062058105356856306161547395809069778819569080764161728475737388020113833485242753634399306398681218960471329218045101420161723329264994503181716572442963441214667866573103587858373957569023534566897028596240251483804009921066536365205094838337300156130016834355200) M M2 := p1.trans q2
            have o12 : ∀ q, q ≠ 41 → ∀ x, mI M2 400 q x = mI M 400 q x := fun q hq x => (q3 q hq x).trans (p2 q hq x)
            by_cases z : k = i
            · refine itp (eik.mpr z) ?_
              by_cases z1 : w = 1
              · refine itp ((cw 1 (by omega)).mpr z1) ?_
                rw [if_pos ⟨z1, z⟩] at hcl
                have hx2 : x = k := cx1 ⟨z1, z⟩
                have hsz2 : szL L k = (glL L k).length + 1 := rfl
                refine c_copyLine h10 (by omega) r4 (hTk M2 o12 f12) (by omega) q1 ?_ (fun M3 q4 q5 q6 => j276 M3 (f12.trans q5) (fun q hq x => (q6 q hq x).trans (o12 q hq x)) ?_)
                · rw [hx2]
                  simp only [List.length_append, List.length_singleton]
                  omega
                · rw [hcs, ep ⟨z1, z⟩]
                  rw [hx2, List.append_assoc] at q4
                  exact q4
              · refine itn (fun q => z1 ((cw 1 (by omega)).mp q)) (j276 M2 f12 o12 ?_)
                rw [hcs, ep1 (fun q => z1 q.1)]; exact q1
            · refine itn (fun q => z (eik.mp q)) (j276 M2 f12 o12 ?_)
              rw [hcs, ep1 (fun q => z q.2)]; exact q1
          have j245 : ¬ (w = 0 ∧ k = i) → ¬ ((w = 2 ∨ w = 3) ∧ k = i) → ¬ (w = 2 ∧ k = j) → w_Works_change_j245 0 Q (w_Works_change_L182 0 Q n) (Int32.ofNat w) c d (Int32.ofNat L.length) r (Int32.ofNat k) M1 := fun c0 c1 c2 => by
            unfold w_Works_change_j245
            exact j247 k (by omega) c0 (fun _ => by rw [if_neg c1, if_neg c2]) (fun _ => rfl)
          have j224 : (w = 2 ∨ w = 3) → k = i → w_Works_change_j224 0 Q (w_Works_change_L182 0 Q n) (Int32.ofNat w) c d (Int32.ofNat L.length) r (Int32.ofNat k) M1 := fun c1 c2 => by
            unfold w_Works_change_j224
            obtain ⟨e1, e2⟩ := hj (by omega)
            rw [e1]
            exact e1 ▸ j247 j (by omega) (by omega) (fun _ => by rw [if_pos ⟨c1, c2⟩]) (fun z => by omega)
          have j229 : ¬ (w = 0 ∧ k = i) → ¬ ((w = 2 ∨ w = 3) ∧ k = i) → w_Works_change_j229 0 Q (w_Works_change_L182 0 Q n) (Int32.ofNat w) c d (Int32.ofNat L.length) r (Int32.ofNat k) M1 := fun c0 c1 => by
            unfold w_Works_change_j229
            by_cases c2 : w = 2
            · refine itp ((cw 2 (by omega)).mpr c2) ?_
              obtain ⟨e1, e2⟩ := hj (by omega)
              by_cases c3 : k = j
              · refine itp (by rw [e1, c3]) ?_
                have := j247 i (by omega) c0 (fun _ => by rw [if_neg c1, if_pos ⟨c2, c3⟩]) (fun z => by omega)
                rw [← ec] at this
                exact this
              · exact itn (fun z => by rw [e1] at z; exact c3 ((eqN (by omega) (by omega)).mp z)) (j245 c0 c1 (fun z => c3 z.2))
            · exact itn (fun z => c2 ((cw 2 (by omega)).mp z)) (j245 c0 c1 (fun z => c2 z.1))
          have j213 : ¬ (w = 0 ∧ k = i) → ¬ (w = 2 ∧ k = i) → w_Works_change_j213 0 Q (w_Works_change_L182 0 Q n) (Int32.ofNat w) c d (Int32.ofNat L.length) r (Int32.ofNat k) M1 := fun c0 c1 => by
            unfold w_Works_change_j213
            by_cases c2 : w = 3
            · refine itp ((cw 3 (by omega)).mpr c2) ?_
              by_cases c3 : k = i
              · exact itp (eik.mpr c3) (j224 (Or.inr c2) c3)
              · exact itn (fun z => c3 (eik.mp z)) (j229 c0 (fun z => c3 z.2))
            · refine itn (fun z => c2 ((cw 3 (by omega)).mp z)) (j229 c0 (fun z => ?_))
              rcases z.1 with q | q
              · exact c1 ⟨q, z.2⟩
              · exact c2 q
          have j202 : ¬ (w = 0 ∧ k = i) → w_Works_change_j202 0 Q (w_Works_change_L182 0 Q n) (Int32.ofNat w) c d (Int32.ofNat L.length) r (Int32.ofNat k) M1 := fun c0 => by
            unfold w_Works_change_j202
            by_cases c2 : w = 2
            · refine itp ((cw 2 (by omega)).mpr c2) ?_
              by_cases c3 : k = i
              · exact itp (eik.mpr c3) (j224 (Or.inl c2) c3)
              · exact itn (fun z => c3 (eik.mp z)) (j213 c0 (fun z => c3 z.2))
            · exact itn (fun z => c2 ((cw 2 (by omega)).mp z)) (j213 c0 (fun z => c2 z.1))
          by_cases c3 : k = i
          · refine itp (eik.mpr c3) ?_
            by_cases c4 : w = 0
            · refine itp ((cw 0 (by omega)).mpr c4) (j276 M1 p1 p2 ?_)
              rw [hcs]
              unfold chP
              rw [if_pos ⟨c4, c3⟩]
              show dfW (_ ++ []) M1
              rw [List.append_nil]; exact p3
            · exact itn (fun z => c4 ((cw 0 (by omega)).mp z)) (j202 (fun z => c4 z.1))
          · exact itn (fun z => c3 (eik.mp z)) (j202 (fun z => c3 z.2))
      refine loop (L.length + 1) 0 _ (by omega) (Nat.zero_le _) (Fr.wI rfl (Fr.rf _ _)) (fun q hq x => by rw [mI_sI, if_neg (fun z => absurd z.1 (by decide))]) ⟨hd, by rw [mI_sI, if_pos ⟨rfl, rfl, rfl⟩]; rfl, fun k hk => absurd hk (by show ¬ k < 0; omega)⟩
    by_cases c1 : Int32.ofNat w = 1
    · refine itp c1 ?_
      by_cases c6 : L.length = 60
      · rw [if_pos (Or.inr (Or.inr ⟨c1, c6⟩))] at hq
        exact itp (by rw [c6]; rfl) (hq M h)
      · exact itn (fun z => c6 ((oN_inj (by omega) (by omega)).mp (z.trans (lit32 60)))) (j174 (fun z => c6 z.2))
    · exact itn c1 (j174 (fun z => c1 z.1))
  have j70 : ∀ i j, c = Int32.ofNat i → i + 1 < L.length → (2 ≤ w → d = Int32.ofNat j ∧ j + 1 < L.length) → d.toNatClampNeg = j → (∀ M', WkT BB A B F (if T.length = 40 ∨ 1200 < (txt (chL w i j L)).length ∨ (Int32.ofNat w = 1 ∧ L.length = 60) then ((-3 : Int32), T) else (Int32.ofNat T.length, T ++ [chL w i j L])).2 M' → Q (if T.length = 40 ∨ 1200 < (txt (chL w i j L)).length ∨ (Int32.ofNat w = 1 ∧ L.length = 60) then ((-3 : Int32), T) else (Int32.ofNat T.length, T ++ [chL w i j L])).1 M') → w_Works_change_j70 0 Q (Int32.ofNat t) (Int32.ofNat w) c d (Int32.ofNat L.length) M := by
    intro i j ec hi hj edj hq
    have szb : ∀ x, x < L.length → szL L x ≤ (txt L).length := fun x hx => by
      have a := len_ln hx
      have b := txt_take_le (L := L) (k := x + 1)
      show (glL L x).length + 1 ≤ _
      omega
    unfold w_Works_change_j70
    refine ⟨by rw [l701]; exact (vp_oN (by omega)).mpr (by omega), r, by rw [oN_tnc (k := t) (by omega)]; exact r1, ?_⟩
    by_cases c0 : w = 0
    · refine itp ((cw 0 (by omega)).mpr c0) ?_
      have e := chL_0 (L := L) (i := i) (j := j) (by omega)
      rw [ec]
      refine c_lengthOf h10 (by omega) hT (by omega) ?_
      rw [← ec]
      refine j133 i j _ ec hi hj edj ?_ (by rw [c0]; omega) hq
      rw [c0]
      exact add_neg32 e.symm
    refine itn (fun z => c0 ((cw 0 (by omega)).mp z)) ?_
    by_cases c1 : w = 1
    · refine itp ((cw 1 (by omega)).mpr c1) ?_
      have e := chL_1 (L := L) (i := i) (j := j) (by omega)
      have b1 := szb i (by omega)
      rw [ec]
      refine c_lengthOf h10 (by omega) hT (by omega) ?_
      rw [← ec]
      refine j133 i j _ ec hi hj edj ?_ (by rw [c1]; omega) hq
      rw [c1, oN_add]
      exact congrArg Int32.ofNat e.symm
    refine itn (fun z => c1 ((cw 1 (by omega)).mp z)) ?_
    obtain ⟨ed, hj2⟩ := hj (by omega)
    by_cases c3 : w = 3
    · refine itp ((cw 3 (by omega)).mpr c3) ?_
      have e := chL_3 (L := L) (i := i) (j := j) (by omega)
      have b1 := szb j (by omega)
      have step : w_Works_lengthOf 0 r (Int32.ofNat j) (fun r53 M52 => w_Works_lengthOf 0 r c (fun r55 M54 => w_Works_change_j133 0 Q (Int32.ofNat t) (Int32.ofNat w) c d (Int32.ofNat L.length) r (r53 - r55) M54) M52) M := by
        refine c_lengthOf h10 (by omega) hT (by omega) ?_
        have step2 : ∀ v, v = Int32.ofNat i → w_Works_lengthOf 0 r v (fun r55 M54 => w_Works_change_j133 0 Q (Int32.ofNat t) (Int32.ofNat w) c d (Int32.ofNat L.length) r (Int32.ofNat ((glL L j).length + 1) - r55) M54) M := fun v ev => by
          rw [ev]
          refine c_lengthOf h10 (by omega) hT (by omega) (j133 i j _ ec hi hj edj ?_ (by rw [c3]; omega) hq)
          rw [c3]
          exact add_sub32 e.symm
        exact step2 c ec
      rw [← ed] at step
      exact step
    · refine itn (fun z => c3 ((cw 3 (by omega)).mp z)) ?_
      have c2 : w = 2 := by omega
      have e := chL_2 (L := L) (i := i) (j := j) (by omega) (by omega)
      refine j133 i j _ ec hi hj edj ?_ (by rw [c2]; omega) hq
      rw [Int32.add_zero, c2, e]
  have j36 : ∀ s0, (s0 = 0 ↔ w ≤ 1) → w_Works_change_j36 0 Q (Int32.ofNat t) (Int32.ofNat w) c d (Int32.ofNat L.length) s0 M := fun s0 hs => by
    unfold w_Works_change_j36
    refine c_isInG (fun z => itp rfl (by rw [if_pos z] at hQ; exact hQ M h)) (fun z => itn (by decide) ?_)
    rw [if_neg z] at hQ
    obtain ⟨i, ec, ec2, hi⟩ := in_n2 hn1 h60 z
    rw [ec2] at hQ
    by_cases c1 : w ≤ 1
    · rw [if_neg (fun z => absurd z.1 (nlt_oN (a := 1) (by omega) (by omega)))] at hQ
      exact itp (hs.mpr c1) (j70 i _ ec hi (fun z => by omega) rfl hQ)
    · refine itn (fun z => c1 (hs.mp z)) (c_isInG (fun z => itp rfl (by rw [if_pos ⟨lt_oN (a := 1) (by omega) (by omega), z⟩] at hQ; exact hQ M h)) (fun z => itn (by decide) ?_))
      rw [if_neg (fun q => z q.2)] at hQ
      obtain ⟨j, ed, ed2, hj⟩ := in_n2 hn1 h60 z
      exact j70 i _ ec hi (fun _ => by rw [ed2]; exact ⟨ed, hj⟩) rfl hQ
  by_cases c1 : w ≤ 1
  · exact itp (le_oN (b := 1) c1 (by omega)) (j36 0 ⟨fun _ => c1, fun _ => rfl⟩)
  · exact itn (nle_oN (b := 1) (by omega) (by omega)) (j36 1 ⟨fun z => absurd z (by decide), fun z => absurd z c1⟩)
end
