/-! THE MACHINE IN THE WORKS: rows of faults grow (printed by gen/ln.py) -/
theorem mL_mk' {M : Mem} {f i n f' i' : Nat} : mL (mk M f i n) f' i' = if f' = f ∧ i' = i then n else mL M f' i' := rfl
theorem frsh : ∀ N : List (Nat × Nat), ∃ y, 24 ≤ y ∧ ∀ q ∈ N, q.2 < y
  | [] => ⟨24, Nat.le_refl _, fun q hq => absurd hq List.not_mem_nil⟩
  | p :: N => by
    obtain ⟨y, h1, h2⟩ := frsh N
    refine ⟨y + p.2 + 1, by omega, fun q hq => ?_⟩
    rcases List.mem_cons.mp hq with z | z
    · rw [z]; omega
    · have := h2 q z; omega
/-- what is not rows of faults is as it was -/
def AgF (M M' : Mem) : Prop := Fr (575449231970881930917589356272118658131203347797955875359101413747645201441820208368448660834045913403161495215881748136285113293086041670334403695970463515519368975278905556125951356197864500926722471141600081108790524114321613138680782439898235705133993081718468554288530989356460713178788846949860650839168939504044625623102378462400709011191134600936743786428021631489604290342914891266683797817951816349156074302686692140353985379732741034755182363325993010322723971593699345376769019003100611842042287496785312975511945950570319023970353025060714793496790188025886010852193258174798625614341846364570958908191383289805818212107562735970794136931554177890685088857665394640583435815057543536436098388664420617032887411385755313262684270550919233577928161679818207271262868100568842531386734355129516196511817231127313467017984482536252065316778385169906408948265417080978594249794739106422991427796465173155641608969811339162434867764294647902287886455549286293444949943007270324280518692979579939702811905761485554060120489495242908276688300639650193678697549137372446536478680505603768566333423189702076810837373109139395290480571825173576031994552789670560833253961517718520120711854717856193264807483066050840412386153751615460170725358757669138517558245853278414211633108512891801344720307389217785874383976565495486515377132289859196928927125005312974770588816828737323540015130954103974795766254680109785915025867772327922146431487386564221999271503000668525318101403856418037029650348081124874301334615488615089766188348500972662155515580703738780849846430663661672349821433915899904) M M' ∧ (∀ i k, i < 24 → mI M' 301 i k = mI M 301 i k) ∧ ∀ i, i < 24 → mL M' 301 i = mL M 301 i
section
variable {w B F : Nat} {s : Ms} {M : Mem} {Q : Mem → Prop}
theorem AgF.rf : AgF M M := ⟨Fr.rf _ _, fun _ _ _ => rfl, fun _ _ => rfl⟩
theorem AgF.trans {M1 M2 : Mem} (h : AgF M M1) (h1 : AgF M1 M2) : AgF M M2 := ⟨h.1.trans h1.1, fun i k hi => (h1.2.1 i k hi).trans (h.2.1 i k hi), fun i hi => (h1.2.2 i hi).trans (h.2.2 i hi)⟩
theorem AgF.wv {M1 : Mem} {i k : Nat} {v : Int32} (h : AgF M M1) (hi : 24 ≤ i) : AgF M (sI M1 301 i k v) := ⟨Fr.wIa rfl rfl h.1, fun j k' hj => by rw [mI_sI, if_neg (fun z => by omega)]; exact h.2.1 j k' hj, h.2.2⟩
theorem AgF.w21 {M1 : Mem} {v : Int32} (h : AgF M M1) : AgF M (sI M1 6 w 21 v) := ⟨Fr.wI rfl h.1, fun j k' hj => by rw [mI_sI, if_neg (fun z => absurd z.1 (by decide))]; exact h.2.1 j k' hj, h.2.2⟩
set_option maxRecDepth 4000 in
theorem c_lengthen {n : Nat} {x : Nat → Nat} (e21 : mI M 6 w 21 = Int32.ofNat n) (hl : (zF s).length = n) (h64 : 64 ≤ n) (hF : n ≤ F) (hFb : F < 1000000) (hm : mS M ≤ B + 8 * n) (hc : ∀ k, k < 4 → mR M 6 w (22 + k) = some (301, x k) ∧ mL M 301 (x k) = n ∧ 24 ≤ x k ∧ (301, x k) ∈ mN M) (hd : ∀ k l, k < 4 → l < 4 → x k = x l → k = l)
    (hv : ∀ i, i < n → mI M 301 (x 0) i = Int32.ofNat (gFt s i).1 ∧ mI M 301 (x 1) i = (gFt s i).2.1 ∧ mI M 301 (x 2) i = (gFt s i).2.2.1 ∧ mI M 301 (x 3) i = (gFt s i).2.2.2)
    (hQ : ∀ M' (x' : Nat → Nat), AgF M M' → mI M' 6 w 21 = Int32.ofNat n → (∀ k, k < 4 → mR M' 6 w (22 + k) = some (301, x' k) ∧ mL M' 301 (x' k) = 2 * n ∧ 24 ≤ x' k ∧ (301, x' k) ∈ mN M') → (∀ k l, k < 4 → l < 4 → x' k = x' l → k = l) → (∀ i, i < n → mI M' 301 (x' 0) i = Int32.ofNat (gFt s i).1 ∧ mI M' 301 (x' 1) i = (gFt s i).2.1 ∧ mI M' 301 (x' 2) i = (gFt s i).2.2.1 ∧ mI M' 301 (x' 3) i = (gFt s i).2.2.2) → mS M' ≤ B + 8 * (2 * n) → Q M') : w_Machine_lengthen w Q M := by
  obtain ⟨y0, y24, yN⟩ := frsh (mN M)
  obtain ⟨y1, hy1⟩ : ∃ y1, y1 = y0 + 1 := ⟨_, rfl⟩
  obtain ⟨y2, hy2⟩ : ∃ y2, y2 = y0 + 2 := ⟨_, rfl⟩
  obtain ⟨y3, hy3⟩ : ∃ y3, y3 = y0 + 3 := ⟨_, rfl⟩
  have hx : ∀ k, k < 4 → x k < y0 := fun k hk => yN _ (hc k hk).2.2.2
  have hx0 := hx 0 (by omega)
  have hx1 := hx 1 (by omega)
  have hx2 := hx 2 (by omega)
  have hx3 := hx 3 (by omega)
  have fr : ∀ y, y0 ≤ y → (301, y) ∉ mN M := fun y hy z => by have := yN _ z; have h : y < y0 := this; omega
  have n0 : x 0 ≠ y0 := by omega
  have n1 : y0 ≠ x 0 := by omega
  have n2 : y0 ≠ y1 := by omega
  have n3 : x 0 ≠ y1 := by omega
  have n4 : y1 ≠ x 0 := by omega
  have n5 : x 0 ≠ x 1 := fun z => absurd (hd 0 1 (by omega) (by omega) z) (by omega)
  have n6 : y0 ≠ y2 := by omega
  have n7 : x 0 ≠ y2 := by omega
  have n8 : y2 ≠ x 0 := by omega
  have n9 : x 0 ≠ x 2 := fun z => absurd (hd 0 2 (by omega) (by omega) z) (by omega)
  have n10 : y0 ≠ y3 := by omega
  have n11 : x 0 ≠ y3 := by omega
  have n12 : y3 ≠ x 0 := by omega
  have n13 : x 0 ≠ x 3 := fun z => absurd (hd 0 3 (by omega) (by omega) z) (by omega)
  have n14 : y1 ≠ y0 := by omega
  have n15 : x 1 ≠ y0 := by omega
  have n16 : y0 ≠ x 1 := by omega
  have n17 : x 1 ≠ x 0 := fun z => absurd (hd 1 0 (by omega) (by omega) z) (by omega)
  have n18 : x 1 ≠ y1 := by omega
  have n19 : y1 ≠ x 1 := by omega
  have n20 : y1 ≠ y2 := by omega
  have n21 : x 1 ≠ y2 := by omega
  have n22 : y2 ≠ x 1 := by omega
  have n23 : x 1 ≠ x 2 := fun z => absurd (hd 1 2 (by omega) (by omega) z) (by omega)
  have n24 : y1 ≠ y3 := by omega
  have n25 : x 1 ≠ y3 := by omega
  have n26 : y3 ≠ x 1 := by omega
  have n27 : x 1 ≠ x 3 := fun z => absurd (hd 1 3 (by omega) (by omega) z) (by omega)
  have n28 : y2 ≠ y0 := by omega
  have n29 : x 2 ≠ y0 := by omega
  have n30 : y0 ≠ x 2 := by omega
  have n31 : x 2 ≠ x 0 := fun z => absurd (hd 2 0 (by omega) (by omega) z) (by omega)
  have n32 : y2 ≠ y1 := by omega
  have n33 : x 2 ≠ y1 := by omega
  have n34 : y1 ≠ x 2 := by omega
  have n35 : x 2 ≠ x 1 := fun z => absurd (hd 2 1 (by omega) (by omega) z) (by omega)
  have n36 : x 2 ≠ y2 := by omega
  have n37 : y2 ≠ x 2 := by omega
  have n38 : y2 ≠ y3 := by omega
  have n39 : x 2 ≠ y3 := by omega
  have n40 : y3 ≠ x 2 := by omega
  have n41 : x 2 ≠ x 3 := fun z => absurd (hd 2 3 (by omega) (by omega) z) (by omega)
  have n42 : y3 ≠ y0 := by omega
  have n43 : x 3 ≠ y0 := by omega
  have n44 : y0 ≠ x 3 := by omega
  have n45 : x 3 ≠ x 0 := fun z => absurd (hd 3 0 (by omega) (by omega) z) (by omega)
  have n46 : y3 ≠ y1 := by omega
  have n47 : x 3 ≠ y1 := by omega
  have n48 : y1 ≠ x 3 := by omega
  have n49 : x 3 ≠ x 1 := fun z => absurd (hd 3 1 (by omega) (by omega) z) (by omega)
  have n50 : y3 ≠ y2 := by omega
  have n51 : x 3 ≠ y2 := by omega
  have n52 : y2 ≠ x 3 := by omega
  have n53 : x 3 ≠ x 2 := fun z => absurd (hd 3 2 (by omega) (by omega) z) (by omega)
  have n54 : x 3 ≠ y3 := by omega
  have n55 : y3 ≠ x 3 := by omega
  have r0 := (hc 0 (by omega)).1
  have r1 := (hc 1 (by omega)).1
  have r2 := (hc 2 (by omega)).1
  have r3 := (hc 3 (by omega)).1
  have l0 := (hc 0 (by omega)).2.1
  have l1 := (hc 1 (by omega)).2.1
  have l2 := (hc 2 (by omega)).2.1
  have l3 := (hc 3 (by omega)).2.1
  have nn : ¬ Int32.ofNat (2 * n) < 0 := oN_nonneg (by omega)
  have nz : ¬ (0 : Int32) < 0 := by decide
  have n1 : ¬ Int32.ofNat n < 0 := oN_nonneg (by omega)
  have tn : (Int32.ofNat (2 * n)).toNatClampNeg = 2 * n := oN_tnc (by omega)
  have t1 : (Int32.ofNat n).toNatClampNeg = n := oN_tnc (by omega)
  have t0 : (0 : Int32).toNatClampNeg = 0 := rfl
  have e2n : (2 : Int32) * Int32.ofNat n = Int32.ofNat (2 * n) := oN_mul 2 n
  refine mf_w_Machine_lengthen (Q := fun M' => Fr F_Machine_lengthen M M' → Q M') (fun _ hf hp => hp hf) ?_
  unfold w_Machine_lengthen
  rw [e21, e2n, tn]
  refine ⟨nn, by omega, y0, fr y0 (by omega), _, rfl, nn, by omega, y1, ?_, _, rfl, nn, by omega, y2, ?_, _, rfl, nn, by omega, y3, ?_, _, rfl, x 0, r0, nz, nz, ?_⟩
  · rw [mN_mk]; intro z
    rcases List.mem_append.mp z with z | z
    · exact fr y1 (by omega) z
    · have := (Prod.ext_iff.mp (List.mem_singleton.mp z)).2; exact absurd this (by omega)
  · rw [mN_mk, mN_mk]; intro z
    rcases List.mem_append.mp z with z | z
    · rcases List.mem_append.mp z with z | z
      · exact fr y2 (by omega) z
      · have := (Prod.ext_iff.mp (List.mem_singleton.mp z)).2; exact absurd this (by omega)
    · have := (Prod.ext_iff.mp (List.mem_singleton.mp z)).2; exact absurd this (by omega)
  · rw [mN_mk, mN_mk, mN_mk]; intro z
    rcases List.mem_append.mp z with z | z
    · rcases List.mem_append.mp z with z | z
      · rcases List.mem_append.mp z with z | z
        · exact fr y3 (by omega) z
        · have := (Prod.ext_iff.mp (List.mem_singleton.mp z)).2; exact absurd this (by omega)
      · have := (Prod.ext_iff.mp (List.mem_singleton.mp z)).2; exact absurd this (by omega)
    · have := (Prod.ext_iff.mp (List.mem_singleton.mp z)).2; exact absurd this (by omega)
  have g21 : mI (mk (mk (mk (mk M 301 y0 (2 * n)) 301 y1 (2 * n)) 301 y2 (2 * n)) 301 y3 (2 * n)) 6 w 21 = Int32.ofNat n := e21
  rw [g21, t1, t0, Nat.zero_add]
  have nM : ¬ mI M 6 w 21 < 0 := by rw [e21]; exact n1
  have aM : ∀ q : Nat, n ≤ q → 0 + (mI M 6 w 21).toNatClampNeg ≤ q := fun q hq => by rw [e21, t1, Nat.zero_add]; exact hq
  refine ⟨n1, ?_, ?_, _, rfl, x 1, r1, nz, nz, nM, aM _ ?_, aM _ ?_, _, rfl, x 2, r2, nz, nz, nM, aM _ ?_, aM _ ?_, _, rfl, x 3, r3, nz, nz, nM, aM _ ?_, aM _ ?_, _, rfl, _, rfl, ?_⟩
  all_goals (try (simp only [mL_cpI, mL_mk', true_and, n0, n1, n2, n3, n4, n5, n6, n7, n8, n9, n10, n11, n12, n13, n14, n15, n16, n17, n18, n19, n20, n21, n22, n23, n24, n25, n26, n27, n28, n29, n30, n31, n32, n33, n34, n35, n36, n37, n38, n39, n40, n41, n42, n43, n44, n45, n46, n47, n48, n49, n50, n51, n52, n53, n54, n55, if_false, if_true, l0, l1, l2, l3]; omega))
  intro hf
  refine hQ _ (fun k => if k = 0 then y0 else if k = 1 then y1 else if k = 2 then y2 else y3) ⟨hf.sub rfl, fun i k hi => ?_, fun i hi => ?_⟩ e21 (fun k hk => ?_) (fun k l hk hl => ?_) (fun i hi => ?_) ?_
  · simp only [mI_sR, mI_cpI, mI_mk, true_and]
    rw [if_neg (by omega), if_neg (by omega), if_neg (by omega), if_neg (by omega), if_neg (by omega), if_neg (by omega), if_neg (by omega), if_neg (by omega)]
  · show mL (mk (mk (mk (mk M 301 y0 (2 * n)) 301 y1 (2 * n)) 301 y2 (2 * n)) 301 y3 (2 * n)) 301 i = _
    simp only [mL_mk', true_and]
    rw [if_neg (by omega), if_neg (by omega), if_neg (by omega), if_neg (by omega)]
  · have hk' : k = 0 ∨ k = 1 ∨ k = 2 ∨ k = 3 := by omega
    rcases hk' with z | z | z | z <;> subst z
    · refine ⟨by simp [mR_sR], ?_, by show 24 ≤ y0; omega, ?_⟩
      · show mL (mk (mk (mk (mk M 301 y0 (2 * n)) 301 y1 (2 * n)) 301 y2 (2 * n)) 301 y3 (2 * n)) 301 y0 = _
        simp only [mL_mk', true_and, n0, n1, n2, n3, n4, n5, n6, n7, n8, n9, n10, n11, n12, n13, n14, n15, n16, n17, n18, n19, n20, n21, n22, n23, n24, n25, n26, n27, n28, n29, n30, n31, n32, n33, n34, n35, n36, n37, n38, n39, n40, n41, n42, n43, n44, n45, n46, n47, n48, n49, n50, n51, n52, n53, n54, n55, if_false, if_true]
      · show (301, y0) ∈ (((mN M ++ [(301, y0)]) ++ [(301, y1)]) ++ [(301, y2)]) ++ [(301, y3)]
        simp
    · refine ⟨by simp [mR_sR], ?_, by show 24 ≤ y1; omega, ?_⟩
      · show mL (mk (mk (mk (mk M 301 y0 (2 * n)) 301 y1 (2 * n)) 301 y2 (2 * n)) 301 y3 (2 * n)) 301 y1 = _
        simp only [mL_mk', true_and, n0, n1, n2, n3, n4, n5, n6, n7, n8, n9, n10, n11, n12, n13, n14, n15, n16, n17, n18, n19, n20, n21, n22, n23, n24, n25, n26, n27, n28, n29, n30, n31, n32, n33, n34, n35, n36, n37, n38, n39, n40, n41, n42, n43, n44, n45, n46, n47, n48, n49, n50, n51, n52, n53, n54, n55, if_false, if_true]
      · show (301, y1) ∈ (((mN M ++ [(301, y0)]) ++ [(301, y1)]) ++ [(301, y2)]) ++ [(301, y3)]
        simp
    · refine ⟨by simp [mR_sR], ?_, by show 24 ≤ y2; omega, ?_⟩
      · show mL (mk (mk (mk (mk M 301 y0 (2 * n)) 301 y1 (2 * n)) 301 y2 (2 * n)) 301 y3 (2 * n)) 301 y2 = _
        simp only [mL_mk', true_and, n0, n1, n2, n3, n4, n5, n6, n7, n8, n9, n10, n11, n12, n13, n14, n15, n16, n17, n18, n19, n20, n21, n22, n23, n24, n25, n26, n27, n28, n29, n30, n31, n32, n33, n34, n35, n36, n37, n38, n39, n40, n41, n42, n43, n44, n45, n46, n47, n48, n49, n50, n51, n52, n53, n54, n55, if_false, if_true]
      · show (301, y2) ∈ (((mN M ++ [(301, y0)]) ++ [(301, y1)]) ++ [(301, y2)]) ++ [(301, y3)]
        simp
    · refine ⟨by simp [mR_sR], ?_, by show 24 ≤ y3; omega, ?_⟩
      · show mL (mk (mk (mk (mk M 301 y0 (2 * n)) 301 y1 (2 * n)) 301 y2 (2 * n)) 301 y3 (2 * n)) 301 y3 = _
        simp only [mL_mk', true_and, n0, n1, n2, n3, n4, n5, n6, n7, n8, n9, n10, n11, n12, n13, n14, n15, n16, n17, n18, n19, n20, n21, n22, n23, n24, n25, n26, n27, n28, n29, n30, n31, n32, n33, n34, n35, n36, n37, n38, n39, n40, n41, n42, n43, n44, n45, n46, n47, n48, n49, n50, n51, n52, n53, n54, n55, if_false, if_true]
      · show (301, y3) ∈ (((mN M ++ [(301, y0)]) ++ [(301, y1)]) ++ [(301, y2)]) ++ [(301, y3)]
        simp
  · have hk' : k = 0 ∨ k = 1 ∨ k = 2 ∨ k = 3 := by omega
    have hl' : l = 0 ∨ l = 1 ∨ l = 2 ∨ l = 3 := by omega
    intro e
    rcases hk' with z | z | z | z <;> rcases hl' with z' | z' | z' | z' <;> subst z <;> subst z' <;> first | rfl | (exfalso; simp at e; omega)
  · obtain ⟨v0, v1, v2, v3⟩ := hv i hi
    refine ⟨?_, ?_, ?_, ?_⟩
    · show mI _ 301 y0 i = _
      simp only [mI_sR, mI_cpI, mI_mk, true_and, n0, n1, n2, n3, n4, n5, n6, n7, n8, n9, n10, n11, n12, n13, n14, n15, n16, n17, n18, n19, n20, n21, n22, n23, n24, n25, n26, n27, n28, n29, n30, n31, n32, n33, n34, n35, n36, n37, n38, n39, n40, n41, n42, n43, n44, n45, n46, n47, n48, n49, n50, n51, n52, n53, n54, n55, if_false, if_true, Nat.zero_le, Nat.zero_add, Nat.sub_zero, hi, e21, t1, Nat.reduceEqDiff, false_and]
      exact v0
    · show mI _ 301 y1 i = _
      simp only [mI_sR, mI_cpI, mI_mk, true_and, n0, n1, n2, n3, n4, n5, n6, n7, n8, n9, n10, n11, n12, n13, n14, n15, n16, n17, n18, n19, n20, n21, n22, n23, n24, n25, n26, n27, n28, n29, n30, n31, n32, n33, n34, n35, n36, n37, n38, n39, n40, n41, n42, n43, n44, n45, n46, n47, n48, n49, n50, n51, n52, n53, n54, n55, if_false, if_true, Nat.zero_le, Nat.zero_add, Nat.sub_zero, hi, e21, t1, Nat.reduceEqDiff, false_and]
      exact v1
    · show mI _ 301 y2 i = _
      simp only [mI_sR, mI_cpI, mI_mk, true_and, n0, n1, n2, n3, n4, n5, n6, n7, n8, n9, n10, n11, n12, n13, n14, n15, n16, n17, n18, n19, n20, n21, n22, n23, n24, n25, n26, n27, n28, n29, n30, n31, n32, n33, n34, n35, n36, n37, n38, n39, n40, n41, n42, n43, n44, n45, n46, n47, n48, n49, n50, n51, n52, n53, n54, n55, if_false, if_true, Nat.zero_le, Nat.zero_add, Nat.sub_zero, hi, e21, t1, Nat.reduceEqDiff, false_and]
      exact v2
    · show mI _ 301 y3 i = _
      simp only [mI_sR, mI_cpI, mI_mk, true_and, n0, n1, n2, n3, n4, n5, n6, n7, n8, n9, n10, n11, n12, n13, n14, n15, n16, n17, n18, n19, n20, n21, n22, n23, n24, n25, n26, n27, n28, n29, n30, n31, n32, n33, n34, n35, n36, n37, n38, n39, n40, n41, n42, n43, n44, n45, n46, n47, n48, n49, n50, n51, n52, n53, n54, n55, if_false, if_true, Nat.zero_le, Nat.zero_add, Nat.sub_zero, hi, e21, t1, Nat.reduceEqDiff, false_and]
      exact v3
  · show mS M + 2 * n + 2 * n + 2 * n + 2 * n ≤ _
    omega
end
