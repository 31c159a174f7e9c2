/-! change: SPEC, and lines of a text in the works -/
abbrev glL (L : Trl) (k : Nat) : List Int32 := L.getD k []
/-- what comes of a line -/
def chP (w i j k : Nat) (L : Trl) : Trl := if w = 0 ∧ k = i then [] else if w = 1 ∧ k = i then [glL L k, glL L k] else [glL L (if (w = 2 ∨ w = 3) ∧ k = i then j else if w = 2 ∧ k = j then i else k)]
def chF (w i j : Nat) (L : Trl) : Nat → Trl
  | 0 => []
  | k + 1 => chF w i j L k ++ chP w i j k L
def chL (w i j : Nat) (L : Trl) : Trl := chF w i j L L.length
def chgO (T : List Trl) (a w i j : Int32) : Int32 × List Trl := if a < 0 ∨ Int32.ofNat T.length ≤ a then (-1, T) else if w < 0 ∨ 3 < w then (-1, T) else if i < 0 ∨ Int32.ofNat (gTr T a.toNatClampNeg).length - 2 < i then (-1, T) else if 1 < w ∧ (j < 0 ∨ Int32.ofNat (gTr T a.toNatClampNeg).length - 2 < j) then (-1, T) else if T.length = 40 ∨ 1200 < (txt (chL w.toNatClampNeg i.toNatClampNeg j.toNatClampNeg (gTr T a.toNatClampNeg))).length ∨ (w = 1 ∧ (gTr T a.toNatClampNeg).length = 60) then (-3, T) else (Int32.ofNat T.length, T ++ [chL w.toNatClampNeg i.toNatClampNeg j.toNatClampNeg (gTr T a.toNatClampNeg)])
section
variable {L L' : Trl} {w i j k n r : Nat} {M M' : Mem} {Q : Int32 → Mem → Prop} {Q' X : Mem → Prop} {BB A : List Nm} {B F t : Nat} {T : List Trl}
/-- bytes that end lines -/
def n10 (X : List Int32) : Nat → Nat
  | 0 => 0
  | k + 1 => n10 X k + (if gi X k = 10 then 1 else 0)
theorem n10_app {X Y : List Int32} : ∀ k, n10 (X ++ Y) (X.length + k) = n10 (X ++ Y) X.length + n10 Y k
  | 0 => rfl
  | k + 1 => by
    show n10 (X ++ Y) (X.length + k) + (if gi (X ++ Y) (X.length + k) = 10 then 1 else 0) = _
    rw [n10_app k, gi_r]
    show _ = n10 (X ++ Y) X.length + (n10 Y k + _)
    omega
theorem n10_l {X Y : List Int32} : ∀ k, k ≤ X.length → n10 (X ++ Y) k = n10 X k
  | 0, _ => rfl
  | k + 1, h => by
    show n10 (X ++ Y) k + (if gi (X ++ Y) k = 10 then 1 else 0) = n10 X k + _
    rw [n10_l k (by omega), gi_l (by omega)]
theorem n10_no {X : List Int32} (h : (10 : Int32) ∉ X) : ∀ k, k ≤ X.length → n10 X k = 0
  | 0, _ => rfl
  | k + 1, hk => by
    show n10 X k + (if gi X k = 10 then 1 else 0) = 0
    rw [n10_no h k (by omega), if_neg (fun z => h (by rw [← z]; exact getD_mem (by omega)))]
theorem n10_txt : ∀ L : Trl, (∀ l ∈ L, (10 : Int32) ∉ l) → n10 (txt L) (txt L).length = L.length
  | [], _ => rfl
  | l :: L, h => by
    have e : txt (l :: L) = (l ++ [10]) ++ txt L := rfl
    have ih := n10_txt L (fun x hx => h x (List.mem_cons_of_mem _ hx))
    have h1 : n10 (l ++ [10]) (l ++ [10]).length = 1 := by
      rw [List.length_append, List.length_singleton]
      show n10 (l ++ [10]) l.length + (if gi (l ++ [10]) l.length = 10 then 1 else 0) = 1
      have := gi_r l [10] 0
      rw [Nat.add_zero] at this
      rw [n10_l _ (Nat.le_refl _), n10_no (h l (List.mem_cons_self ..)) _ (Nat.le_refl _), this]; rfl
    rw [e, List.length_append, n10_app, n10_l _ (Nat.le_refl _), h1, ih, List.length_cons]; omega
theorem takeL_s {k : Nat} (h : k < L.length) : L.take (k + 1) = L.take k ++ [glL L k] := by
  rw [List.take_succ, List.getElem?_eq_getElem h]
  show _ ++ [L[k]] = _ ++ [L.getD k []]
  rw [List.getD_eq_getElem?_getD, List.getElem?_eq_getElem h]; rfl
theorem txt_s {k : Nat} (h : k < L.length) : txt (L.take (k + 1)) = txt (L.take k) ++ (glL L k ++ [10]) := by
  rw [takeL_s h, txt_app]
  show _ ++ ((glL L k ++ [10]) ++ []) = _
  rw [List.append_nil]
theorem txt_tl {k : Nat} (h : k < L.length) : txt L = txt (L.take k) ++ (glL L k ++ [10] ++ txt (L.drop (k + 1))) := by
  have : L = L.take k ++ glL L k :: L.drop (k + 1) := by
    have e : L.drop k = glL L k :: L.drop (k + 1) := by
      rw [List.drop_eq_getElem_cons h]
      show L[k] :: _ = L.getD k [] :: _
      rw [List.getD_eq_getElem?_getD, List.getElem?_eq_getElem h]; rfl
    rw [← e, List.take_append_drop]
  conv => lhs; rw [this]
  exact txt_at
theorem txt_take_le {k : Nat} : (txt (L.take k)).length ≤ (txt L).length := by
  have : txt L = txt (L.take k) ++ txt (L.drop k) := by rw [← txt_app, List.take_append_drop]
  rw [this, List.length_append]; omega
/-- the bytes of a line -/
theorem gi_ln {k x : Nat} (h : k < L.length) (hx : x ≤ (glL L k).length) : gi (txt L) ((txt (L.take k)).length + x) = gi (glL L k ++ [10]) x := by
  rw [txt_tl h, gi_r, gi_l (by simp only [List.length_append, List.length_singleton]; omega)]
theorem gi_e {l : List Int32} : gi (l ++ [10]) l.length = 10 := by
  have := gi_r l [10] 0
  rw [Nat.add_zero] at this
  rw [this]; rfl
theorem len_ln {k : Nat} (h : k < L.length) : (txt (L.take (k + 1))).length = (txt (L.take k)).length + ((glL L k).length + 1) := by
  rw [txt_s h, List.length_append, List.length_append, List.length_singleton]
/-- where a line begins, in the works -/
theorem c_lineFrom (h10 : ∀ l ∈ L, (10 : Int32) ∉ l) (hlen : (txt L).length ≤ 1260) (hT : (txt L).length ≤ mL M 400 r ∧ ∀ k, k < (txt L).length → mI M 400 r k = gi (txt L) k) (hi : i ≤ L.length) (hQ : Q (Int32.ofNat (txt (L.take i)).length) M) : w_Works_lineFrom 0 r (Int32.ofNat i) Q M := by
  have hLl : L.length ≤ 1260 := by
    have : ∀ L : Trl, L.length ≤ (txt L).length := fun L => by
      induction L with
      | nil => exact Nat.le_refl _
      | cons l L ih => rw [txt_cons, List.length_cons, List.length_append, List.length_append, List.length_singleton]; omega
    exact Nat.le_trans (this L) hlen
  have loop : ∀ n k, i - k < n → k ≤ i → w_Works_lineFrom_L5 0 Q n r (Int32.ofNat i) (Int32.ofNat (txt (L.take k)).length) (Int32.ofNat k) M := by
    intro n
    induction n with
    | zero => intro k z; exact absurd z (by omega)
    | succ n ih =>
      intro k hn hk
      unfold w_Works_lineFrom_L5
      by_cases e : k = i
      · subst e
        exact itp (le_oN (Nat.le_refl _) (by omega)) hQ
      refine itn (nle_oN (by omega) (by omega)) ⟨(glL L k).length + 1, ?_⟩
      have hkL : k < L.length := by omega
      have hle := len_ln hkL
      have htl := txt_take_le (L := L) (k := k + 1)
      have inn : ∀ m x, (glL L k).length - x < m → x ≤ (glL L k).length → w_Works_lineFrom_L11 0 Q (w_Works_lineFrom_L5 0 Q n) m r (Int32.ofNat i) (Int32.ofNat ((txt (L.take k)).length + x)) (Int32.ofNat k) M := by
        intro m
        induction m with
        | zero => intro x z; exact absurd z (by omega)
        | succ m im =>
          intro x hm hx
          unfold w_Works_lineFrom_L11
          rw [oN_tnc (k := (txt (L.take k)).length + x) (by omega), hT.2 _ (by omega), gi_ln hkL hx, lit32 1, oN_add, oN_add]
          refine ⟨(vp_oN (by omega)).mpr (by omega), ?_⟩
          by_cases ex : x = (glL L k).length
          · subst ex
            refine itp gi_e ?_
            have := ih (k + 1) (by omega) (by omega)
            rw [hle] at this
            rw [Nat.add_assoc]
            exact this
          · rw [gi_l (by omega)]
            refine itn (fun z => h10 _ (getD_mem hkL) (by rw [← z]; exact getD_mem (show x < (glL L k).length by omega))) ?_
            rw [Nat.add_assoc]
            exact im (x + 1) (by omega) (by omega)
      have := inn ((glL L k).length + 1) 0 (by omega) (Nat.zero_le _)
      rw [Nat.add_zero] at this
      exact this
  unfold w_Works_lineFrom
  exact ⟨i + 1, loop (i + 1) 0 (by omega) (Nat.zero_le _)⟩
theorem c_lengthOf (h10 : ∀ l ∈ L, (10 : Int32) ∉ l) (hlen : (txt L).length ≤ 1260) (hT : (txt L).length ≤ mL M 400 r ∧ ∀ k, k < (txt L).length → mI M 400 r k = gi (txt L) k) (hi : i < L.length) (hQ : Q (Int32.ofNat ((glL L i).length + 1)) M) : w_Works_lengthOf 0 r (Int32.ofNat i) Q M := by
  unfold w_Works_lengthOf
  rw [lit32 1, oN_add]
  refine c_lineFrom h10 hlen hT (by omega) (c_lineFrom h10 hlen hT (by omega) ?_)
  have := len_ln hi
  rw [oN_sub (by omega), show (txt (L.take (i + 1))).length - (txt (L.take i)).length = (glL L i).length + 1 by omega]
  exact hQ
/-- what is drafted in the works -/
def dfW (D : List Int32) (M : Mem) : Prop := mL M 400 41 = 1260 ∧ mI M 10 0 30 = Int32.ofNat D.length ∧ ∀ k, k < D.length → mI M 400 41 k = gi D k
theorem gi_apL {X Y : List Int32} {k : Nat} : gi (X ++ Y) k = if k < X.length then gi X k else gi Y (k - X.length) := by
  by_cases c : k < X.length
  · rw [if_pos c, gi_l c]
  · rw [if_neg c]
    have := gi_r X Y (k - X.length)
    rw [show X.length + (k - X.length) = k by omega] at this
    exact this
theorem c_copyLine {D : List Int32} (h10 : ∀ l ∈ L, (10 : Int32) ∉ l) (hlen : (txt L).length ≤ 1260) (hr : r ≠ 41) (hT : (txt L).length ≤ mL M 400 r ∧ ∀ k, k < (txt L).length → mI M 400 r k = gi (txt L) k) (hi : i < L.length) (hD : dfW D M) (hDl : D.length + ((glL L i).length + 1) ≤ 1260) (hQ : ∀ M', dfW (D ++ (glL L i ++ [10])) M' → Fr (1320951468044303979436222683331055661866906843070613657951409130029606724519251253181513685497775078886508289941725824392958777387898418765340212683483294404375581425416940078058371421090908285623355542567660862094892236323181374434165396535122800353829281625404466897803837526166279753753954380403939810851873799838257078776293015284900743654417850068159202747327823192239790751986317613632534215082972408287390824254181533206262803044422348322503363599732416269678568400786295207283348181528069164225839708889228020373056781807178767852996170571312847131916049191853747585950477180167196065130387792486110021933441495517376613807631950949950496324062058105356856306161547395809069778819569080764161728475737388020113833485242753634399306398681218960471329218045101420161723329264994503181716572442963441214667866573103587858373957569023534566897028596240251483804009921066536365205094838337300156130016834355200) M M' → (∀ q, q ≠ 41 → ∀ k, mI M' 400 q k = mI M 400 q k) → Q' M') : w_Works_copyLine 0 r (Int32.ofNat i) Q' M := by
  unfold w_Works_copyLine
  rw [lit32 1, oN_add]
  refine c_lineFrom h10 hlen hT (by omega) (c_lineFrom h10 hlen hT (by omega) ?_)
  have hle := len_ln hi
  have htl := txt_take_le (L := L) (k := i + 1)
  obtain ⟨d1, d2, d3⟩ := hD
  rw [oN_sub (by omega), show (txt (L.take (i + 1))).length - (txt (L.take i)).length = (glL L i).length + 1 by omega, d2, oN_tnc (k := (txt (L.take i)).length) (by omega), oN_tnc (k := D.length) (by omega), oN_tnc (k := (glL L i).length + 1) (by omega)]
  refine ⟨nlt_oN (b := 0) (by omega) (by omega), nlt_oN (b := 0) (by omega) (by omega), nlt_oN (b := 0) (by omega) (by omega), by omega, by rw [d1]; omega, _, rfl, ?_⟩
  have e30 : mI (cpI M 400 r (txt (L.take i)).length 400 41 D.length ((glL L i).length + 1)) 10 0 30 = Int32.ofNat D.length := by rw [mI_cpI, if_neg (fun z => absurd z.1 (by decide))]; exact d2
  rw [e30, oN_add]
  have hl2 : (D ++ (glL L i ++ [10])).length = D.length + ((glL L i).length + 1) := by rw [List.length_append, List.length_append, List.length_singleton]
  refine hQ _ ⟨d1, by rw [mI_sI, if_pos ⟨rfl, rfl, rfl⟩, hl2], fun k hk => ?_⟩ (Fr.wI rfl (Fr.wcp rfl rfl (Fr.rf _ _))) (fun q hq k => ?_)
  · rw [hl2] at hk
    rw [mI_sI, if_neg (fun z => absurd z.1 (by decide)), mI_cpI, if_pos ⟨rfl, rfl⟩, gi_apL]
    by_cases c : k < D.length
    · rw [if_neg (by omega), if_pos c]; exact d3 k c
    · rw [if_pos ⟨by omega, by omega⟩, if_neg c, hT.2 _ (by omega), gi_ln hi (by omega)]
  · rw [mI_sI, if_neg (fun z => absurd z.1 (by decide)), mI_cpI, if_neg (fun z => hq z.2)]
end
