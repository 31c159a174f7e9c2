/-! DIFFER, works: like methods, fields -/
abbrev lkM (x y : Mth) : Prop := x.1 = y.1 ∧ x.2.2.1 = y.2.2.1 ∧ x.2.1 = y.2.1
theorem b2_inj {a b : Bool} (h : b2 a = b2 b) : a = b := by
  cases a <;> cases b
  · rfl
  · exact absurd h (by decide)
  · exact absurd h (by decide)
  · rfl
theorem kdOk_Q {κ : Kd} (h : kdOk κ) : kQ κ := by
  rcases h with e | e | e | e
  · rw [e]; exact Or.inl (by simp [six])
  · rw [e]; exact Or.inl (by simp [six])
  · rw [e]; exact Or.inl (by simp [six])
  · exact Or.inr e
section
variable {A : List Nm} {W V : List Cls} {w w' c c' d m m' f : Nat} {br br' : Int32} {nq nk np nh nr nq' nk' np' nh' nr' : Nat} {x y : Mth} {M : Mem} {Q : Int32 → Mem → Prop}
theorem c_sA2 (hA : A.length ≤ 200000) (hx : cHd A w c m x M) (hy : cHd A w' c' m' y M) (hm : m < 381) (hm' : m' < 381) (h58 : mL M 58 w' = 381) (h211 : mL M 211 (2 * w + 1) = 2286) (h211' : mL M 211 (2 * w' + 1) = 2286) (hQ : Q (b2 (decide (x.2.1 = y.2.1))) M) : w_World_sameArguments w' (Int32.ofNat m') (2 * w + 1) (Int32.ofNat (6 * m)) (Int32.ofNat x.2.1.length) Q M := by
  obtain ⟨-, -, -, ⟨h4, h5, h6⟩, -⟩ := hx
  obtain ⟨-, -, -, ⟨h4', h5', h6'⟩, -⟩ := hy
  have b01 : ∀ t : Bool, b2 t = 0 ∨ b2 t = 1 := fun t => by cases t; exact Or.inl rfl; exact Or.inr rfl
  have loop : y.2.1.length = x.2.1.length → ∀ n k (b : Bool), k ≤ x.2.1.length → x.2.1.length - k < n → (b = true ↔ ∀ j, j < k → gk x.2.1 j = gk y.2.1 j) → w_World_sameArguments_L21 w' Q n (Int32.ofNat m') (2 * w + 1) (Int32.ofNat (6 * m)) (Int32.ofNat x.2.1.length) (b2 b) (Int32.ofNat k) M := by
    intro el n
    induction n with
    | zero => intro k b hk hn; omega
    | succ n ih =>
      intro k b hk hn hb
      have fls : b = false → x.2.1 ≠ y.2.1 := fun q z => by
        have : b = true := hb.2 (fun j _ => by rw [z])
        rw [q] at this; cases this
      unfold w_World_sameArguments_L21
      by_cases ek : k = x.2.1.length
      · refine itp (by rw [ek]; exact le_oN (Nat.le_refl _) (by omega)) ⟨b01 b, ?_⟩
        have : b = decide (x.2.1 = y.2.1) := by
          cases b with
          | false => exact (decide_eq_false (fls rfl)).symm
          | true => exact (decide_eq_true (gk_extQ el.symm (fun i hi => hb.1 rfl i (by omega)))).symm
        rw [this]; exact hQ
      refine itn (nle_oN (by omega) (by omega)) ?_
      cases b with
      | false =>
        refine itp rfl ⟨Or.inl rfl, ?_⟩
        rw [decide_eq_false (fls rfl)] at hQ; exact hQ
      | true =>
        obtain ⟨a1, a2, a3⟩ := h6 k (by omega)
        obtain ⟨a1', a2', a3'⟩ := h6' k (by omega)
        refine itn (by decide) ?_
        rw [lit32 6, oN_mul, oN_add, oN_add, oN_tnc (k := 6 * m' + k) (by omega), oN_tnc (k := 6 * m + k) (by omega), h211, h211', a1, a1']
        refine ⟨(vp_oN (by omega)).mpr (by omega), (vp_oN (by omega)).mpr (by omega), ?_⟩
        have key := kC_injQ hA (kdOk_Q a3') (kdOk_Q a3) a2' a2
        unfold w_World_sameArguments_j59
        rw [lit32 1, oN_add]
        by_cases cc : gk x.2.1 k = gk y.2.1 k
        · refine itp (key.2 cc.symm) (ih (k + 1) true (by omega) (by omega) ⟨fun _ j hj => ?_, fun _ => rfl⟩)
          by_cases ej : j = k
          · rw [ej]; exact cc
          · exact hb.1 rfl j (by omega)
        · exact itn (fun z => cc (key.1 z).symm) (ih (k + 1) false (by omega) (by omega) ⟨fun z => (by cases z), fun z => absurd (z k (by omega)) cc⟩)
  unfold w_World_sameArguments
  refine ⟨by rw [h58]; exact (vp_oN (by omega)).mpr hm', ?_⟩
  rw [oN_tnc (k := m') (by omega), h4']
  unfold w_World_sameArguments_j16
  by_cases el : y.2.1.length = x.2.1.length
  · exact itp (by rw [el]) ⟨x.2.1.length + 1, loop el _ 0 true (Nat.zero_le _) (by omega) ⟨fun _ j hj => absurd hj (by omega), fun _ => rfl⟩⟩
  · refine itn (ne_oN el (by omega) (by omega)) ⟨1, ?_⟩
    rw [decide_eq_false (fun z => el (by rw [z]))] at hQ
    unfold w_World_sameArguments_L21
    by_cases cc : Int32.ofNat x.2.1.length ≤ 0
    · exact itp cc ⟨Or.inl rfl, hQ⟩
    · exact itn cc (itp rfl ⟨Or.inl rfl, hQ⟩)
/-- the like method, the first there is -/
theorem c_likeMethod (hA : A.length ≤ 200000) (hW : CWx A W w br nq nk np nh nr M) (hV : CWx A V w' br' nq' nk' np' nh' nr' M) (hx : cHd A w c m x M) (hm : m < 381) (hd : d < V.length) (hQ1 : ∀ p, p < (gc V d).2.2.2.2.2.length → lkM x (gmt (gc V d) p) → (∀ p', p' < p → ¬ lkM x (gmt (gc V d) p')) → Q (Int32.ofNat (moff V d + p)) M) (hQ2 : (∀ p, p < (gc V d).2.2.2.2.2.length → ¬ lkM x (gmt (gc V d) p)) → Q (-2) M) : w_Works_likeMethod 0 w (Int32.ofNat m) w' (Int32.ofNat d) Q M := by
  obtain ⟨e43, e44, hmo, h12, h51⟩ := hV.mo (e := 0) hd
  obtain ⟨⟨⟨l43, l44⟩, lf, l211'⟩, -, hms⟩ := hV.2.1
  obtain ⟨⟨-, lfw, l211⟩, -, -⟩ := hW.2.1
  have vd : ∀ {g : Nat}, g = 51 → vp_in (Int32.ofNat d) g := fun e => by rw [e]; exact (vp_oN (by omega)).mpr (by omega)
  have loop : ∀ n p, p ≤ (gc V d).2.2.2.2.2.length → (gc V d).2.2.2.2.2.length - p < n → (∀ p', p' < p → ¬ lkM x (gmt (gc V d) p')) → w_Works_likeMethod_L9 0 Q n w (Int32.ofNat m) w' (Int32.ofNat d) (Int32.ofNat (moff V d + p)) M := by
    intro n
    induction n with
    | zero => intro p hp hn; omega
    | succ n ih =>
      intro p hp hn hb
      unfold w_Works_likeMethod_L9
      refine ⟨vd l43, vd l44, ?_⟩
      rw [oN_tnc (k := d) (by omega), e43, e44, oN_add]
      by_cases ep : p = (gc V d).2.2.2.2.2.length
      · exact itp (by rw [ep]; exact le_oN (Nat.le_refl _) (by omega)) (hQ2 (fun p' hp' => hb p' (by omega)))
      have hpl : p < (gc V d).2.2.2.2.2.length := by omega
      obtain ⟨hy, -⟩ := hms d hd p hpl
      have vm : ∀ g, 55 ≤ g → g ≤ 65 → vp_in (Int32.ofNat m) (mL M g w) := fun g a b => by rw [lfw g a b]; exact (vp_oN (by omega)).mpr hm
      have vm' : ∀ g, 55 ≤ g → g ≤ 65 → vp_in (Int32.ofNat (moff V d + p)) (mL M g w') := fun g a b => by rw [lf g a b]; exact (vp_oN (by omega)).mpr (by omega)
      have next : ¬ lkM x (gmt (gc V d) p) → w_Works_likeMethod_j87 0 Q (w_Works_likeMethod_L9 0 Q n) w (Int32.ofNat m) w' (Int32.ofNat d) (Int32.ofNat (moff V d + p)) M := fun z => by
        unfold w_Works_likeMethod_j87
        rw [lit32 1, oN_add, Nat.add_assoc]
        refine ih (p + 1) (by omega) (by omega) (fun p' hp' => ?_)
        by_cases e : p' = p
        · rw [e]; exact z
        · exact hb p' (by omega)
      refine itn (nle_oN (by omega) (by omega)) ⟨vm 56 (by omega) (by omega), vm' 56 (by omega) (by omega), ?_⟩
      rw [oN_tnc (k := m) (by omega), oN_tnc (k := moff V d + p) (by omega), hx.2.1.1, hy.2.1.1, hx.2.2.2.2.1.1, hy.2.2.2.2.1.1, hx.2.2.2.1.1]
      have i1 := nc_inj (A := A) (by omega) hx.2.1.2 hy.2.1.2
      have i2 := kC_injQ hA (kdOk_Q hx.2.2.2.2.1.2.2) (kdOk_Q hy.2.2.2.2.1.2.2) hx.2.2.2.2.1.2.1 hy.2.2.2.2.1.2.1
      by_cases c1 : x.1 = (gmt (gc V d) p).1
      · refine itp (i1.2 c1) ⟨vm 59 (by omega) (by omega), vm' 59 (by omega) (by omega), ?_⟩
        by_cases c2 : x.2.2.1 = (gmt (gc V d) p).2.2.1
        · refine itp (i2.2 c2) ⟨vm 58 (by omega) (by omega), ?_⟩
          rw [lit32 6, oN_mul]
          refine c_sA2 hA hx hy hm (by omega) (lf 58 (by omega) (by omega)) l211 l211' ?_
          by_cases c3 : x.2.1 = (gmt (gc V d) p).2.1
          · rw [decide_eq_true c3]
            exact itn (by decide) (hQ1 p hpl ⟨c1, c2, c3⟩ hb)
          · rw [decide_eq_false c3]
            exact itp rfl (next (fun z => c3 z.2.2))
        · exact itn (fun z => c2 (i2.1 z)) (next (fun z => c2 z.2.1))
      · exact itn (fun z => c1 (i1.1 z)) (next (fun z => c1 z.1))
  unfold w_Works_likeMethod
  refine ⟨vd l43, (gc V d).2.2.2.2.2.length + 1, ?_⟩
  rw [oN_tnc (k := d) (by omega), e43]
  exact loop _ 0 (Nat.zero_le _) (by omega) (fun p' hp' => absurd hp' (by omega))
theorem c_hasField (hA : A.length ≤ 200000) (hW : CWx A W w br nq nk np nh nr M) (hV : CWx A V w' br' nq' nk' np' nh' nr' M) (h51 : W.length ≤ 51) (h51' : V.length ≤ 51) (hc : c < W.length) (hf : f < (gc W c).2.2.2.2.1.length) (hd : d < V.length) (hty : tyOk (gfl (gc W c) f).2.1) (hty' : ∀ g, g < (gc V d).2.2.2.2.1.length → tyOk (gfl (gc V d) g).2.1) (hQ : Q (b2 (decide (gfl (gc W c) f ∈ (gc V d).2.2.2.2.1))) M) : w_Works_hasField 0 w (Int32.ofNat (foff W c + f)) w' (Int32.ofNat d) Q M := by
  obtain ⟨⟨-, ⟨l1, l2, l3, l4, l5, l6, l7⟩, -⟩, fl2, fl3⟩ := hW.1.2.1
  obtain ⟨⟨-, ⟨l1', l2', l3', l4', l5', l6', l7'⟩, l41, l42⟩, fl2', fl3'⟩ := hV.1.2.1
  obtain ⟨g1, g2⟩ := gF1_at hc hf
  have hfo := foff_le (W := W) (fun c hc => ⟨(fl2 c hc).2.1, (fl2 c hc).2.2⟩) W.length (Nat.le_refl _)
  rw [foff_all] at hfo
  have hfo' := foff_le (W := V) (fun c hc => ⟨(fl2' c hc).2.1, (fl2' c hc).2.2⟩) V.length (Nat.le_refl _)
  rw [foff_all] at hfo'
  obtain ⟨⟨e41, e42⟩, h8, -⟩ := fl2' d hd
  obtain ⟨⟨e49, m49⟩, ⟨e50, k50⟩, e51, e52, e511⟩ := fl3 _ g1
  rw [g2] at e49 m49 e50 k50 e51 e52 e511
  have vd : ∀ {g : Nat}, g = 51 → vp_in (Int32.ofNat d) g := fun e => by rw [e]; exact (vp_oN (by omega)).mpr (by omega)
  have vf : ∀ {g : Nat}, g = 240 → vp_in (Int32.ofNat (foff W c + f)) g := fun e => by rw [e]; exact (vp_oN (by omega)).mpr (by omega)
  have loop : ∀ n g, g ≤ (gc V d).2.2.2.2.1.length → (gc V d).2.2.2.2.1.length - g < n → (∀ g', g' < g → gfl (gc W c) f ≠ gfl (gc V d) g') → w_Works_hasField_L9 0 Q n w (Int32.ofNat (foff W c + f)) w' (Int32.ofNat d) (Int32.ofNat (foff V d + g)) M := by
    intro n
    induction n with
    | zero => intro g hg hn; omega
    | succ n ih =>
      intro g hg hn hb
      unfold w_Works_hasField_L9
      refine ⟨vd l41, vd l42, ?_⟩
      rw [oN_tnc (k := d) (by omega), e41, e42, oN_add]
      by_cases eg : g = (gc V d).2.2.2.2.1.length
      · have hlt : foff V d + (gc V d).2.2.2.2.1.length ≤ 240 := by
          by_cases z : (gc V d).2.2.2.2.1.length = 0
          · have := foff_le (W := V) (fun c hc => ⟨(fl2' c hc).2.1, (fl2' c hc).2.2⟩) d (by omega)
            omega
          · obtain ⟨y1, -⟩ := gF1_at (W := V) (c := d) (k := (gc V d).2.2.2.2.1.length - 1) hd (by omega)
            omega
        refine itp (by rw [eg]; exact le_oN (Nat.le_refl _) (by omega)) ?_
        rw [decide_eq_false (fun z => ?_)] at hQ
        · exact hQ
        · obtain ⟨j, hj, ej⟩ := List.mem_iff_getElem.1 z
          refine hb j (by omega) ?_
          show _ = (gc V d).2.2.2.2.1.getD j _
          rw [List.getD_eq_getElem?_getD, List.getElem?_eq_getElem hj, ej]; rfl
      have hgl : g < (gc V d).2.2.2.2.1.length := by omega
      obtain ⟨y1, y2⟩ := gF1_at hd hgl
      obtain ⟨⟨e49', m49'⟩, ⟨e50', k50'⟩, e51', e52', e511'⟩ := fl3' _ y1
      rw [y2] at e49' m49' e50' k50' e51' e52' e511'
      have vg : ∀ {z : Nat}, z = 240 → vp_in (Int32.ofNat (foff V d + g)) z := fun e => by rw [e]; exact (vp_oN (by omega)).mpr (by omega)
      have next : gfl (gc W c) f ≠ gfl (gc V d) g → w_Works_hasField_j123 0 Q (w_Works_hasField_L9 0 Q n) w (Int32.ofNat (foff W c + f)) w' (Int32.ofNat d) (Int32.ofNat (foff V d + g)) M := fun z => by
        unfold w_Works_hasField_j123
        rw [lit32 1, oN_add, Nat.add_assoc]
        refine ih (g + 1) (by omega) (by omega) (fun g' hg' => ?_)
        by_cases e : g' = g
        · rw [e]; exact z
        · exact hb g' (by omega)
      have next0 : gfl (gc W c) f ≠ gfl (gc V d) g → w_Works_hasField_j81 0 Q (w_Works_hasField_L9 0 Q n) w (Int32.ofNat (foff W c + f)) w' (Int32.ofNat d) (Int32.ofNat (foff V d + g)) M := fun z => by
        unfold w_Works_hasField_j81 w_Works_hasField_j82
        exact itp rfl (next z)
      have i1 := nc_inj (A := A) (by omega) m49 m49'
      have i2 := kC_injQ hA (kdOk_Q hty.kd) (kdOk_Q (hty' g hgl).kd) k50 k50'
      refine itn (nle_oN (by omega) (by omega)) ⟨vf l1, vg l1', ?_⟩
      rw [oN_tnc (k := foff W c + f) (by omega), oN_tnc (k := foff V d + g) (by omega), e49, e49', e50, e50', e51, e51']
      by_cases c1 : (gfl (gc W c) f).1 = (gfl (gc V d) g).1
      · refine itp (i1.2 c1) ⟨vf l2, vg l2', ?_⟩
        by_cases c2 : (gfl (gc W c) f).2.1 = (gfl (gc V d) g).2.1
        · refine itp (i2.2 c2) ⟨vf l3, vg l3', ?_⟩
          by_cases c3 : (gfl (gc W c) f).2.2.1 = (gfl (gc V d) g).2.2.1
          · refine itp c3 ?_
            unfold w_Works_hasField_j82
            refine itn (by decide) ⟨vf l5, vg l5', ?_⟩
            rw [oN_tnc (k := foff W c + f) (by omega), oN_tnc (k := foff V d + g) (by omega), e511, e511', e52, e52']
            by_cases c5 : (gfl (gc W c) f).2.2.2.2 = (gfl (gc V d) g).2.2.2.2
            · refine itp (by rw [c5]) ⟨vf l4, vg l4', ?_⟩
              by_cases c4 : (gfl (gc W c) f).2.2.2.1 = (gfl (gc V d) g).2.2.2.1
              · refine itp c4 ?_
                have : gfl (gc W c) f ∈ (gc V d).2.2.2.2.1 := by
                  rw [show gfl (gc W c) f = gfl (gc V d) g from Prod.ext c1 (Prod.ext c2 (Prod.ext c3 (Prod.ext c4 c5)))]
                  exact getD_mem hgl
                rw [decide_eq_true this] at hQ
                exact hQ
              · exact itn c4 (next (fun z => c4 (by rw [z])))
            · exact itn (fun z => c5 (b2_inj z)) (next (fun z => c5 (by rw [z])))
          · exact itn c3 (next0 (fun z => c3 (by rw [z])))
        · exact itn (fun z => c2 (i2.1 z)) (next0 (fun z => c2 (by rw [z])))
      · exact itn (fun z => c1 (i1.1 z)) (next0 (fun z => c1 (by rw [z])))
  unfold w_Works_hasField
  refine ⟨vd l41, (gc V d).2.2.2.2.1.length + 1, ?_⟩
  rw [oN_tnc (k := d) (by omega), e41]
  exact loop _ 0 (Nat.zero_le _) (by omega) (fun g' hg' => absurd hg' (by omega))
end
