/-! the bytes of a text of a method are bytes -/
theorem by8_s {c : Int32} (h0 : ¬ c < 0) (h1 : ¬ Int32.ofNat 128 ≤ c) : by8 c = c := by
  have h := idx_lt (n := 128) (by omega) h0 h1
  have e := tnc_oN h0
  have : ∀ n, n < 128 → by8 (Int32.ofNat n) = Int32.ofNat n := by decide +kernel
  rw [← e]
  exact this _ h
theorem by8_r {a b c : Int32} (h : a ≤ c) (h' : c ≤ b) (ha : 0 ≤ a.toInt) (hb : b.toInt < 128) : by8 c = c := by
  rw [Int32.le_iff_toInt_le] at h h'
  exact by8_s (fun z => by rw [Int32.lt_iff_toInt_lt, show (0 : Int32).toInt = 0 from rfl] at z; omega) (fun z => by rw [Int32.le_iff_toInt_le, show (Int32.ofNat 128).toInt = 128 from rfl] at z; omega)
theorem wc_by {c : Int32} (h : wc c = true) : by8 c = c := by
  unfold wc isW isLt isD at h
  simp only [Bool.or_eq_true, Bool.and_eq_true, decide_eq_true_eq, beq_iff_eq] at h
  rcases h with ((h | h | h) | h) | h | h | h
  · exact by8_r h.1 h.2 (by decide) (by decide)
  · exact by8_r h.1 h.2 (by decide) (by decide)
  · rw [h]; decide
  · exact by8_r h.1 h.2 (by decide) (by decide)
  · rw [h]; decide
  · rw [h]; decide
  · rw [h]; decide
abbrev sgC (c : Int32) : Prop := c ∈ ([10, 32, 40, 41, 44, 46, 58, 59] : List Int32)
theorem sg_by {c : Int32} (h : sgC c) : by8 c = c := by
  have : ∀ c ∈ ([10, 32, 40, 41, 44, 46, 58, 59] : List Int32), by8 c = c := by decide +kernel
  exact this c h
def smA (l : List Atm) : Prop := ∀ c, Sum.inr c ∈ l → sgC c
theorem smA.nil : smA [] := fun c h => by cases h
theorem smA.l {w : List Int32} {r : List Atm} (h : smA r) : smA (.inl w :: r) := fun c z => by
  rcases List.mem_cons.1 z with e | e
  · cases e
  · exact h c e
theorem smA.r {b : Int32} {r : List Atm} (h : smA r) (hb : sgC b := by decide) : smA (.inr b :: r) := fun c z => by
  rcases List.mem_cons.1 z with e | e
  · injection e with e; rw [e]; exact hb
  · exact h c e
theorem smA.app {a b : List Atm} (ha : smA a) (hb : smA b) : smA (a ++ b) := fun c z => (List.mem_append.1 z).elim (ha c) (hb c)
theorem smA.if {p : Prop} [Decidable p] {a b : List Atm} (ha : smA a) (hb : smA b) : smA (if p then a else b) := by
  by_cases c : p
  · rw [if_pos c]; exact ha
  · rw [if_neg c]; exact hb
theorem smA.aW {ws : List (List Int32)} : smA (aW ws) := by
  cases ws with
  | nil => exact smA.nil
  | cons w r =>
    refine smA.l (fun c z => ?_)
    obtain ⟨v, -, z⟩ := List.mem_flatMap.1 z
    exact smA.r (b := 44) (smA.r (b := 32) (smA.l (w := v) smA.nil)) (by decide) c z
theorem smA.w {c : Int32} {w : List Int32} (hc : sgC c := by decide) : smA [.inr c, .inl w] := smA.r (smA.l smA.nil) hc
theorem smA.wi {p : Prop} [Decidable p] {c : Int32} {w : List Int32} (hc : sgC c := by decide) : smA (if p then [.inr c, .inl w] else []) := smA.if (smA.w hc) smA.nil
theorem smA.aT {ks : List Kd} {κ : Kd} : smA (aT ks κ) := smA.r (smA.app smA.aW (smA.r (smA.r (smA.l smA.nil))))
theorem smA.ins {x : Mth} {i : Ins} : smA (aIn x i) := by
  unfold aIn aI1 aI2 aI3 aI4 aI5 aI6 aI7 aI8
  exact smA.l (smA.app smA.wi (smA.app smA.wi (smA.app smA.wi (smA.app (smA.if (smA.r smA.aW) smA.nil) (smA.app smA.wi (smA.app smA.wi (smA.app smA.wi (smA.if smA.aT smA.nil))))))))
theorem smA.aKk {ks : List Kd} : smA (aKk ks) := smA.if smA.nil (smA.r smA.aW)
theorem smA.aFr {f : List Kd × List Kd} : smA (aFr f) := smA.r (smA.r (smA.l (smA.app smA.aKk (smA.r smA.aKk))))
theorem smA.aHd {x : Mth} {k : Nat} : smA (aHd x k) := smA.if (smA.r (smA.r (smA.l (smA.r (smA.r smA.nil))))) (smA.r (smA.r smA.nil))
theorem smA.lC {x : Mth} : ∀ (I : List Ins) (k : Nat), ∀ l ∈ lC x k I, smA l
  | [], _, l, h => by cases h
  | i :: I, k, l, h => by
    rcases List.mem_append.1 h with e | e
    · unfold lFr at e
      split at e
      · cases e
      · rw [List.mem_singleton.1 e]; exact smA.aFr
    · rcases List.mem_cons.1 e with e | e
      · rw [e]; exact smA.app smA.aHd smA.ins
      · exact smA.lC I (k + 1) l e
theorem smA.aF1 {b c : Int32} {n : Nm} : smA (aF1 b c n) := smA.if smA.nil (smA.l (smA.r smA.nil))
theorem smA.lMt {x : Mth} : ∀ l ∈ lMt x, smA l := fun l hl => by
  rcases List.mem_cons.1 hl with e | e
  · rw [e]
    exact smA.r (smA.l (smA.r (smA.app smA.aF1 (smA.app smA.aF1 (smA.app smA.aF1 (smA.app smA.aF1 (smA.l smA.aT)))))))
  · split at e
    · rcases List.mem_cons.1 e with e | e
      · rw [e]; exact (smA.r (smA.r (smA.l (smA.r (smA.l (smA.r (smA.l smA.nil)))))))
      · rcases List.mem_append.1 e with e | e
        · exact smA.lC _ _ l e
        · rcases List.mem_append.1 e with e | e
          · unfold lE at e
            split at e
            · rw [List.mem_singleton.1 e]; exact (smA.r (smA.r (smA.l (smA.r smA.nil))))
            · cases e
          · obtain ⟨y, hy, e⟩ := List.mem_map.1 e
            rw [← e]; exact (smA.r (smA.r (smA.l (smA.r (smA.l (smA.r (smA.l (smA.r (smA.l (smA.r (smA.l smA.nil)))))))))))
    · cases e
theorem tX_by : ∀ {l : List Atm} {p : Bool}, okA p l → smA l → ∀ b ∈ tX l, by8 b = b
  | [], _, _, _, b, h => by cases h
  | .inl w :: r, p, ho, hs, b, h => by
    rcases List.mem_append.1 h with e | e
    · exact wc_by (ho.1.2.2 b e)
    · exact tX_by ho.2 (fun c z => hs c (List.mem_cons_of_mem _ z)) b e
  | .inr c :: r, p, ho, hs, b, h => by
    rcases List.mem_cons.1 h with e | e
    · rw [e]; exact sg_by (hs c (List.mem_cons_self ..))
    · exact tX_by ho.2 (fun c z => hs c (List.mem_cons_of_mem _ z)) b e
theorem txM_by {x : Mth} (h : nfM x) : ∀ b ∈ txM x, by8 b = b := by
  rw [← tX_lMt h]
  refine tX_by (okL_lines _ (fun l hl => (lMt_ok h l hl).1)) (fun c z => ?_)
  unfold tL at z
  obtain ⟨l, hl, z⟩ := List.mem_flatMap.1 z
  rcases List.mem_append.1 z with e | e
  · exact smA.lMt l hl c e
  · exact smA.r (b := 10) smA.nil (by decide) c e
/-- texts are the same if their bytes are -/
theorem by_eq {P P' : List Int32} (h : ∀ b ∈ P, by8 b = b) (h' : ∀ b ∈ P', by8 b = b) (hl : P.length = P'.length) (he : ∀ i, i < P.length → by8 (P.getD i 0) = by8 (P'.getD i 0)) : P = P' := by
  refine List.ext_getElem hl (fun i h1 h2 => ?_)
  have e := he i h1
  have g : P.getD i 0 = P[i] := by rw [List.getD_eq_getElem?_getD, List.getElem?_eq_getElem h1]; rfl
  have g' : P'.getD i 0 = P'[i] := by rw [List.getD_eq_getElem?_getD, List.getElem?_eq_getElem h2]; rfl
  rw [g, g', h _ (List.getElem_mem _), h' _ (List.getElem_mem _)] at e
  exact e
