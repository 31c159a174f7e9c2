/-! what the works' pen writes is the text of a class -/
theorem spc_t : spc true = [] := rfl
theorem spc_f : spc false = [32] := rfl
theorem pnW_eq {nm : Nm} {p : Pen} : pnW nm p = (p.1 ++ spc p.2 ++ nm, false) := rfl
theorem pnS_eq {b : Int32} {p : Pen} (h : ¬ b = 61) : pnS b p = (p.1 ++ [b], decide (b = 40 ∨ b = 46)) := by
  unfold pnS
  rw [if_neg h, List.append_nil]
theorem pnL1 {p : Pen} : pnL 1 p = (p.1 ++ [32], true) := rfl
theorem pnL2 {p : Pen} : pnL 2 p = (p.1 ++ [32, 32], true) := rfl
theorem pnL0 {p : Pen} : pnL 0 p = (p.1, true) := by
  unfold pnL
  rw [List.replicate_zero, List.append_nil]
theorem pnLb_eq {x : Mth} {k : Nat} {p : Pen} : pnLb x k p = (p.1 ++ spc p.2 ++ txL x k, false) := by
  unfold pnLb pnB txL
  simp only [List.append_assoc]
theorem pnKs_eq {ks : List Kd} {p : Pen} : ∀ k, pnKs ks k p = (p.1 ++ txS (spc p.2) ks k, if k = 0 then p.2 else false)
  | 0 => by
    rw [if_pos rfl]
    show p = (p.1 ++ [], p.2)
    rw [List.append_nil]
  | k + 1 => by
    have ih := pnKs_eq (ks := ks) (p := p) k
    show pnK (gk ks k) (if k = 0 then pnKs ks k p else pnS 44 (pnKs ks k p)) = (p.1 ++ (txS (spc p.2) ks k ++ ((if k = 0 then spc p.2 else [44, 32]) ++ kdW (gk ks k))), _)
    rw [ih, if_neg (Nat.succ_ne_zero k)]
    unfold pnK
    by_cases e : k = 0
    · rw [if_pos e, if_pos e, if_pos e, pnW_eq]
      simp only [List.append_assoc]
    · rw [if_neg e, if_neg e, if_neg e, pnS_eq (by decide), pnW_eq]
      rw [show decide ((44 : Int32) = 40 ∨ (44 : Int32) = 46) = false from by decide, spc_f]
      simp only [List.append_assoc, List.cons_append, List.nil_append]
theorem pnT_eq {ks : List Kd} {res : Kd} {p : Pen} : pnT ks res p = (p.1 ++ txT ks res, false) := by
  unfold pnT pnK txT
  rw [pnS_eq (b := 40) (by decide), pnKs_eq, pnS_eq (b := 41) (by decide), pnW_eq]
  rw [show decide ((40 : Int32) = 40 ∨ (40 : Int32) = 46) = true from by decide, show decide ((41 : Int32) = 40 ∨ (41 : Int32) = 46) = false from by decide, spc_t, spc_f]
  simp only [List.append_assoc, List.cons_append, List.nil_append]
theorem pnFW_eq {b : Int32} {n1 n2 n3 n4 nm : Nm} {p : Pen} : pnW nm (pnF b n1 n2 n3 n4 p) = (p.1 ++ spc p.2 ++ (fl1 b 1 n1 ++ fl1 b 2 n2 ++ fl1 b 4 n3 ++ fl1 b 8 n4) ++ nm, false) := by
  unfold pnF fl1
  dsimp only
  by_cases c1 : b &&& 1 = 0 <;> by_cases c2 : b &&& 2 = 0 <;> by_cases c3 : b &&& 4 = 0 <;> by_cases c4 : b &&& 8 = 0 <;> simp only [c1, c2, c3, c4, if_true, if_false, pnW_eq, spc_f, List.append_assoc, List.nil_append, List.append_nil]
theorem fl8 {b : Int32} {n : Nm} (h : b &&& 8 = 0) : fl1 b 8 n = [] := if_pos h
theorem pnFd_eq {x : Fld} {p : Pen} (h8 : x.2.2.1 &&& 8 = 0) : (pnFd x p).1 = p.1 ++ txFd x := by
  have e29 : stW 29 = [32] ++ wA 63 ++ [32] := by decide +kernel
  have e33 : stW 33 = [32, 61, 32] := rfl
  unfold pnFd txFd txF pnK
  dsimp only
  rw [pnFW_eq, fl8 h8, fl8 h8, pnL1, pnW_eq, e29, e33]
  by_cases c : x.2.2.2.2 = true
  · rw [if_pos c, if_pos c]
    unfold pnE pnN pnS
    rw [if_pos rfl, pnW_eq]
    rw [show decide ((61 : Int32) = 40 ∨ (61 : Int32) = 46) = false from by decide, spc_f, spc_t]
    simp only [List.append_assoc, List.cons_append, List.nil_append, List.append_nil]
  · rw [if_neg c, if_neg c]
    unfold pnE
    rw [pnW_eq, spc_f, spc_t]
    simp only [List.append_assoc, List.cons_append, List.nil_append, List.append_nil]
theorem pnFr_eq {f : List Kd × List Kd} {p : Pen} : (pnFr f p).1 = p.1 ++ txFr f := by
  have e38 : stW 38 = [32, 32] ++ wA 66 := by decide +kernel
  unfold pnFr txFr pnE
  rw [pnL2, pnW_eq, pnKs_eq, pnS_eq (by decide), pnKs_eq, e38]
  rw [show decide ((59 : Int32) = 40 ∨ (59 : Int32) = 46) = false from by decide, spc_f, spc_t]
  simp only [List.append_assoc, List.cons_append, List.nil_append, List.append_nil]
theorem pnPk_eq {x : Mth} {l : List Nat} {P : List Int32} : ∀ k, pnPk x l k (P, false) = (P ++ txP x l k, false)
  | 0 => by
    show (P, false) = (P ++ [], false)
    rw [List.append_nil]
  | k + 1 => by
    have ih := pnPk_eq (x := x) (l := l) (P := P) k
    show pnLb x (gtn l k) (if k = 0 then pnPk x l k (P, false) else pnS 44 (pnPk x l k (P, false))) = (P ++ (txP x l k ++ ((if k = 0 then [32] else [44, 32]) ++ txL x (gtn l k))), false)
    rw [ih]
    by_cases e : k = 0
    · rw [if_pos e, if_pos e, pnLb_eq, spc_f]
      simp only [List.append_assoc]
    · rw [if_neg e, if_neg e, pnS_eq (by decide), pnLb_eq]
      rw [show decide ((44 : Int32) = 40 ∨ (44 : Int32) = 46) = false from by decide, spc_f]
      simp only [List.append_assoc, List.cons_append, List.nil_append]
theorem pnN_eq {v : Int32} {p : Pen} : pnN v p = (p.1 ++ spc p.2 ++ dgi v, false) := rfl
theorem pnIn_eq {x : Mth} {i : Ins} {p : Pen} : (pnIn x i p).1 = p.1 ++ spc p.2 ++ txIn x i := by
  unfold pnIn txIn tI1 tI2 tI3 tI4 tI5 tI6 tI7 tI8 pnK
  have d46 : decide ((46 : Int32) = 40 ∨ (46 : Int32) = 46) = true := by decide
  by_cases c1 : i.1 = 1 ∨ (3 ≤ i.1 ∧ i.1 ≤ 7)
  · rw [if_pos c1, if_pos (show i.1 = 1 ∨ (3 ≤ i.1 ∧ i.1 ≤ 7) ∨ i.1 = 40 by omega), if_neg (show ¬ isJ i.1 by omega), if_neg (show ¬ i.1 = 40 by omega), if_neg (show ¬ (i.1 = 41 ∨ (46 ≤ i.1 ∧ i.1 ≤ 55)) by omega), if_neg (show ¬ (46 ≤ i.1 ∧ i.1 ≤ 53) by omega), if_neg (show ¬ isFo i.1 by omega), if_neg (show ¬ isMo i.1 by omega)]
    by_cases c2 : i.1 = 7
    · rw [if_pos c2, if_pos c2, pnW_eq, pnN_eq, pnN_eq, spc_f]
      simp only [List.append_assoc, List.cons_append, List.nil_append, List.append_nil]
    · rw [if_neg c2, if_neg c2, pnW_eq, pnN_eq, spc_f]
      simp only [List.append_assoc, List.cons_append, List.nil_append, List.append_nil]
  rw [if_neg c1, if_neg (show ¬ i.1 = 7 by omega)]
  by_cases c2 : isJ i.1
  · rw [if_pos c2, if_neg (show ¬ (i.1 = 1 ∨ (3 ≤ i.1 ∧ i.1 ≤ 7) ∨ i.1 = 40) by omega), if_pos c2, if_neg (show ¬ i.1 = 40 by omega), if_neg (show ¬ (i.1 = 41 ∨ (46 ≤ i.1 ∧ i.1 ≤ 55)) by omega), if_neg (show ¬ (46 ≤ i.1 ∧ i.1 ≤ 53) by omega), if_neg (show ¬ isFo i.1 by omega), if_neg (show ¬ isMo i.1 by omega)]
    rw [pnW_eq, pnLb_eq, spc_f]
    simp only [List.append_assoc, List.cons_append, List.nil_append, List.append_nil]
  rw [if_neg c2, if_neg c2]
  by_cases c3 : i.1 = 40
  · rw [if_pos c3, if_pos (show i.1 = 1 ∨ (3 ≤ i.1 ∧ i.1 ≤ 7) ∨ i.1 = 40 by omega), if_pos c3, if_neg (show ¬ (i.1 = 41 ∨ (46 ≤ i.1 ∧ i.1 ≤ 55)) by omega), if_neg (show ¬ (46 ≤ i.1 ∧ i.1 ≤ 53) by omega), if_neg (show ¬ isFo i.1 by omega), if_neg (show ¬ isMo i.1 by omega)]
    rw [pnW_eq, pnN_eq, pnPk_eq, spc_f]
    simp only [List.append_assoc, List.cons_append, List.nil_append, List.append_nil]
  rw [if_neg c3, if_neg c3, if_neg (show ¬ (i.1 = 1 ∨ (3 ≤ i.1 ∧ i.1 ≤ 7) ∨ i.1 = 40) by omega)]
  by_cases c4 : isN i.1
  · rw [if_pos c4, if_pos (show i.1 = 41 ∨ (46 ≤ i.1 ∧ i.1 ≤ 55) by unfold isN at c4; omega), if_neg (show ¬ (46 ≤ i.1 ∧ i.1 ≤ 53) by unfold isN at c4; omega), if_neg (show ¬ isFo i.1 by unfold isN at c4; omega), if_neg (show ¬ isMo i.1 by unfold isN at c4; omega)]
    rw [pnW_eq, pnW_eq, spc_f]
    simp only [List.append_assoc, List.cons_append, List.nil_append, List.append_nil]
  rw [if_neg c4]
  by_cases c5 : 46 ≤ i.1 ∧ i.1 ≤ 53
  · rw [if_pos c5, if_pos (show i.1 = 41 ∨ (46 ≤ i.1 ∧ i.1 ≤ 55) by omega), if_pos c5]
    by_cases c6 : 50 ≤ i.1
    · rw [if_pos c6, if_neg (show ¬ isFo i.1 by omega), if_pos (show isMo i.1 from ⟨c6, c5.2⟩)]
      rw [pnW_eq, pnW_eq, pnS_eq (by decide), pnW_eq, pnT_eq, d46, spc_t, spc_f]
      simp only [List.append_assoc, List.cons_append, List.nil_append, List.append_nil]
    · rw [if_neg c6, if_pos (show isFo i.1 from ⟨c5.1, by omega⟩), if_neg (show ¬ isMo i.1 by omega)]
      rw [pnW_eq, pnW_eq, pnS_eq (by decide), pnW_eq, pnW_eq, d46, spc_t, spc_f]
      simp only [List.append_assoc, List.cons_append, List.nil_append, List.append_nil]
  · rw [if_neg c5, if_neg (show ¬ (i.1 = 41 ∨ (46 ≤ i.1 ∧ i.1 ≤ 55)) by unfold isN at c4; omega), if_neg c5, if_neg (show ¬ isFo i.1 by omega), if_neg (show ¬ isMo i.1 by omega)]
    rw [pnW_eq]
    simp only [List.append_assoc, List.cons_append, List.nil_append, List.append_nil]
theorem pnC1_eq {x : Mth} {k : Nat} {p : Pen} : (pnC1 x k p).1 = p.1 ++ txC1 x k := by
  have d58 : decide ((58 : Int32) = 40 ∨ (58 : Int32) = 46) = false := by decide
  unfold pnC1 txC1 txHd
  dsimp only
  have key : ∀ (q : Pen) (F : List Int32), q.1 = p.1 ++ F → (pnE (pnIn x (gin (co x) k) (if tls x k = true then pnS 58 (pnLb x k (pnL 2 q)) else pnL 2 q))).1 = p.1 ++ (F ++ (([32, 32] ++ (if tls x k = true then txL x k ++ [58, 32] else [])) ++ (txIn x (gin (co x) k) ++ [10]))) := fun q F e => by
    unfold pnE
    show (pnIn x _ _).1 ++ [10] = _
    rw [pnIn_eq]
    by_cases c : tls x k = true
    · rw [if_pos c, if_pos c, pnL2, pnLb_eq, pnS_eq (by decide), d58, spc_t, spc_f, e]
      simp only [List.append_assoc, List.cons_append, List.nil_append, List.append_nil]
    · rw [if_neg c, if_neg c, pnL2, spc_t, e]
      simp only [List.append_assoc, List.cons_append, List.nil_append, List.append_nil]
  cases eF : iF (gin (co x) k) with
  | none => exact key p [] (List.append_nil _).symm
  | some f => exact key (pnFr f p) (txFr f) pnFr_eq
theorem pnCs_eq {x : Mth} {p : Pen} : ∀ k, (pnCs x k p).1 = p.1 ++ txCs x k
  | 0 => (List.append_nil _).symm
  | k + 1 => by
    show (pnC1 x k (pnCs x k p)).1 = p.1 ++ (txCs x k ++ txC1 x k)
    rw [pnC1_eq, pnCs_eq k, List.append_assoc]
theorem pnEl_eq {x : Mth} {p : Pen} : (pnEl x p).1 = p.1 ++ txEl x := by
  unfold pnEl txEl
  by_cases c : tls x (co x).length = true
  · rw [if_pos c, if_pos c]
    unfold pnE
    rw [pnL2, pnLb_eq, pnS_eq (by decide), spc_t]
    simp only [List.append_assoc, List.cons_append, List.nil_append, List.append_nil]
  · rw [if_neg c, if_neg c, List.append_nil]
theorem pnHd_eq {x : Mth} {y : Hnd} {p : Pen} : (pnHd x y p).1 = p.1 ++ txHn x y := by
  have e41 : stW 41 = [32, 32] ++ wA 67 ++ [32] := by decide +kernel
  unfold pnHd txHn pnE
  rw [pnL2, pnW_eq, pnLb_eq, pnLb_eq, pnLb_eq, pnW_eq, spc_t, spc_f, e41]
  simp only [List.append_assoc, List.cons_append, List.nil_append, List.append_nil]
theorem pnHs_eq {x : Mth} {p : Pen} : ∀ k, (pnHs x k p).1 = p.1 ++ txHs x k
  | 0 => (List.append_nil _).symm
  | k + 1 => by
    show (pnHd x _ (pnHs x k p)).1 = p.1 ++ (txHs x k ++ txHn x (ghn (hs x) k))
    rw [pnHd_eq, pnHs_eq k, List.append_assoc]
theorem pnM_eq {x : Mth} {p : Pen} : (pnM x p).1 = p.1 ++ txM x := by
  have e34 : stW 34 = [32] ++ wA 64 ++ [32] := by decide +kernel
  have e37 : stW 37 = [32, 32] ++ wA 65 ++ [32] := by decide +kernel
  have h1 : (pnE (pnT x.2.1 x.2.2.1 (pnW x.1 (pnF x.2.2.2.1 (wA 52) (wA 69) (wA 72) (wA 70) (pnW (wA 64) (pnL 1 p)))))).1 = p.1 ++ txMh x := by
    unfold txMh txF pnE
    rw [pnFW_eq, pnL1, pnW_eq, pnT_eq, spc_t, spc_f, e34]
    simp only [List.append_assoc, List.cons_append, List.nil_append, List.append_nil]
  unfold pnM txM
  dsimp only
  by_cases c : x.2.2.2.1 &&& 8 = 0
  · rw [if_pos c, if_pos c, pnHs_eq, pnEl_eq, pnCs_eq]
    have h2 : (pnE (pnN x.2.2.2.2.2.1 (pnN x.2.2.2.2.1 (pnW (wA 65) (pnL 2 (pnE (pnT x.2.1 x.2.2.1 (pnW x.1 (pnF x.2.2.2.1 (wA 52) (wA 69) (wA 72) (wA 70) (pnW (wA 64) (pnL 1 p))))))))))).1 = p.1 ++ txMh x ++ txRm x := by
      rw [← h1]
      unfold txRm
      rw [pnL2, pnW_eq, pnN_eq, pnN_eq, spc_t, spc_f, e37]
      unfold pnE
      simp only [List.append_assoc, List.cons_append, List.nil_append, List.append_nil]
    rw [h2]
    simp only [List.append_assoc]
  · rw [if_neg c, if_neg c, h1, List.append_nil]
theorem pnFds_eq {c : Cls} {p : Pen} (h8 : ∀ f, f < c.2.2.2.2.1.length → (gfl c f).2.2.1 &&& 8 = 0) : ∀ k, k ≤ c.2.2.2.2.1.length → (pnFds c k p).1 = p.1 ++ txFds c k
  | 0, _ => (List.append_nil _).symm
  | k + 1, h => by
    show (pnFd _ (pnFds c k p)).1 = p.1 ++ (txFds c k ++ txFd (gfl c k))
    rw [pnFd_eq (h8 k (by omega)), pnFds_eq h8 k (by omega), List.append_assoc]
theorem pnMs_eq {c : Cls} {p : Pen} : ∀ k, (pnMs c k p).1 = p.1 ++ txMs c k
  | 0 => (List.append_nil _).symm
  | k + 1 => by
    show (pnM _ (pnMs c k p)).1 = p.1 ++ (txMs c k ++ txM (gmt c k))
    rw [pnM_eq, pnMs_eq k, List.append_assoc]
theorem pnFc_eq {c : Cls} {P : List Int32} : ∀ k, pnFc c k (P, false) = (P ++ txFc c k, false)
  | 0 => by
    show (P, false) = (P ++ [], false)
    rw [List.append_nil]
  | k + 1 => by
    show pnW (gf c k) (pnS 44 (pnFc c k (P, false))) = (P ++ (txFc c k ++ ([44, 32] ++ gf c k)), false)
    rw [pnFc_eq k, pnS_eq (by decide), pnW_eq]
    rw [show decide ((44 : Int32) = 40 ∨ (44 : Int32) = 46) = false from by decide, spc_f]
    simp only [List.append_assoc, List.cons_append, List.nil_append]
theorem pnHe_eq {c : Cls} {p : Pen} (h8 : c.2.2.2.1 &&& 8 = 0) : pnHe c p = (p.1 ++ txHe c, false) := by
  have e26 : stW 26 = wA 62 ++ [32] := by decide +kernel
  unfold pnHe txHe
  rw [pnFW_eq, fl8 h8, pnL0, pnW_eq, pnS_eq (by decide), pnW_eq, spc_t, e26]
  rw [show decide ((58 : Int32) = 40 ∨ (58 : Int32) = 46) = false from by decide, spc_f]
  simp only [List.append_assoc, List.cons_append, List.nil_append, List.append_nil]
/-- the text of a class that is written -/
theorem pnC_eq {c : Cls} {g : Bool} (h8 : c.2.2.2.1 &&& 8 = 0) (hf : ∀ f, f < c.2.2.2.2.1.length → (gfl c f).2.2.1 &&& 8 = 0) : (pnC c ([], g)).1 = txC c := by
  have e14 : stW 14 = wA 68 := by decide +kernel
  unfold pnC txC
  rw [pnHe_eq h8, pnFc_eq]
  show (pnW (wA 68) (pnL 0 (pnMs c _ (pnFds c _ (pnE _))))).1 ++ [10] = _
  rw [pnL0, pnW_eq, pnMs_eq, pnFds_eq hf _ (Nat.le_refl _), spc_t, e14]
  show [] ++ txHe c ++ txFc c _ ++ [10] ++ txFds c _ ++ txMs c _ ++ [] ++ wA 68 ++ [10] = _
  simp only [List.append_assoc, List.cons_append, List.nil_append, List.append_nil]
