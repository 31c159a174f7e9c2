/-! WHAT IS WRITTEN TELLS WHAT IT IS: a method -/
def aKk (ks : List Kd) : List Atm := if ks = [] then [] else .inr 32 :: aW (ks.map kdW)
def aFr (f : List Kd × List Kd) : List Atm := .inr 32 :: .inr 32 :: .inl (wA 66) :: (aKk f.1 ++ (.inr 59 :: aKk f.2))
noncomputable def aHd (x : Mth) (k : Nat) : List Atm := if tls x k = true then [.inr 32, .inr 32, .inl (txL x k), .inr 58, .inr 32] else [.inr 32, .inr 32]
def lFr (o : Option (List Kd × List Kd)) : List (List Atm) := match o with
  | none => []
  | some f => [aFr f]
noncomputable def lC (x : Mth) : Nat → List Ins → List (List Atm)
  | _, [] => []
  | k, i :: I => lFr (iF i) ++ ((aHd x k ++ aIn x i) :: lC x (k + 1) I)
noncomputable def lE (x : Mth) : List (List Atm) := if tls x (co x).length = true then [[.inr 32, .inr 32, .inl (txL x (co x).length), .inr 58]] else []
noncomputable def aHn (x : Mth) (y : Hnd) : List Atm := [.inr 32, .inr 32, .inl (wA 67), .inr 32, .inl (txL x y.1), .inr 32, .inl (txL x y.2.1), .inr 32, .inl (txL x y.2.2.1), .inr 32, .inl y.2.2.2]
def aRm (x : Mth) : List Atm := [.inr 32, .inr 32, .inl (wA 65), .inr 32, .inl (dgi x.2.2.2.2.1), .inr 32, .inl (dgi x.2.2.2.2.2.1)]
def aF1 (b c : Int32) (n : Nm) : List Atm := if b &&& c = 0 then [] else [.inl n, .inr 32]
def aMh (x : Mth) : List Atm := .inr 32 :: .inl (wA 64) :: .inr 32 :: (aF1 x.2.2.2.1 1 (wA 52) ++ (aF1 x.2.2.2.1 2 (wA 69) ++ (aF1 x.2.2.2.1 4 (wA 72) ++ (aF1 x.2.2.2.1 8 (wA 70) ++ (.inl x.1 :: aT x.2.1 x.2.2.1)))))
noncomputable def lMt (x : Mth) : List (List Atm) := aMh x :: (if x.2.2.2.1 &&& 8 = 0 then aRm x :: (lC x 0 (co x) ++ (lE x ++ (hs x).map (aHn x))) else [])
/-- a method as it comes out of a text -/
def nfM (x : Mth) : Prop := (wcL x.1 ∧ (∀ κ ∈ x.2.1, kNf κ) ∧ kNf x.2.2.1) ∧ (∀ i ∈ co x, nfI i) ∧ ∀ y ∈ hs x, wcL y.2.2.2
theorem tX_aKk {ks : List Kd} : tX (aKk ks) = txS [32] ks ks.length := by
  unfold aKk
  rw [txS_all']
  by_cases e : ks = []
  · rw [if_pos e, e]; rfl
  · rw [if_neg e]
    exact tX_aW (f := [.inr 32]) (by rw [ne_eq, List.map_eq_nil_iff]; exact e)
theorem tX_aFr {f : List Kd × List Kd} : tX (aFr f) ++ [10] = txFr f := by
  unfold aFr txFr
  have e38 : stW 38 = [32, 32] ++ wA 66 := by decide +kernel
  show (32 :: 32 :: (wA 66 ++ tX (aKk f.1 ++ (.inr 59 :: aKk f.2)))) ++ [10] = _
  rw [tX_app, tX_aKk, e38]
  show (32 :: 32 :: (wA 66 ++ (_ ++ (59 :: tX (aKk f.2))))) ++ [10] = _
  rw [tX_aKk]
  simp only [List.append_assoc, List.cons_append, List.nil_append]
theorem tX_aHd {x : Mth} {k : Nat} : tX (aHd x k) = txHd x k := by
  unfold aHd txHd
  split
  · show 32 :: 32 :: (txL x k ++ [58, 32]) = _
    rfl
  · rfl
theorem tX_line {l : List Atm} {ls : List (List Atm)} : tX (tL (l :: ls)) = tX l ++ [10] ++ tX (tL ls) := by
  rw [tL_cons, tX_app]
  show tX l ++ (10 :: tX (tL ls)) = _
  simp only [List.append_assoc, List.cons_append, List.nil_append]
theorem tX_lCs {x : Mth} (h : ∀ i ∈ co x, nfI i) : ∀ d k, k + d = (co x).length → txCs x (co x).length = txCs x k ++ tX (tL (lC x k ((co x).drop k)))
  | 0, k, hk => by
    have e : k = (co x).length := by omega
    rw [e, List.drop_length]
    show _ = _ ++ []
    rw [List.append_nil]
  | d + 1, k, hk => by
    have hl : k < (co x).length := by omega
    rw [tX_lCs h d (k + 1) (by omega)]
    have ed : (co x).drop k = gin (co x) k :: (co x).drop (k + 1) := by
      rw [List.drop_eq_getElem_cons hl]
      congr 1
      show _ = (co x).getD k _
      rw [List.getD_eq_getElem?_getD, List.getElem?_eq_getElem hl]; rfl
    rw [ed]
    show (txCs x k ++ txC1 x k) ++ _ = txCs x k ++ tX (tL (lFr (iF (gin (co x) k)) ++ ((aHd x k ++ aIn x (gin (co x) k)) :: lC x (k + 1) ((co x).drop (k + 1)))))
    rw [List.append_assoc, tL_app, tX_app, tX_line, tX_app, tX_aHd, tX_aIn (h _ (getD_mem hl))]
    unfold txC1
    have ef : tX (tL (lFr (iF (gin (co x) k)))) = txFo (iF (gin (co x) k)) := by
      cases iF (gin (co x) k) with
      | none => rfl
      | some f =>
        show tX (tL [aFr f]) = txFr f
        rw [tX_line, tX_aFr]
        show txFr f ++ [] = _
        rw [List.append_nil]
    rw [ef]
    simp only [List.append_assoc]
theorem tX_lE {x : Mth} : tX (tL (lE x)) = txEl x := by
  unfold lE txEl
  split
  · rw [tX_line]
    show (32 :: 32 :: (txL x (co x).length ++ [58])) ++ [10] ++ [] = _
    simp only [List.append_assoc, List.cons_append, List.nil_append, List.append_nil]
  · rfl
theorem tX_aHn {x : Mth} {y : Hnd} : tX (aHn x y) ++ [10] = txHn x y := by
  have e41 : stW 41 = [32, 32] ++ wA 67 ++ [32] := by decide +kernel
  unfold txHn
  rw [e41]
  show (32 :: 32 :: (wA 67 ++ (32 :: (txL x y.1 ++ (32 :: (txL x y.2.1 ++ (32 :: (txL x y.2.2.1 ++ (32 :: (y.2.2.2 ++ [])))))))))) ++ [10] = _
  simp only [List.append_assoc, List.cons_append, List.nil_append, List.append_nil]
theorem tX_lHs {x : Mth} : ∀ k, k ≤ (hs x).length → txHs x k = tX (tL (((hs x).take k).map (aHn x)))
  | 0, _ => rfl
  | k + 1, h => by
    rw [take_s (d := (0, 0, 0, [])) (by omega), List.map_append, tL_app, tX_app, ← tX_lHs k (by omega)]
    show txHs x k ++ txHn x (ghn (hs x) k) = txHs x k ++ tX (tL [aHn x (ghn (hs x) k)])
    rw [tX_line, tX_aHn]
    show _ = _ ++ (_ ++ [])
    rw [List.append_nil]
theorem tX_aF1 {b c : Int32} {n : Nm} : tX (aF1 b c n) = fl1 b c n := by
  unfold aF1 fl1
  split <;> rfl
theorem tX_lMt {x : Mth} (h : nfM x) : tX (tL (lMt x)) = txM x := by
  have e34 : stW 34 = [32] ++ wA 64 ++ [32] := by decide +kernel
  have e37 : stW 37 = [32, 32] ++ wA 65 ++ [32] := by decide +kernel
  have h1 : tX (aMh x) ++ [10] = txMh x := by
    unfold aMh txMh txF
    show (32 :: (wA 64 ++ (32 :: tX _))) ++ [10] = _
    simp only [tX_app, tX_aF1, e34]
    show (32 :: (wA 64 ++ (32 :: (_ ++ (_ ++ (_ ++ (_ ++ (x.1 ++ tX (aT x.2.1 x.2.2.1))))))))) ++ [10] = _
    rw [tX_aT]
    simp only [List.append_assoc, List.cons_append, List.nil_append, List.append_nil]
  have h2 : tX (aRm x) ++ [10] = txRm x := by
    unfold txRm
    rw [e37]
    show (32 :: 32 :: (wA 65 ++ (32 :: (dgi x.2.2.2.2.1 ++ (32 :: (dgi x.2.2.2.2.2.1 ++ [])))))) ++ [10] = _
    simp only [List.append_assoc, List.cons_append, List.nil_append, List.append_nil]
  unfold lMt txM
  rw [tX_line, h1]
  congr 1
  split
  · rw [tX_line, h2, tL_app, tL_app, tX_app, tX_app, tX_lE]
    have h3 := tX_lCs h.2.1 (co x).length 0 (by omega)
    have h4 := tX_lHs (x := x) (hs x).length (Nat.le_refl _)
    rw [List.take_length] at h4
    rw [List.drop_zero] at h3
    rw [h3, h4]
    show _ = txRm x ++ (([] ++ _) ++ _)
    rw [List.nil_append]
  · rfl
