/-! the works' pen as a machine of its own -/
abbrev Pen : Type := List Int32 × Bool
def pnW (nm : Nm) (p : Pen) : Pen := (p.1 ++ spc p.2 ++ nm, false)
def pnS (b : Int32) (p : Pen) : Pen := (p.1 ++ (if b = 61 then spc p.2 else []) ++ [b], decide (b = 40 ∨ b = 46))
def pnL (n : Nat) (p : Pen) : Pen := (p.1 ++ List.replicate n 32, true)
def pnE (p : Pen) : Pen := (p.1 ++ [10], p.2)
def pnN (v : Int32) (p : Pen) : Pen := (p.1 ++ spc p.2 ++ dgi v, false)
def pnB (v : Int32) (p : Pen) : Pen := (p.1 ++ spc p.2 ++ [76] ++ dgi v, false)
abbrev wA (k : Nat) : Nm := A0.getD k []
def pnF (b : Int32) (n1 n2 n3 n4 : Nm) (p : Pen) : Pen :=
  let p := if b &&& 1 = 0 then p else pnW n1 p
  let p := if b &&& 2 = 0 then p else pnW n2 p
  let p := if b &&& 4 = 0 then p else pnW n3 p
  if b &&& 8 = 0 then p else pnW n4 p
/-- the word of a kind -/
def kdW (κ : Kd) : Nm := if κ.1 = 0 then wA 1 else if κ.1 = 1 then wA 73 else if κ.1 = -4 then wA 74 else if κ.1 = -1 then wA 2 else if κ.1 = -2 then wA 75 else if κ.1 = -3 then wA 76 else κ.2
def pnK (κ : Kd) (p : Pen) : Pen := pnW (kdW κ) p
def pkd (κ : Kd) : Prop := κ.1 = 0 ∨ κ.1 = 1 ∨ κ.1 = -4 ∨ κ.1 = -1 ∨ κ.1 = -2 ∨ κ.1 = -3 ∨ κ.1 = 2
/-- kinds with commas between, the first k of them -/
def pnKs (ks : List Kd) : Nat → Pen → Pen
  | 0, p => p
  | k + 1, p => pnK (gk ks k) (if k = 0 then pnKs ks k p else pnS 44 (pnKs ks k p))
def pnT (ks : List Kd) (res : Kd) (p : Pen) : Pen := pnK res (pnS 41 (pnKs ks ks.length (pnS 40 p)))
abbrev cP (p : Pen) (M : Mem) : Prop := cPn p.1 p.2 M
abbrev LPg : Nat := 25970
theorem pnW_le {nm : Nm} {p : Pen} : p.1.length ≤ (pnW nm p).1.length := by unfold pnW; rw [List.length_append, List.length_append]; omega
theorem pnS_le {b : Int32} {p : Pen} : p.1.length ≤ (pnS b p).1.length := by unfold pnS; rw [List.length_append, List.length_append]; omega
theorem pnL_le {n : Nat} {p : Pen} : p.1.length ≤ (pnL n p).1.length := by unfold pnL; rw [List.length_append]; omega
theorem pnE_le {p : Pen} : p.1.length ≤ (pnE p).1.length := by unfold pnE; rw [List.length_append]; omega
theorem pnN_le {v : Int32} {p : Pen} : p.1.length ≤ (pnN v p).1.length := by unfold pnN; rw [List.length_append, List.length_append]; omega
theorem pnB_le {v : Int32} {p : Pen} : p.1.length ≤ (pnB v p).1.length := by unfold pnB; rw [List.length_append, List.length_append, List.length_append]; omega
theorem pnK_le {κ : Kd} {p : Pen} : p.1.length ≤ (pnK κ p).1.length := pnW_le
theorem pnKs_le {ks : List Kd} {p : Pen} : ∀ {k : Nat}, p.1.length ≤ (pnKs ks k p).1.length
  | 0 => Nat.le_refl _
  | k + 1 => by
    unfold pnKs
    have := pnKs_le (ks := ks) (p := p) (k := k)
    split
    · exact Nat.le_trans this pnK_le
    · exact Nat.le_trans this (Nat.le_trans pnS_le pnK_le)
section
variable {A : List Nm} {P : List Int32} {p : Pen} {b v : Int32} {M M' : Mem} {Q : Mem → Prop} {nm n1 n2 n3 n4 : Nm} {k k1 k2 k3 k4 : Nat} {κ : Kd}
theorem c_pw (hC : CNm A M) (h : cP p M) (hn : A[k]? = some nm) (hl : (pnW nm p).1.length ≤ LPg) (hQ : ∀ M', cP (pnW nm p) M' → Fr SPn M M' → Q M') : w_Writer_word 0 (Int32.ofNat k) Q M := by
  have hl : (p.1 ++ spc p.2 ++ nm).length ≤ LPg := hl
  rw [List.length_append, List.length_append] at hl
  exact c_wword hC h hn (by unfold LPg at hl; omega) hQ
theorem c_pn (h : cP p M) (hl : (pnN v p).1.length ≤ LPg) (hQ : ∀ M', cP (pnN v p) M' → Fr SPn M M' → Q M') : w_Writer_digits 0 v Q M := by
  have := Nat.le_trans pnN_le hl
  exact c_wdigits h (by unfold LPg at this; omega) hQ
theorem c_pe (h : cP p M) (hl : (pnE p).1.length ≤ LPg) (hQ : ∀ M', cP (pnE p) M' → Fr SPn M M' → Q M') : w_Writer_end 0 Q M := by
  have := Nat.le_trans pnE_le hl
  unfold w_Writer_end
  obtain ⟨h1, f, t, e1, e2, eg⟩ := h
  exact c_wput h1 (by unfold LPg at this; omega) (fun M1 hp hf e => hQ M1 ⟨hp, f, t, e.1.trans e1, e.2.trans e2, eg⟩ hf)
theorem c_ps (h : cP p M) (hl : (pnS b p).1.length ≤ LPg) (hQ : ∀ M', cP (pnS b p) M' → Fr SPn M M' → Q M') : w_Writer_sign 0 b Q M := by
  have hl : (p.1 ++ (if b = 61 then spc p.2 else []) ++ [b]).length ≤ LPg := hl
  rw [List.length_append, List.length_append, List.length_singleton] at hl
  have hs := spc_len (g := p.2)
  have fin : ∀ M1 g, cPn (p.1 ++ (if b = 61 then spc p.2 else [])) g M1 → Fr SPn M M1 → w_Writer_sign_j10 0 Q b M1 := fun M1 g hp hf => by
    unfold w_Writer_sign_j10
    obtain ⟨h1, -⟩ := hp
    refine c_wput h1 (by rw [List.length_append]; unfold LPg at hl; omega) (fun M2 hp2 hf2 e => ⟨Or.inl rfl, ?_⟩)
    have h3 : ∀ t : Bool, t = decide (b = 40 ∨ b = 46) → w_Writer_sign_j38 0 Q (b2 t) (sI M2 8 0 2 0) := fun t et => by
      unfold w_Writer_sign_j38
      refine ⟨by cases t <;> simp [b2], hQ _ ⟨hp2, false, t, rfl, rfl, ?_⟩ (Fr.wI rfl (Fr.wI rfl (hf.trans hf2)))⟩
      rw [et]; rfl
    unfold w_Writer_sign_j33
    by_cases c1 : b = 40
    · exact itp c1 (h3 true (decide_eq_true (Or.inl c1)).symm)
    refine itn c1 ?_
    by_cases c2 : b = 46
    · exact itp c2 (h3 true (decide_eq_true (Or.inr c2)).symm)
    · exact itn c2 (h3 false (decide_eq_false (fun z => z.elim c1 c2)).symm)
  unfold w_Writer_sign
  by_cases c : b = 61
  · refine itp c (c_wspace h (by unfold LPg at hl; omega) (fun M1 h1 f1 => fin M1 false ?_ f1))
    rw [if_pos c]; exact h1
  · refine itn c (fin M p.2 ?_ (Fr.rf _ _))
    rw [if_neg c, List.append_nil]; exact h
theorem c_plL (m : Nat) : ∀ n i P g M, i ≤ m → m - i < n → m < 1000 → cPn P g M → P.length + (m - i) ≤ 26000 → (∀ M', cPn (P ++ List.replicate (m - i) 32) true M' → Fr SPn M M' → Q M') → w_Writer_line_L2 0 Q n (Int32.ofNat m) (Int32.ofNat i) M
  | 0, i, P, g, M, hi, hn, hb, h, hl, hQ => absurd hn (by omega)
  | n + 1, i, P, g, M, hi, hn, hb, h, hl, hQ => by
    unfold w_Writer_line_L2
    obtain ⟨h1, f, t, e1, e2, eg⟩ := h
    by_cases e : i = m
    · subst e
      refine itp (le_oN (Nat.le_refl _) (by omega)) ⟨Or.inr rfl, Or.inl rfl, hQ _ ⟨?_, true, false, rfl, rfl, rfl⟩ (Fr.wI rfl (Fr.wI rfl (Fr.rf _ _)))⟩
      rw [Nat.sub_self]
      show cPg (P ++ []) _
      rw [List.append_nil]; exact h1
    · refine itn (nle_oN (by omega) (by omega)) (c_wput h1 (by omega) (fun M1 hp hf e3 => ?_))
      rw [lit32 1, oN_add]
      refine c_plL m n (i + 1) _ g M1 (by omega) (by omega) hb ⟨hp, f, t, e3.1.trans e1, e3.2.trans e2, eg⟩ (by rw [List.length_append, List.length_singleton]; omega) (fun M2 h2 f2 => hQ M2 ?_ (hf.trans f2))
      rw [show m - i = (m - (i + 1)) + 1 by omega, List.replicate_succ, List.append_cons]
      exact h2
theorem c_pl {n : Nat} (hn : n < 1000) (h : cP p M) (hl : (pnL n p).1.length ≤ LPg) (hQ : ∀ M', cP (pnL n p) M' → Fr SPn M M' → Q M') : w_Writer_line 0 (Int32.ofNat n) Q M := by
  have hl : (p.1 ++ List.replicate n 32).length ≤ LPg := hl
  rw [List.length_append, List.length_replicate] at hl
  unfold w_Writer_line
  exact ⟨n + 1, c_plL n _ 0 p.1 p.2 M (Nat.zero_le _) (by omega) hn h (by unfold LPg at hl; omega) hQ⟩
theorem c_pf (hC : CNm A M) (h : cP p M) (e1 : A[k1]? = some n1) (e2 : A[k2]? = some n2) (e3 : A[k3]? = some n3) (e4 : A[k4]? = some n4) (hl : (pnF b n1 n2 n3 n4 p).1.length ≤ LPg) (hQ : ∀ M', cP (pnF b n1 n2 n3 n4 p) M' → Fr SPn M M' → Q M') : w_Writer_flags 0 b (Int32.ofNat k1) (Int32.ofNat k2) (Int32.ofNat k3) (Int32.ofNat k4) Q M := by
  have st : ∀ (c : Int32) (kk : Nat) (nn : Nm) (q : Pen) (M1 : Mem) (R : Mem → Prop), A[kk]? = some nn → (if b &&& c = 0 then q else pnW nn q).1.length ≤ LPg → cP q M1 → Fr SPn M M1 → (∀ M2, cP (if b &&& c = 0 then q else pnW nn q) M2 → Fr SPn M M2 → R M2) → (if b &&& c = 0 then R M1 else w_Writer_word 0 (Int32.ofNat kk) R M1) := fun c kk nn q M1 R ek hl h1 f1 hR => by
    by_cases z : b &&& c = 0
    · rw [if_pos z] at hR ⊢
      exact hR M1 h1 f1
    · rw [if_neg z] at hR hl ⊢
      exact c_pw (hC.fr f1) h1 ek hl (fun M2 h2 f2 => hR M2 h2 (f1.trans f2))
  have le : ∀ (c : Int32) (nn : Nm) (q : Pen), q.1.length ≤ (if b &&& c = 0 then q else pnW nn q).1.length := fun c nn q => by
    split
    · exact Nat.le_refl _
    · exact pnW_le
  unfold pnF at hl hQ
  dsimp only at hl hQ
  have l3 := Nat.le_trans (le 8 n4 _) hl
  have l2 := Nat.le_trans (le 4 n3 _) l3
  have l1 := Nat.le_trans (le 2 n2 _) l2
  unfold w_Writer_flags
  refine st 1 k1 n1 p M _ e1 l1 h (Fr.rf _ _) (fun M1 h1 f1 => ?_)
  unfold w_Writer_flags_j11
  refine st 2 k2 n2 _ M1 _ e2 l2 h1 f1 (fun M2 h2 f2 => ?_)
  unfold w_Writer_flags_j22
  refine st 4 k3 n3 _ M2 _ e3 l3 h2 f2 (fun M3 h3 f3 => ?_)
  unfold w_Writer_flags_j34
  exact st 8 k4 n4 _ M3 _ e4 hl h3 f3 hQ
theorem c_pk (hC : CNm A M) (hB : Base A) (hA : A.length ≤ 200000) (h : cP p M) (hk : pkd κ) (ko : kok A κ) (hl : (pnK κ p).1.length ≤ LPg) (hQ : ∀ M', cP (pnK κ p) M' → Fr SPn M M' → Q M') : w_Writer_kind 0 (kC A κ) Q M := by
  have go : ∀ kk, A[kk]? = some (kdW κ) → w_Writer_kind_j64 0 Q (Int32.ofNat kk) M := fun kk e => by
    unfold w_Writer_kind_j64
    exact c_pw hC h e hl hQ
  have b1 : A[1]? = some (wA 1) := hB.at (by decide +kernel)
  have b73 : A[73]? = some (wA 73) := hB.at (by decide +kernel)
  have b74 : A[74]? = some (wA 74) := hB.at (by decide +kernel)
  have b2' : A[2]? = some (wA 2) := hB.at (by decide +kernel)
  have b75 : A[75]? = some (wA 75) := hB.at (by decide +kernel)
  have b76 : A[76]? = some (wA 76) := hB.at (by decide +kernel)
  unfold w_Writer_kind
  obtain ⟨κ1, κ2⟩ := κ
  unfold pkd at hk
  dsimp only at hk
  unfold kdW at go
  rcases hk with e | e | e | e | e | e | e <;> subst e
  · exact itp rfl (go 1 b1)
  · rw [show kC A ((1 : Int), κ2) = (1 : Int32) from rfl]
    exact itn (by decide) (itp rfl (go 73 b73))
  · rw [show kC A ((-4 : Int), κ2) = (-4 : Int32) from rfl]
    exact itn (by decide) (itn (by decide) (itp rfl (go 74 b74)))
  · rw [show kC A ((-1 : Int), κ2) = (-1 : Int32) from rfl]
    exact itn (by decide) (itn (by decide) (itn (by decide) (itp rfl (go 2 b2'))))
  · rw [show kC A ((-2 : Int), κ2) = (-2 : Int32) from rfl]
    exact itn (by decide) (itn (by decide) (itn (by decide) (itn (by decide) (itp rfl (go 75 b75)))))
  · rw [show kC A ((-3 : Int), κ2) = (-3 : Int32) from rfl]
    exact itn (by decide) (itn (by decide) (itn (by decide) (itn (by decide) (itn (by decide) (itp rfl (go 76 b76))))))
  · have hm : κ2 ∈ A := ko rfl
    have hi := List.idxOf_lt_length_of_mem hm
    have e : kC A ((2 : Int), κ2) = Int32.ofNat (A.idxOf κ2 + 2) := rfl
    rw [e]
    have ne : ∀ m : Nat, m < 2 → ¬ Int32.ofNat (A.idxOf κ2 + 2) = Int32.ofNat m := fun m hm z => by
      have := (oN_inj (by omega) (by omega)).mp z; omega
    have ng : ∀ y : Int32, y < 0 → ¬ Int32.ofNat (A.idxOf κ2 + 2) = y := fun y hy z => by
      rw [← z] at hy; exact oN_nonneg (by omega) hy
    refine itn (ne 0 (by omega)) (itn (ne 1 (by omega)) (itn (ng _ (by decide)) (itn (ng _ (by decide)) (itn (ng _ (by decide)) (itn (ng _ (by decide)) ?_)))))
    rw [lit32 2, sub_n (by omega), Nat.add_sub_cancel]
    refine go _ ?_
    rw [List.getElem?_eq_getElem hi, List.getElem_idxOf hi]
    rfl
end
