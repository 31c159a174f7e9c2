/-! the works' writer: a field, a handler -/
/-- the world that is written -/
def KWr (A : List Nm) (W : List Cls) (w : Nat) (br : Int32) (nq nk np nh nr : Nat) (q : LkS) (M : Mem) : Prop := LKw A W w br nq nk np nh nr q M ∧ CNm A M ∧ Base A ∧ mR M 8 0 5 = some (5, w)
def pnFd (x : Fld) (p : Pen) : Pen :=
  let p := pnK x.2.1 (pnW x.1 (pnF x.2.2.1 (wA 52) (wA 69) (wA 72) (wA 0) (pnW (wA 63) (pnL 1 p))))
  pnE (if x.2.2.2.2 = true then pnN x.2.2.2.1 (pnS 61 p) else p)
theorem pnF_le {b : Int32} {n1 n2 n3 n4 : Nm} {p : Pen} : p.1.length ≤ (pnF b n1 n2 n3 n4 p).1.length := by
  unfold pnF
  dsimp only
  have le : ∀ (c : Int32) (nn : Nm) (q : Pen), q.1.length ≤ (if b &&& c = 0 then q else pnW nn q).1.length := fun c nn q => by
    split
    · exact Nat.le_refl _
    · exact pnW_le
  exact Nat.le_trans (le 1 n1 p) (Nat.le_trans (le 2 n2 _) (Nat.le_trans (le 4 n3 _) (le 8 n4 _)))
section
variable {A : List Nm} {W : List Cls} {w c f : Nat} {br : Int32} {nq nk np nh nr : Nat} {q : LkS} {M M' : Mem} {Q : Mem → Prop} {p : Pen} {nm : Nm}
theorem KWr.fr (h : KWr A W w br nq nk np nh nr q M) (hf : Fr SPn M M') : KWr A W w br nq nk np nh nr q M' := ⟨(h.1.fr hf).1, h.2.1.fr hf, h.2.2.1, (hf.R (f := 8) (k := 5) rfl 0).trans h.2.2.2⟩
theorem idx_at (hm : nm ∈ A) : A[A.idxOf nm]? = some nm := by
  have hi := List.idxOf_lt_length_of_mem hm
  rw [List.getElem?_eq_getElem hi, List.getElem_idxOf hi]
theorem c_pfield (hA : A.length ≤ 200000) (h51 : W.length ≤ 51) (hW : KWr A W w br nq nk np nh nr q M) (h : cP p M) (hc : c < W.length) (hf : f < (gc W c).2.2.2.2.1.length) (hty : tyOk (gfl (gc W c) f).2.1) (hl : (pnFd (gfl (gc W c) f) p).1.length ≤ LPg) (hQ : ∀ M', cP (pnFd (gfl (gc W c) f) p) M' → Fr SPn M M' → Q M') : w_Writer_field 0 (Int32.ofNat (foff W c + f)) Q M := by
  obtain ⟨⟨-, ⟨l1, l2, l3, l4, l5, l6, l7⟩, -⟩, fl2, fl3⟩ := id hW.1.1.1.2.1
  obtain ⟨g1, g2⟩ := gF1_at hc hf
  have hfo := foff_le (W := W) (fun c hc => ⟨(fl2 c hc).2.1, (fl2 c hc).2.2⟩) W.length (Nat.le_refl _)
  rw [foff_all] at hfo
  obtain ⟨⟨e49, m49⟩, ⟨e50, k50⟩, e51, e52, e511⟩ := fl3 _ g1
  rw [g2] at e49 m49 e50 k50 e51 e52 e511
  have v240 : ∀ {m : Nat}, m = 240 → vp_in (Int32.ofNat (foff W c + f)) m := fun e => by rw [e]; exact (vp_oN (by omega)).mpr (by omega)
  have hpk : pkd (gfl (gc W c) f).2.1 := by
    rcases hty with z | z | z
    · rw [z]; exact Or.inl rfl
    · rw [z]; exact Or.inr (Or.inl rfl)
    · exact Or.inr (Or.inr (Or.inr (Or.inr (Or.inr (Or.inr z)))))
  generalize hx : gfl (gc W c) f = x at *
  have R : ∀ M1, Fr SPn M M1 → mR M1 8 0 5 = some (5, w) := fun M1 f1 => (hW.fr f1).2.2.2
  have I : ∀ {g : Nat} {M1 : Mem} {v : Int32}, Fr SPn M M1 → Nat.ble 20 g = true → SPn.testBit g = false → mI M g w (foff W c + f) = v → mI M1 g w (foff W c + f) = v := fun f1 z1 z2 e => (f1.Ia z1 z2 w _).trans e
  have L : ∀ {g n : Nat} {M1 : Mem}, Fr SPn M M1 → SPn.testBit (5000 + g) = false → mL M g w = n → mL M1 g w = n := fun f1 z e => (f1.L z w).trans e
  unfold pnFd at hl hQ
  dsimp only at hl hQ
  have lE := Nat.le_trans pnE_le hl
  have lK : (pnK x.2.1 (pnW x.1 (pnF x.2.2.1 (wA 52) (wA 69) (wA 72) (wA 0) (pnW (wA 63) (pnL 1 p))))).1.length ≤ LPg := by
    by_cases z : x.2.2.2.2 = true
    · rw [if_pos z] at lE; exact Nat.le_trans pnS_le (Nat.le_trans pnN_le lE)
    · rw [if_neg z] at lE; exact lE
  have lW := Nat.le_trans pnK_le lK
  have lF := Nat.le_trans pnW_le lW
  have l63 := Nat.le_trans pnF_le lF
  have lL := Nat.le_trans pnW_le l63
  have hB := hW.2.2.1
  unfold w_Writer_field
  refine c_pl (n := 1) (by omega) h lL (fun M1 h1 f1 => ?_)
  refine c_pw (k := 63) (hW.fr f1).2.1 h1 (hB.at (by decide +kernel)) l63 (fun M2 h2 f2 => ?_)
  have f2 := f1.trans f2
  refine ⟨w, R M2 f2, v240 (L f2 rfl l3), ?_⟩
  rw [oN_tnc (k := foff W c + f) (by omega), I f2 rfl rfl e51]
  refine c_pf (k1 := 52) (k2 := 69) (k3 := 72) (k4 := 0) (hW.fr f2).2.1 h2 (hB.at (by decide +kernel)) (hB.at (by decide +kernel)) (hB.at (by decide +kernel)) (hB.at (by decide +kernel)) lF (fun M3 h3 f3 => ?_)
  have f3 := f2.trans f3
  refine ⟨w, R M3 f3, v240 (L f3 rfl l1), ?_⟩
  rw [I f3 rfl rfl e49]
  refine c_pw (hW.fr f3).2.1 h3 (idx_at m49) lW (fun M4 h4 f4 => ?_)
  have f4 := f3.trans f4
  refine ⟨w, R M4 f4, v240 (L f4 rfl l2), ?_⟩
  rw [I f4 rfl rfl e50]
  refine c_pk (hW.fr f4).2.1 hB hA h4 hpk k50 lK (fun M5 h5 f5 => ?_)
  have f5 := f4.trans f5
  refine ⟨w, R M5 f5, v240 (L f5 rfl l5), ?_⟩
  rw [I f5 rfl rfl e511]
  unfold w_Writer_field_j88
  by_cases z : x.2.2.2.2 = true
  · rw [if_pos z] at lE hl hQ
    rw [z]
    refine itn (by decide) (c_ps h5 (Nat.le_trans pnN_le lE) (fun M6 h6 f6 => ?_))
    have f6 := f5.trans f6
    refine ⟨w, R M6 f6, v240 (L f6 rfl l4), ?_⟩
    rw [I f6 rfl rfl e52]
    exact c_pn h6 lE (fun M7 h7 f7 => c_pe h7 hl (fun M8 h8 f8 => hQ M8 h8 ((f6.trans f7).trans f8)))
  · rw [if_neg z] at lE hl hQ
    rw [Bool.eq_false_iff.2 z]
    exact itp rfl (c_pe h5 hl (fun M6 h6 f6 => hQ M6 h6 (f5.trans f6)))
end
