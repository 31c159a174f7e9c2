/-! the works' writer: a handler, a frame -/
noncomputable def pnLb (x : Mth) (k : Nat) (p : Pen) : Pen := pnB (Int32.ofNat (rnk (tls x) k)) p
noncomputable def pnHd (x : Mth) (y : Hnd) (p : Pen) : Pen := pnE (pnW y.2.2.2 (pnLb x y.2.2.1 (pnLb x y.2.1 (pnLb x y.1 (pnW (wA 67) (pnL 2 p))))))
def pnFr (f : List Kd × List Kd) (p : Pen) : Pen := pnE (pnKs f.2 f.2.length (pnS 59 (pnKs f.1 f.1.length (pnW (wA 66) (pnL 2 p)))))
/-- the labels' numbers of a method -/
def nbD (x : Mth) (M : Mem) : Prop := mL M 96 0 = 81 ∧ ∀ k, k ≤ (co x).length → tls x k = true → mI M 96 0 k = Int32.ofNat (rnk (tls x) k)
theorem nbD.fr {x : Mth} {M M' : Mem} (h : nbD x M) (hf : Fr SPn M M') : nbD x M' := ⟨(hf.L rfl 0).trans h.1, fun k hk ht => (hf.Ia rfl rfl 0 k).trans (h.2 k hk ht)⟩
section
variable {A : List Nm} {W : List Cls} {w c j : Nat} {br : Int32} {nq nk np nh nr : Nat} {q : LkS} {M M' : Mem} {Q : Mem → Prop} {p : Pen} {x : Mth} {y : Hnd}
theorem c_plx {k : Nat} (hn : nbD x M) (h : cP p M) (hk : k ≤ (co x).length) (h80 : (co x).length ≤ 80) (ht : tls x k = true) (hl : (pnLb x k p).1.length ≤ LPg) (hQ : ∀ M', cP (pnLb x k p) M' → Fr SPn M M' → Q M') : w_Writer_label 0 (Int32.ofNat k) Q M := c_plb h (by rw [hn.1]; omega) (by omega) (hn.2 k hk ht) hl hQ
theorem c_phandler (hW : KWr A W w br nq nk np nh nr q M) (hn : nbD x M) (h : cP p M) (h80 : (co x).length ≤ 80) (hy : cFh A w j y M) (hL : 4 * j + 4 ≤ mL M 75 w) (hj : j < 1000000) (ht : (y.1 ≤ (co x).length ∧ tls x y.1 = true) ∧ (y.2.1 ≤ (co x).length ∧ tls x y.2.1 = true) ∧ (y.2.2.1 ≤ (co x).length ∧ tls x y.2.2.1 = true)) (hl : (pnHd x y p).1.length ≤ LPg) (hQ : ∀ M', cP (pnHd x y p) M' → Fr SPn M M' → Q M') : w_Writer_handler 0 (Int32.ofNat (4 * j)) Q M := by
  obtain ⟨e0, e1, e2, e3, hm⟩ := hy
  obtain ⟨⟨t0, u0⟩, ⟨t1, u1⟩, t2, u2⟩ := ht
  unfold pnHd at hl hQ
  have lE := Nat.le_trans pnE_le hl
  have lW := Nat.le_trans pnW_le lE
  have lC : (pnLb x y.2.1 (pnLb x y.1 (pnW (wA 67) (pnL 2 p)))).1.length ≤ LPg := Nat.le_trans pnB_le lW
  have lB : (pnLb x y.1 (pnW (wA 67) (pnL 2 p))).1.length ≤ LPg := Nat.le_trans pnB_le lC
  have lA : (pnW (wA 67) (pnL 2 p)).1.length ≤ LPg := Nat.le_trans pnB_le lB
  have lL := Nat.le_trans pnW_le lA
  have hB := hW.2.2.1
  have R : ∀ M1, Fr SPn M M1 → mR M1 8 0 5 = some (5, w) := fun M1 f1 => (hW.fr f1).2.2.2
  have one : ∀ (f i t : Nat) (p1 : Pen) (M1 : Mem), i < 3 → Fr SPn M M1 → mI M 75 w (4 * j + i) = Int32.ofNat t → t ≤ (co x).length → tls x t = true → cP p1 M1 → (pnLb x t p1).1.length ≤ LPg → (∀ M2, cP (pnLb x t p1) M2 → Fr SPn M M2 → w_Writer_handler_L13 0 Q f (Int32.ofNat (4 * j)) (Int32.ofNat (i + 1)) M2) → w_Writer_handler_L13 0 Q (f + 1) (Int32.ofNat (4 * j)) (Int32.ofNat i) M1 := fun f i t p1 M1 hi f1 et h1 h2 hp hl1 hgo => by
    unfold w_Writer_handler_L13
    refine itn (nle_oN (a := 3) (by omega) (by omega)) ⟨w, R M1 f1, ?_⟩
    rw [oN_add, oN_tnc (k := 4 * j + i) (by omega), (f1.Ia rfl rfl w _).trans et, f1.L rfl w]
    refine ⟨(vp_oN (by omega)).mpr (by omega), c_plx (hn.fr f1) hp h1 h80 h2 hl1 (fun M2 h3 f2 => ?_)⟩
    rw [lit32 1, oN_add]
    exact hgo M2 h3 (f1.trans f2)
  unfold w_Writer_handler
  refine c_pl (n := 2) (by omega) h lL (fun M1 h1 f1 => ?_)
  refine c_pw (k := 67) (hW.fr f1).2.1 h1 (hB.at (by decide +kernel)) lA (fun M2 h2 f2 => ⟨4, ?_⟩)
  have f2 := f1.trans f2
  refine one 3 0 _ _ M2 (by omega) f2 e0 t0 u0 h2 lB (fun M3 h3 f3 => ?_)
  refine one 2 1 _ _ M3 (by omega) f3 e1 t1 u1 h3 lC (fun M4 h4 f4 => ?_)
  refine one 1 2 _ _ M4 (by omega) f4 e2 t2 u2 h4 lW (fun M5 h5 f5 => ?_)
  unfold w_Writer_handler_L13
  refine itp (le_oN (a := 3) (Nat.le_refl _) (by omega)) ⟨w, R M5 f5, ?_⟩
  rw [lit32 3, oN_add, oN_tnc (k := 4 * j + 3) (by omega), (f5.Ia rfl rfl w _).trans e3, f5.L rfl w]
  refine ⟨(vp_oN (by omega)).mpr (by omega), c_pw (hW.fr f5).2.1 h5 (idx_at hm) lE (fun M6 h6 f6 => ?_)⟩
  exact c_pe h6 hl (fun M7 h7 f7 => hQ M7 h7 ((f5.trans f6).trans f7))
end
