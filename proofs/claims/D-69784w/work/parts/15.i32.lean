/-! the works' writer: a method's handlers and code -/
noncomputable def pnHs (x : Mth) : Nat → Pen → Pen
  | 0, p => p
  | k + 1, p => pnHd x (ghn (hs x) k) (pnHs x k p)
noncomputable def pnC1 (x : Mth) (k : Nat) (p : Pen) : Pen :=
  let p := match iF (gin (co x) k) with
    | none => p
    | some f => pnFr f p
  pnE (pnIn x (gin (co x) k) (if tls x k = true then pnS 58 (pnLb x k (pnL 2 p)) else pnL 2 p))
noncomputable def pnCs (x : Mth) : Nat → Pen → Pen
  | 0, p => p
  | k + 1, p => pnC1 x k (pnCs x k p)
theorem pnHd_le {x : Mth} {y : Hnd} {p : Pen} : p.1.length ≤ (pnHd x y p).1.length := Nat.le_trans pnL_le (Nat.le_trans pnW_le (Nat.le_trans pnB_le (Nat.le_trans pnB_le (Nat.le_trans pnB_le (Nat.le_trans pnW_le pnE_le)))))
theorem pnHs_mono {x : Mth} {p : Pen} {i : Nat} : ∀ {k : Nat}, i ≤ k → (pnHs x i p).1.length ≤ (pnHs x k p).1.length
  | 0, h => by rw [show i = 0 by omega]; exact Nat.le_refl _
  | k + 1, h => by
    by_cases e : i = k + 1
    · rw [e]; exact Nat.le_refl _
    · exact Nat.le_trans (pnHs_mono (k := k) (by omega)) pnHd_le
/-- a method that is written -/
def MtW (A : List Nm) (W : List Cls) (w : Nat) (br : Int32) (nq nk np nh nr : Nat) (q : LkS) (m q0 h0 : Nat) (x : Mth) (M : Mem) : Prop := (KWr A W w br nq nk np nh nr q M ∧ nbD x M ∧ cRm w M) ∧ ((mI M 62 w m = Int32.ofNat q0 ∧ mI M 63 w m = Int32.ofNat (co x).length ∧ mI M 64 w m = Int32.ofNat h0 ∧ mI M 65 w m = Int32.ofNat (hs x).length) ∧ (mL M 62 w = 381 ∧ mL M 63 w = 381 ∧ mL M 64 w = 381 ∧ mL M 65 w = 381) ∧ m < 381 ∧ q0 + (co x).length ≤ nq ∧ h0 + (hs x).length ≤ nh) ∧ (∀ i, i < (co x).length → cFi A w nk np nr (q0 + i) (gin (co x) i) M) ∧ ∀ i, i < (hs x).length → cFh A w (h0 + i) (ghn (hs x) i) M
section
variable {A : List Nm} {W : List Cls} {w m q0 h0 : Nat} {br : Int32} {nq nk np nh nr : Nat} {q : LkS} {M M' : Mem} {Q : Mem → Prop} {p p0 : Pen} {x : Mth} {i : Ins}
theorem MtW.fr (hK : KB w nq nk np nh nr) (h : MtW A W w br nq nk np nh nr q m q0 h0 x M) (hf : Fr SPn M M') : MtW A W w br nq nk np nh nr q m q0 h0 x M' := by
  obtain ⟨⟨a1, a2, a3⟩, ⟨⟨b1, b2', b3, b4⟩, ⟨l1, l2, l3, l4⟩, c1, c2, c3⟩, d1, d2⟩ := h
  have I : ∀ {g : Nat} {k : Nat} {v : Int32}, Nat.ble 20 g = true → SPn.testBit g = false → mI M g w k = v → mI M' g w k = v := fun z1 z2 e => (hf.Ia z1 z2 w _).trans e
  refine ⟨⟨a1.fr hf, a2.fr hf, a3.lo (a1.1.fr hf).2⟩, ⟨⟨I rfl rfl b1, I rfl rfl b2', I rfl rfl b3, I rfl rfl b4⟩, ⟨(hf.L rfl w).trans l1, (hf.L rfl w).trans l2, (hf.L rfl w).trans l3, (hf.L rfl w).trans l4⟩, c1, c2, c3⟩, fun i hi => ?_, fun i hi => ?_⟩
  · exact (InW.fr (q := q) (x := x) (qi := q0 + i) (by omega) hK ⟨a1, a2, d1 i hi, a3⟩ hf).2.2.1
  · obtain ⟨e0, e1, e2, e3, hm⟩ := d2 i hi
    exact ⟨I rfl rfl e0, I rfl rfl e1, I rfl rfl e2, I rfl rfl e3, hm⟩
theorem tls_h (hx : wfM x) {k : Nat} (hk : k < (hs x).length) : ((ghn (hs x) k).1 ≤ (co x).length ∧ tls x (ghn (hs x) k).1 = true) ∧ ((ghn (hs x) k).2.1 ≤ (co x).length ∧ tls x (ghn (hs x) k).2.1 = true) ∧ ((ghn (hs x) k).2.2.1 ≤ (co x).length ∧ tls x (ghn (hs x) k).2.2.1 = true) := by
  have hw := hx.2.2.2.1.2 (ghn (hs x) k) (getD_mem hk)
  exact ⟨⟨Nat.le_of_lt hw.1, tls_iff.2 (Or.inr ⟨k, hk, Or.inl rfl⟩)⟩, ⟨hw.2.1, tls_iff.2 (Or.inr ⟨k, hk, Or.inr (Or.inl rfl)⟩)⟩, ⟨Nat.le_of_lt hw.2.2.1, tls_iff.2 (Or.inr ⟨k, hk, Or.inr (Or.inr rfl)⟩)⟩⟩
theorem c_pm274 (hx : wfM x) (hK : KB w nq nk np nh nr) (hl : (pnHs x (hs x).length p0).1.length ≤ LPg) : ∀ n k M, k ≤ (hs x).length → (hs x).length - k < n → MtW A W w br nq nk np nh nr q m q0 h0 x M → cP (pnHs x k p0) M → (∀ M', cP (pnHs x (hs x).length p0) M' → Fr SPn M M' → Q M') → w_Writer_method_L274 0 Q n (Int32.ofNat m) (Int32.ofNat k) M
  | 0, k, M, hk, hn, hM, h, hQ => absurd hn (by omega)
  | n + 1, k, M, hk, hn, hM, h, hQ => by
    have hL := L_le w
    have hK4 := hK.2.2.2.1
    obtain ⟨⟨a1, a2, a3⟩, ⟨⟨b1, b2', b3, b4⟩, ⟨l1, l2, l3, l4⟩, c1, c2, c3⟩, d1, d2⟩ := id hM
    unfold w_Writer_method_L274
    refine ⟨w, a1.2.2.2, ?_⟩
    rw [oN_tnc (k := m) (by omega), b4, l4]
    refine ⟨(vp_oN (by omega)).mpr c1, ?_⟩
    by_cases e : k = (hs x).length
    · subst e
      exact itp (le_oN (Nat.le_refl _) (by omega)) (hQ M h (Fr.rf _ _))
    refine itn (nle_oN (by omega) (by omega)) ⟨w, a1.2.2.2, by rw [l3]; exact (vp_oN (by omega)).mpr c1, ?_⟩
    rw [b3, oN_add, show (4 : Int32) * Int32.ofNat (h0 + k) = Int32.ofNat (4 * (h0 + k)) from oN_mul 4 _]
    have hkl : k < (hs x).length := by omega
    refine c_phandler a1 a2 h hx.2.2.1.1 (d2 k hkl) (by rw [a3.2.2.2.1]; omega) (by omega) (tls_h hx hkl) (Nat.le_trans (pnHs_mono (i := k + 1) (by omega)) hl) (fun M1 h1 f1 => ?_)
    rw [lit32 1, oN_add]
    exact c_pm274 hx hK hl n (k + 1) M1 (by omega) (by omega) (hM.fr hK f1) h1 (fun M2 h2 f2 => hQ M2 h2 (f1.trans f2))
end
