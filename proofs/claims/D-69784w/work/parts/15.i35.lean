/-! the works' writer: a class -/
def pnFc (c : Cls) : Nat → Pen → Pen
  | 0, p => p
  | k + 1, p => pnW (gf c k) (pnS 44 (pnFc c k p))
def pnFds (c : Cls) : Nat → Pen → Pen
  | 0, p => p
  | k + 1, p => pnFd (gfl c k) (pnFds c k p)
noncomputable def pnMs (c : Cls) : Nat → Pen → Pen
  | 0, p => p
  | k + 1, p => pnM (gmt c k) (pnMs c k p)
def pnHe (c : Cls) (p : Pen) : Pen := pnW c.2.1 (pnS 58 (pnW c.1 (pnW (wA 62) (pnF c.2.2.2.1 (wA 69) (wA 70) (wA 71) (wA 0) (pnL 0 p)))))
noncomputable def pnC (c : Cls) (p : Pen) : Pen := pnE (pnW (wA 68) (pnL 0 (pnMs c c.2.2.2.2.2.length (pnFds c c.2.2.2.2.1.length (pnE (pnFc c c.2.2.1.length (pnHe c p)))))))
theorem pnFd_le {x : Fld} {p : Pen} : p.1.length ≤ (pnFd x p).1.length := by
  unfold pnFd
  dsimp only
  have h1 : p.1.length ≤ (pnK x.2.1 (pnW x.1 (pnF x.2.2.1 (wA 52) (wA 69) (wA 72) (wA 0) (pnW (wA 63) (pnL 1 p))))).1.length := Nat.le_trans pnL_le (Nat.le_trans pnW_le (Nat.le_trans pnF_le (Nat.le_trans pnW_le pnK_le)))
  refine Nat.le_trans ?_ pnE_le
  split
  · exact Nat.le_trans h1 (Nat.le_trans pnS_le pnN_le)
  · exact h1
theorem pnM_le {x : Mth} {p : Pen} : p.1.length ≤ (pnM x p).1.length := by
  unfold pnM
  dsimp only
  have h1 : p.1.length ≤ (pnE (pnT x.2.1 x.2.2.1 (pnW x.1 (pnF x.2.2.2.1 (wA 52) (wA 69) (wA 72) (wA 70) (pnW (wA 64) (pnL 1 p)))))).1.length := Nat.le_trans pnL_le (Nat.le_trans pnW_le (Nat.le_trans pnF_le (Nat.le_trans pnW_le (Nat.le_trans pnT_le pnE_le))))
  split
  · exact Nat.le_trans h1 (Nat.le_trans pnL_le (Nat.le_trans pnW_le (Nat.le_trans pnN_le (Nat.le_trans pnN_le (Nat.le_trans pnE_le (Nat.le_trans pnCs_le (Nat.le_trans pnEl_le pnHs_le)))))))
  · exact h1
theorem pnFc_mono {c : Cls} {p : Pen} {i : Nat} : ∀ {k : Nat}, i ≤ k → (pnFc c i p).1.length ≤ (pnFc c k p).1.length
  | 0, h => by rw [show i = 0 by omega]; exact Nat.le_refl _
  | k + 1, h => by
    by_cases e : i = k + 1
    · rw [e]; exact Nat.le_refl _
    · exact Nat.le_trans (pnFc_mono (k := k) (by omega)) (Nat.le_trans pnS_le pnW_le)
theorem pnFds_mono {c : Cls} {p : Pen} {i : Nat} : ∀ {k : Nat}, i ≤ k → (pnFds c i p).1.length ≤ (pnFds c k p).1.length
  | 0, h => by rw [show i = 0 by omega]; exact Nat.le_refl _
  | k + 1, h => by
    by_cases e : i = k + 1
    · rw [e]; exact Nat.le_refl _
    · exact Nat.le_trans (pnFds_mono (k := k) (by omega)) pnFd_le
theorem pnMs_mono {c : Cls} {p : Pen} {i : Nat} : ∀ {k : Nat}, i ≤ k → (pnMs c i p).1.length ≤ (pnMs c k p).1.length
  | 0, h => by rw [show i = 0 by omega]; exact Nat.le_refl _
  | k + 1, h => by
    by_cases e : i = k + 1
    · rw [e]; exact Nat.le_refl _
    · exact Nat.le_trans (pnMs_mono (k := k) (by omega)) pnM_le
