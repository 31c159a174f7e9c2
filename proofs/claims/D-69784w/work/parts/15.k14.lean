/-! SPEC: foretell, reach and asked keep what holds of a world -/
def LkQ (W : List Cls) (a L : LkS) : Prop := LkM W a L ∧ LN W L
section
variable {br : Int32} {W : List Cls} {a L : LkS} {c k : Nat} {x : Mth} {i : Ins} {s : Ms} {K : Nat} {C : Nat → Int32}
theorem LkQ.ins (h51 : W.length ≤ 51) (h : LkQ W a L) : LkQ W a (fIns br W L c x i).2 := ⟨h.1.tr (fIns_ok h51 h.1.1).2, fIns_ln h.1.1.2.1 h51 h.2⟩
theorem LkQ.lk (h51 : W.length ≤ 51) (hk : k < W.length) (h : LkQ W a L) : LkQ W a (lkN br W 60 L k).2 := ⟨h.1.tr (lkN_M h51 h.1.1 hk), lkN_ln hk h.2⟩
theorem LkQ.mth {kn : Nm} {o : Nat} {acc : Nat → Bool} (h51 : W.length ≤ 51) (h : LkQ W a L) : LkQ W a (fMth br W L kn x o acc).2 := by
  rw [(fMth_ok h.1.1.2.1 h51).2]
  exact ⟨h.1.tr (lkd_M h51 h.1.1), lkd_ln h.2⟩
theorem LkQ.frC (h51 : W.length ≤ 51) : ∀ (is : List Ins) (k left : Nat) (L : LkS), LkQ W a L → LkQ W a (frtC br W c x is k left L).2
  | [], _, _, _, h => h
  | i :: is, k, left, L, h => by
    have h1 := LkQ.ins (br := br) (c := c) (x := x) (i := i) h51 h
    unfold frtC
    revert h1
    cases fIns br W L c x i with
    | mk y L' =>
      intro h1
      cases y with
      | inl e =>
        dsimp only
        by_cases z : left = 0
        · rw [if_pos z]; exact h1
        · rw [if_neg z]; exact LkQ.frC h51 is (k + 1) (left - 1) L' h1
      | inr q => exact LkQ.frC h51 is (k + 1) left L' h1
theorem LkQ.frM (h51 : W.length ≤ 51) : ∀ (xs : List Mth) (j left : Nat) (L : LkS), LkQ W a L → LkQ W a (frtM br W c xs j left L).2
  | [], _, _, _, h => h
  | x :: xs, j, left, L, h => by
    have h1 := LkQ.frC (br := br) (c := c) (x := x) h51 (co x) 0 left L h
    rw [frtM_c]
    revert h1
    cases frtC br W c x (co x) 0 left L with
    | mk y L' =>
      intro h1
      cases y with
      | inl l => exact LkQ.frM h51 xs (j + 1) l L' h1
      | inr q =>
        obtain ⟨k, e⟩ := q
        exact h1
theorem LkQ.cls {ab : Nat} (h51 : W.length ≤ 51) : ∀ (ks : List Nat) (z : RV × LkS), (∀ k ∈ ks, k < W.length) → LkQ W a z.2 → LkQ W a (clsV br W x ab ks z).2
  | [], _, _, h => h
  | k :: ks, z, hk, h => by
    have h1 := LkQ.lk (br := br) h51 (hk k (by simp)) h
    have hk' : ∀ k ∈ ks, k < W.length := fun k' h' => hk k' (by simp [h'])
    unfold clsV
    by_cases c1 : (gc W k).2.2.2.1 &&& 6 = 0 ∧ bel W k ab = true
    · rw [if_pos c1]
      by_cases c2 : (lkN br W 60 z.2 k).1 = 1
      · rw [if_pos c2]; exact LkQ.cls h51 ks _ hk' h1
      · rw [if_neg c2]; exact LkQ.cls h51 ks _ hk' h1
    · rw [if_neg c1]; exact LkQ.cls h51 ks z hk' h
theorem LkQ.rI (h51 : W.length ≤ 51) {z : RV × LkS} (h : LkQ W a z.2) : LkQ W a (rchI br W C c x i z).2 := by
  have h1 := LkQ.ins (br := br) (c := c) (x := x) (i := i) h51 h
  unfold rchI
  by_cases c1 : i.1 = 41 ∨ i.1 = 48 ∨ i.1 = 49 ∨ isMo i.1
  · rw [if_pos c1]
    revert h1
    cases fIns br W z.2 c x i with
    | mk y L' =>
      intro h1
      cases y with
      | inl e => exact h1
      | inr q =>
        dsimp only
        by_cases c2 : isMo i.1
        · rw [if_pos c2]
          by_cases c3 : i.1 = 52
          · rw [if_pos c3]; exact h1
          · rw [if_neg c3]
            by_cases c4 : i.1 = 51 ∨ ¬ (gmt (gc W q.1) q.2).2.2.2.1 &&& 4 = 0
            · rw [if_pos c4]; exact h1
            · rw [if_neg c4]
              cases fnd W (iK i) with
              | none => exact h1
              | some ab => exact LkQ.cls h51 _ _ (fun k hk => List.mem_range.mp hk) h1
        · rw [if_neg c2]; exact h1
  · rw [if_neg c1]; exact h
theorem LkQ.rC (h51 : W.length ≤ 51) : ∀ (is : List Ins) (z : RV × LkS), LkQ W a z.2 → LkQ W a (rchC br W C c x is z).2
  | [], _, h => h
  | i :: is, z, h => LkQ.rC h51 is _ (LkQ.rI h51 h)
theorem LkQ.rN (h51 : W.length ≤ 51) : ∀ (n k : Nat) (z : RV × LkS), LkQ W a z.2 → LkQ W a (rchN br W C n k z).2
  | 0, _, _, h => h
  | n + 1, k, z, h => by
    unfold rchN
    by_cases c1 : k < z.1.length
    · rw [if_pos c1]; exact LkQ.rN h51 n (k + 1) _ (LkQ.rC h51 _ _ h)
    · rw [if_neg c1]; exact h
theorem SpM.q (h : SpM W K s) : LkQ W (zL s) (zL s) := ⟨LkM.rf h.1.1.1.1.1.1.1, h.2.2.2⟩
theorem SpM.fr {cc b d : Int32} (h51 : W.length ≤ 51) (h : SpM W K s) : SpM W K (frtO br W cc b d s).2 := by
  unfold frtO
  split
  · exact h
  · have := LkQ.frM (br := br) (c := cc.toNatClampNeg) h51 (gc W cc.toNatClampNeg).2.2.2.2.2 0 b.toNatClampNeg (zL s) h.q
    exact h.yl this.1 this.2
theorem SpM.rc {cc b : Int32} {V : RV} (h51 : W.length ≤ 51) (h : SpM W K s) : SpM W K (rchO br W cc b V s).2.2 := by
  unfold rchO
  split
  · exact h
  · have := LkQ.rN (br := br) (C := zC s) h51 400 0 ([(cc.toNatClampNeg, b.toNatClampNeg)], zL s) h.q
    exact h.yl this.1 this.2
theorem SpM.ak {y : Nm × Nm × List Kd × Kd} (h51 : W.length ≤ 51) (hk : k < W.length) (h : SpM W K s) : SpM W K (yL s (askS br W (zL s) y k).2) := by
  have h1 := LkQ.mth (br := br) (kn := y.1) (x := mOf y) (o := 50) (acc := fun _ => true) h51 h.q
  have : LkQ W (zL s) (askS br W (zL s) y k).2 := by
    unfold askS
    revert h1
    cases fMth br W (zL s) y.1 (mOf y) 50 (fun _ => true) with
    | mk r L' =>
      intro h1
      cases r with
      | inl e => exact h1
      | inr r =>
        have h2 := LkQ.lk (br := br) h51 hk h1
        dsimp only
        split <;> exact h2
  exact h.yl this.1 this.2
end
