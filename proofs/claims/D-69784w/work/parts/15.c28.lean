/-! B: define, in both -/
/-- a tape as a text -/
def pT (tp : List Int32) (k : Nat) : Int32 := if k < tp.length then gi tp k else 10
theorem pT_end (tp : List Int32) : tend (pT tp) tp.length := fun k hk => if_neg (by omega)
theorem pT_in {tp : List Int32} {k : Nat} (h : k < tp.length) : pT tp k = gi tp k := if_pos h
theorem cOn.fr {on : Nat → Bool} {M M' : Mem} {F : Nat} (h : cOn on M) (hf : Fr F M M') (h1 : F.testBit 702 = false := by rfl) (h2 : F.testBit (5000 + 702) = false := by rfl) : cOn on M' := ⟨(hf.L h2 0).trans h.1, fun k hk => (hf.Ra rfl h1 0 k).trans (h.2 k hk)⟩
theorem c_wdefine {on : Nat → Bool} {k : Nat} {tp : List Int32} {B A : List Nm} {W : List Cls} {br : Int32} {nq nk np nh nr : Nat} {Q : Int32 → Mem → Prop} {M : Mem} {K : Nat × Nat × Nat × Nat × Nat × Nat} (hk : k < 3) (hOn : cOn on M) (hon : on k = true) (hTp : tpC tp M) (hn : tp.length ≤ 2900) (hN : NC B A M) (hB : ∀ l ∈ lns (pT tp) tp.length 0, NB B l) (hCW : CWx A W (k + 1) br nq nk np nh nr M) (hRd : cRd M) (h21 : 21 ≤ W.length) (hKO : KOk (k + 1) K) (hBud : Bud K (lns (pT tp) tp.length 0) nq nk np nh nr) (htk : tk (lns (pT tp) tp.length 0) + 2 * (lns (pT tp) tp.length 0).length + 3 ≤ 3100)
    (hQ : ∀ A' W' M' nq' nk' np' nh' nr', runL br tp.length (0, W, noM) (lns (pT tp) tp.length 0) = .inr W' → A <+: A' → NC B A' M' → CWx A' W' (k + 1) br nq' nk' np' nh' nr' M' → cRd M' → cNw W.length (allF W).length W' (k + 1) M' → W.length ≤ W'.length → Lo (k + 1) (bA W.length (allF W).length (allM W).length nq nk np nh nr) M M' → Bud K [] nq' nk' np' nh' nr' → tpC [] M' → mI M' 10 0 21 = -2 → cOn on M' → Q (Int32.ofNat (W'.length - W.length)) M')
    (hX : ∀ A' e M', runL br tp.length (0, W, noM) (lns (pT tp) tp.length 0) = .inl e → A <+: A' → NC B A' M' → CWx A' W (k + 1) br nq nk np nh nr M' → cRd M' → Lo (k + 1) (bA W.length (allF W).length (allM W).length nq nk np nh nr) M M' → tpC [] M' → mI M' 10 0 21 = Int32.ofNat e.2 → cOn on M' → Q (-10 - Int32.ofNat e.1) M') : w_Works_define 0 (Int32.ofNat k) Q M := by
  unfold w_Works_define
  refine c_isWorld hOn (fun j hj e _ _ => ?_) (fun q => by rw [wOf_k hk, hon] at q; cases q)
  refine itn (by decide) ?_
  obtain ⟨t1, t2, t3, t4⟩ := hTp
  rw [t1, oN_tnc (by omega)]
  obtain ⟨M1, hM1⟩ : ∃ M1, M1 = sI (sI M 10 0 1 0) 10 0 21 (-2) := ⟨_, rfl⟩
  have i9 : ∀ f i k, f ≠ 10 → mI M1 f i k = mI M f i k := fun f i k hf => by rw [hM1, mI_sI, if_neg (fun q => hf q.1), mI_sI, if_neg (fun q => hf q.1)]
  have j9 : ∀ f i k, mJ M1 f i k = mJ M f i k := fun f i k => by rw [hM1]; rfl
  have l9 : ∀ f i, mL M1 f i = mL M f i := fun f i => by rw [hM1]; rfl
  have r9 : ∀ f i k, mR M1 f i k = mR M f i k := fun f i k => by rw [hM1]; rfl
  have c1 : mI M1 10 0 1 = 0 := by rw [hM1]; simp only [mI_sI, mI_sR, mI_sJ, mR_sI, mL_sI, mL_sR, mR_sR, Nat.reduceEqDiff, and_false, false_and, if_false, and_self, true_and, and_true, if_true]
  have c21 : mI M1 10 0 21 = -2 := by rw [hM1]; simp only [mI_sI, mI_sR, mI_sJ, mR_sI, mL_sI, mL_sR, mR_sR, Nat.reduceEqDiff, and_false, false_and, if_false, and_self, true_and, and_true, if_true]
  rw [← hM1]
  clear hM1
  have lo9 : Lo (k + 1) (bA W.length (allF W).length (allM W).length nq nk np nh nr) M M1 :=
    ⟨fun f hf => ⟨fun i k _ => i9 f i k (fun z => by rw [z] at hf; cases hf), fun i => l9 f i⟩, fun i k _ _ => i9 5 i k (by omega), fun i k _ _ _ => i9 211 i k (by omega), fun i => l9 211 i⟩
  have hN9 : NC B A M1 := ⟨hN.1.of (i9 1 0 4 (by omega)) (fun k => i9 20 0 k (by omega)) (fun k => i9 21 0 k (by omega)) (fun k => i9 22 0 k (by omega)) (fun k => j9 600 0 k) (l9 20 0) (l9 21 0) (l9 22 0) (l9 600 0), hN.2⟩
  have hx9 : CWx A W (k + 1) br nq nk np nh nr M1 := hCW.back (List.prefix_refl _) hCW.1.1.1.1.2.2.2 lo9 (i9 5 _ 1 (by omega)) (i9 5 _ 2 (by omega)) (i9 5 _ 17 (by omega)) (i9 5 _ 26 (by omega)) (i9 5 _ 39 (by omega)) (i9 5 _ 47 (by omega)) (i9 5 _ 49 (by omega)) (i9 5 _ 51 (by omega)) (i9 5 _ 53 (by omega))
  have hRd9 : cRd M1 := ⟨(i9 3 0 17 (by omega)).trans hRd.1, fun f a c => (l9 f 0).trans (hRd.2.1 f a c), (l9 211 0).trans hRd.2.2⟩
  have hOn9 : cOn on M1 := ⟨(l9 702 0).trans hOn.1, fun j hj => (r9 702 0 j).trans (hOn.2 j hj)⟩
  have e702 := hOn9.2 k hk
  rw [hon] at e702
  refine ⟨by rw [hOn9.1]; exact (vp_oN (by omega)).mpr hk, k + 1, e702, ?_⟩
  have tp0 : ∀ M', Fr F_Reader_define M1 M' → tpC [] M' := fun M' hf => ⟨(hf.I (f := 10) (k := 1) rfl 0).trans c1, by rw [hf.L (f := 400) rfl, l9]; exact t2, by simp, fun j hj => absurd hj (by simp)⟩
  refine mf_w_Reader_define (Q := fun v M' => Fr F_Reader_define M1 M' → Q v M') (X := fun M' => Fr F_Reader_define M1 M' → w_Works_define_j45 0 Q 0 M') (fun _ _ hf hp => hp hf) (fun _ hf hp => hp hf) (c_define (p := pT tp) hN9 hn ⟨by rw [l9, t2]; exact t3, fun j hj => by rw [i9 400 0 j (by omega), t4 j hj, pT_in hj], pT_end tp⟩ hB hx9 hRd9 h21 hKO hBud htk (fun A' W' M' nq' nk' np' nh' nr' y1 y2 y3 y4 y5 y6 y7 y8 y9 hf => ?_) (fun A' e M' y1 y2 y3 y4 y5 y6 hf => ?_))
  · exact hQ A' W' M' nq' nk' np' nh' nr' y1 y2 y3 y4 y5 y6 y7 (lo9.trans y8) y9 (tp0 M' hf) ((hf.I (f := 10) (k := 21) rfl 0).trans c21) (hOn9.fr hf)
  · unfold w_Works_define_j45
    obtain ⟨z1, z2, z3⟩ := y3
    obtain ⟨M2, hM2⟩ : ∃ M2, M2 = sI M' 10 0 21 (mI M' 9 0 6) := ⟨_, rfl⟩
    have q9 : ∀ f i k, f ≠ 10 → mI M2 f i k = mI M' f i k := fun f i k hf => by rw [hM2, mI_sI, if_neg (fun q => hf q.1)]
    have qj : ∀ f i k, mJ M2 f i k = mJ M' f i k := fun f i k => by rw [hM2]; rfl
    have ql : ∀ f i, mL M2 f i = mL M' f i := fun f i => by rw [hM2]; rfl
    have qr : ∀ f i k, mR M2 f i k = mR M' f i k := fun f i k => by rw [hM2]; rfl
    have q1 : mI M2 10 0 1 = mI M' 10 0 1 := by rw [hM2]; simp only [mI_sI, mI_sR, mI_sJ, mR_sI, mL_sI, mL_sR, mR_sR, Nat.reduceEqDiff, and_false, false_and, if_false, and_self, true_and, and_true, if_true]
    have q21 : mI M2 10 0 21 = Int32.ofNat e.2 := by rw [hM2, ← z3]; simp only [mI_sI, mI_sR, mI_sJ, mR_sI, mL_sI, mL_sR, mR_sR, Nat.reduceEqDiff, and_false, false_and, if_false, and_self, true_and, and_true, if_true]
    rw [← hM2, q9 9 0 5 (by omega), z2]
    clear hM2
    have lo2 : Lo (k + 1) (bA W.length (allF W).length (allM W).length nq nk np nh nr) M' M2 :=
      ⟨fun f hf => ⟨fun i k _ => q9 f i k (fun z => by rw [z] at hf; cases hf), fun i => ql f i⟩, fun i k _ _ => q9 5 i k (by omega), fun i k _ _ _ => q9 211 i k (by omega), fun i => ql 211 i⟩
    have on' := hOn9.fr hf
    have tp' := tp0 M' hf
    exact hX A' e M2 y1 y2 ⟨z1.1.of (q9 1 0 4 (by omega)) (fun k => q9 20 0 k (by omega)) (fun k => q9 21 0 k (by omega)) (fun k => q9 22 0 k (by omega)) (fun k => qj 600 0 k) (ql 20 0) (ql 21 0) (ql 22 0) (ql 600 0), z1.2⟩ (y4.back (List.prefix_refl _) y4.1.1.1.1.2.2.2 lo2 (q9 5 _ 1 (by omega)) (q9 5 _ 2 (by omega)) (q9 5 _ 17 (by omega)) (q9 5 _ 26 (by omega)) (q9 5 _ 39 (by omega)) (q9 5 _ 47 (by omega)) (q9 5 _ 49 (by omega)) (q9 5 _ 51 (by omega)) (q9 5 _ 53 (by omega))) ⟨(q9 3 0 17 (by omega)).trans y5.1, fun f a c => (ql f 0).trans (y5.2.1 f a c), (ql 211 0).trans y5.2.2⟩ ((lo9.trans y6).trans lo2) ⟨q1.trans tp'.1, (ql 400 0).trans tp'.2.1, tp'.2.2.1, fun j hj => absurd hj (by simp)⟩ q21 ⟨(ql 702 0).trans on'.1, fun j hj => (qr 702 0 j).trans (on'.2 j hj)⟩
