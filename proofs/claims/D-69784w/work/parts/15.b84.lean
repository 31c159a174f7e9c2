theorem c_define {B : List Nm} {r n : Nat} {p : Nat → Int32} {A : List Nm} {W : List Cls} {w : Nat} {br : Int32} {nq nk np nh nr : Nat} {Q : Int32 → Mem → Prop} {X : Mem → Prop} {M : Mem} {K : Nat × Nat × Nat × Nat × Nat × Nat} (hN : NC B A M) (hn : n ≤ 2900) (hT : n ≤ mL M 400 r ∧ (∀ k, k < n → mI M 400 r k = p k) ∧ tend p n) (hB : ∀ l ∈ lns p n 0, NB B l) (hCW : CWx A W w br nq nk np nh nr M) (hRd : cRd M) (h21 : 21 ≤ W.length) (hKO : KOk w K) (hBud : Bud K (lns p n 0) nq nk np nh nr) (htk : tk (lns p n 0) + 2 * (lns p n 0).length + 3 ≤ 3100)
    (hQ : ∀ A' W' M' nq' nk' np' nh' nr', runL br n (0, W, noM) (lns p n 0) = .inr W' → A <+: A' → NC B A' M' → CWx A' W' w br nq' nk' np' nh' nr' M' → cRd M' → cNw W.length (allF W).length W' w M' → W.length ≤ W'.length → Lo w (bA W.length (allF W).length (allM W).length nq nk np nh nr) M M' → Bud K [] nq' nk' np' nh' nr' → Q (Int32.ofNat (W'.length - W.length)) M')
    (hX : ∀ A' e M', runL br n (0, W, noM) (lns p n 0) = .inl e → A <+: A' → Thr B A' e M' → CWx A' W w br nq nk np nh nr M' → cRd M' → Lo w (bA W.length (allF W).length (allM W).length nq nk np nh nr) M M' → X M') : w_Reader_define 0 w r (Int32.ofNat n) Q X M := by
  obtain ⟨⟨c1, c2, c3⟩, Ms, ⟨k1, k2, k3, k4, k5, k6⟩, Rm, hnh⟩ := id hCW
  have e2 := c1.1.1.1
  have e17 := c2.1.1
  have k1 : mI M 5 w 26 = Int32.ofNat (allM W).length := k1
  have hW51 := c1.1.1.2.2.1
  unfold w_Reader_define
  refine ⟨w, rfl, w, rfl, w, rfl, w, rfl, w, rfl, w, rfl, w, rfl, w, rfl, ?_⟩
  have g2 : mI (sR M 3 0 1 (some (5, w))) 5 w 2 = Int32.ofNat W.length := e2
  have g17 : mI (sR M 3 0 1 (some (5, w))) 5 w 17 = Int32.ofNat (allF W).length := e17
  have g26 : mI (sR M 3 0 1 (some (5, w))) 5 w 26 = Int32.ofNat (allM W).length := k1
  have g39 : mI (sR M 3 0 1 (some (5, w))) 5 w 39 = Int32.ofNat nq := k2
  have g47 : mI (sR M 3 0 1 (some (5, w))) 5 w 47 = Int32.ofNat nk := k3
  have g49 : mI (sR M 3 0 1 (some (5, w))) 5 w 49 = Int32.ofNat np := k4
  have g51 : mI (sR M 3 0 1 (some (5, w))) 5 w 51 = Int32.ofNat nh := k5
  have g53 : mI (sR M 3 0 1 (some (5, w))) 5 w 53 = Int32.ofNat nr := k6
  rw [g2, g17, g26, g39, g47, g49, g51, g53]
  unfold w_Words_begin
  refine ⟨_, rfl, ?_⟩
  -- the start
  have start : ∀ M9, (∀ f i k, f ≠ 2 → mI M9 f i k = mI M f i k) → (∀ f i k, mJ M9 f i k = mJ M f i k) → (∀ f i, mL M9 f i = mL M f i) → mR M9 3 0 1 = some (5, w) → mR M9 2 0 0 = some (400, r) → mI M9 2 0 1 = Int32.ofNat n → mI M9 2 0 2 = Int32.ofNat 0 → (if Int32.ofNat n ≤ 0 then (w_Reader_define_j101 0 Q X (Int32.ofNat W.length) (Int32.ofNat (allF W).length) (Int32.ofNat (allM W).length) (Int32.ofNat nq) (Int32.ofNat nk) (Int32.ofNat np) (Int32.ofNat nh) (Int32.ofNat nr) M9) else (w_Reader_begin 0 (fun r27 M26 => if r27 = 0 then (w_Reader_define_j101 0 Q X (Int32.ofNat W.length) (Int32.ofNat (allF W).length) (Int32.ofNat (allM W).length) (Int32.ofNat nq) (Int32.ofNat nk) (Int32.ofNat np) (Int32.ofNat nh) (Int32.ofNat nr) M26) else (w_Reader_define_j102 0 Q X (Int32.ofNat W.length) (Int32.ofNat (allF W).length) (Int32.ofNat (allM W).length) (Int32.ofNat nq) (Int32.ofNat nk) (Int32.ofNat np) (Int32.ofNat nh) (Int32.ofNat nr) (1 : Int32) M26)) M9)) := by
    intro M9 i9 j9 l9 m31 m20 m21 m22
    have lo9 : Lo w (bA W.length (allF W).length (allM W).length nq nk np nh nr) M M9 := by
      refine ⟨fun f hf => ⟨fun i k _ => i9 f i k (fun z => by rw [z] at hf; cases hf), fun i => l9 f i⟩, fun i k _ _ => i9 5 i k (by omega), fun i k _ _ _ => i9 211 i k (by omega), fun i => l9 211 i⟩
    have hN9 : NC B A M9 := ⟨hN.1.of (i9 1 0 4 (by omega)) (fun k => i9 20 0 k (by omega)) (fun k => i9 21 0 k (by omega)) (fun k => i9 22 0 k (by omega)) (fun k => j9 600 0 k) (l9 20 0) (l9 21 0) (l9 22 0) (l9 600 0), hN.2⟩
    have hBT9 : BT B r n p A M9 := ⟨hN9, ⟨⟨m20, m21⟩, by rw [l9]; exact hT.1, by omega, fun k hk => by rw [i9 400 r k (by omega)]; exact hT.2.1 k hk, hT.2.2⟩, hn⟩
    have hx9 : CWx A W w br nq nk np nh nr M9 := hCW.back (List.prefix_refl _) c1.1.1.2.2.2 lo9 (i9 5 w 1 (by omega)) (i9 5 w 2 (by omega)) (i9 5 w 17 (by omega)) (i9 5 w 26 (by omega)) (i9 5 w 39 (by omega)) (i9 5 w 47 (by omega)) (i9 5 w 49 (by omega)) (i9 5 w 51 (by omega)) (i9 5 w 53 (by omega))
    have hRd9 : cRd M9 := ⟨(i9 3 0 17 (by omega)).trans hRd.1, fun f a c => (l9 f 0).trans (hRd.2.1 f a c), (l9 211 0).trans hRd.2.2⟩
    have cw9 : CW0 A W w br nq nk np nh nr M9 := hx9.z hRd9 m31
    obtain ⟨s1, s2, s3, s4, s5, s6, s7, s8⟩ := cw9.small (hBud.toW hKO)
    have nw9 : ∀ M', cNw W.length (allF W).length W w M' := fun M' => ⟨fun c a e => by omega, fun i a e => by omega⟩
    -- no class
    have none' : ∀ A1 M1, lns p n 0 = [] → A <+: A1 → NC B A1 M1 → CW0 A1 W w br nq nk np nh nr M1 → Lo w (bA W.length (allF W).length (allM W).length nq nk np nh nr) M M1 → w_Reader_define_j101 0 Q X (Int32.ofNat W.length) (Int32.ofNat (allF W).length) (Int32.ofNat (allM W).length) (Int32.ofNat nq) (Int32.ofNat nk) (Int32.ofNat np) (Int32.ofNat nh) (Int32.ofNat nr) M1 := fun A1 M1 e0 p1 nc1 cw1 lo1 => by
      unfold w_Reader_define_j101 w_Reader_define_j102
      refine ⟨1, ?_⟩
      unfold w_Reader_define_L104
      obtain ⟨⟨c, C1⟩, -⟩ := id cw1
      refine itp rfl ⟨w, C1.2.2.1, ?_⟩
      rw [C1.1.1.1.1, oN_sub (Nat.le_refl _)]
      rw [e0] at hBud hQ
      exact hQ A1 W M1 nq nk np nh nr rfl p1 nc1 cw1.x.1 cw1.x.2 (nw9 M1) (Nat.le_refl _) lo1 hBud
    by_cases hn0 : n = 0
    · refine itp (le_oN (b := 0) (by omega) (by omega)) (none' A M9 ?_ (List.prefix_refl _) hN9 cw9 lo9)
      have hp0 := hT.2.2
      have h10 : p 0 = 10 := hp0 0 (by omega)
      have hnl : nl p n 0 = 0 := by
        have := nl_ok (p := p) (n := n) (a := 0) hp0 (by omega)
        omega
      rw [lns_eq hp0 (by omega), hnl]
      have htk0 : (hd (full 0 (tks p n 0))).1 = 0 := by
        rw [full_hd (tks_ne hp0 (by omega)), tks_hd hp0 (by omega)]
        have hsk : scn (fun b => b == 32) p n 0 = 0 := scn_f (by rw [h10]; decide)
        have : lex p n 0 = lex1 p n 0 := by unfold lex; rw [hsk]
        rw [this]
        have : lex1 p n 0 = ((0, [], 0, scn (fun b => b != 10) p n 0), 0) := if_pos (Or.inr h10)
        rw [this]
      rw [if_pos htk0]
      unfold rln; rw [if_neg (by omega)]
    refine itn (nle_oN (b := 0) (by omega) (by omega)) ?_
    refine mf_w_Reader_begin (Q := fun v M' => Fr F_Reader_begin M9 M' → (if v = 0 then (w_Reader_define_j101 0 Q X (Int32.ofNat W.length) (Int32.ofNat (allF W).length) (Int32.ofNat (allM W).length) (Int32.ofNat nq) (Int32.ofNat nk) (Int32.ofNat np) (Int32.ofNat nh) (Int32.ofNat nr) M') else (w_Reader_define_j102 0 Q X (Int32.ofNat W.length) (Int32.ofNat (allF W).length) (Int32.ofNat (allM W).length) (Int32.ofNat nq) (Int32.ofNat nk) (Int32.ofNat np) (Int32.ofNat nh) (Int32.ofNat nr) (1 : Int32) M'))) (fun _ _ hf hp => hp hf) (c_begin hBT9 m22 (by omega) hB (fun A1 M1 e0 p1 bt1 hf => ?_) (fun A1 to l M1 e0 p1 R1 hln1 h11 hf => ?_))
    · have hw : Wq M9 M1 := Wq.of hf
      exact itp rfl (none' A1 M1 e0 p1 bt1.1 (CW0.pq ⟨s1, by omega, s4, s5, s6, s7, s8⟩ A A1 M9 M1 cw9 p1 bt1.1.len hw) (lo9.wk hw))
    · have hw : Wq M9 M1 := Wq.of hf
      refine itn (by decide) ?_
      have cw1 := CW0.pq ⟨s1, by omega, s4, s5, s6, s7, s8⟩ A A1 M9 M1 cw9 p1 R1.1.len hw
      have lo1 := lo9.wk hw
      rw [e0] at hBud htk
      have etk : (l :: rln p n to).length = (rln p n to).length + 1 := rfl
      have main : ∀ d A2 l2 to2 W2 nq2 nk2 np2 nh2 nr2 M2, (rln p n to2).length < d → A <+: A2 → RS B r n p to2 A2 l2 M2 → mI M2 3 0 2 = Int32.ofNat (hd l2).2.2.2 → (∀ x ∈ rln p n to2, NB B x ∧ x ∈ lns p n 0) → CW0 A2 W2 w br nq2 nk2 np2 nh2 nr2 M2 → cNw W.length (allF W).length W2 w M2 → W.length ≤ W2.length → Bud K (l2 :: rln p n to2) nq2 nk2 np2 nh2 nr2 → tk (l2 :: rln p n to2) + 2 * (rln p n to2).length + 3 ≤ 3100 → Ez w (bA W.length (allF W).length (allM W).length nq nk np nh nr) M1 M2 → (∀ f, bA W.length (allF W).length (allM W).length nq nk np nh nr f ≤ bA W2.length (allF W2).length (allM W2).length nq2 nk2 np2 nh2 nr2 f) → runL br n (0, W, noM) (lns p n 0) = runL br n (0, W2, noM) (l2 :: rln p n to2) → w_Reader_define_L104 0 Q X (d + 1) (Int32.ofNat W.length) (Int32.ofNat (allF W).length) (Int32.ofNat (allM W).length) (Int32.ofNat nq) (Int32.ofNat nk) (Int32.ofNat np) (Int32.ofNat nh) (Int32.ofNat nr) 1 M2 := by
        intro d
        induction d with
        | zero => intro A2 l2 to2 W2 nq2 nk2 np2 nh2 nr2 M2 h; omega
        | succ d ih =>
          intro A2 l2 to2 W2 nq2 nk2 np2 nh2 nr2 M2 hlen q2 R2 hln2 hNB2 cw2 nw2 hWW hB2 ht2 z2 hb2 hst
          unfold w_Reader_define_L104
          refine itn (by decide) ?_
          refine c_aClass (b := bA W.length (allF W).length (allM W).length nq nk np nh nr) (M0 := M1) (c0 := W.length) (f0 := (allF W).length) hKO (lns p n 0) R2 hln2 hNB2 cw2 nw2 (by omega) hB2 ht2 z2 hb2 (fun A' W' M' nq' nk' np' nh' nr' y1 y2 y3 y4 y5 y6 y7 y8 => ?_) (fun A' W' to' l' M' nq' nk' np' nh' nr' y1 y2 y3 y5 y6 y7 y8 y9 y10 y11 y12 y13 y14 => ?_) (fun A' e M' y1 y2 y3 y4 => ?_)
          · unfold w_Reader_define_L104
            obtain ⟨⟨c, C'⟩, -⟩ := id y4
            have hW' := C'.1.1.1.2.2.1
            refine itp rfl ⟨w, C'.2.2.1, ?_⟩
            rw [C'.1.1.1.1, oN_sub (by omega)]
            exact hQ A' W' M' nq' nk' np' nh' nr' (hst.trans y1) (q2.trans y2) y3 y4.x.1 y4.x.2 y5 (by omega) (lo1.trans y7.1) y8
          · exact ih A' l' to' W' nq' nk' np' nh' nr' M' (by omega) (q2.trans y2) y3 y5 y11 y6 y7 (by omega) y10 (by omega) y9 y14 (hst.trans y1)
          · unfold w_Reader_define_j129
            have m31' : mR M' 3 0 1 = some (5, w) := by
              rw [y4.2.1.1]; obtain ⟨⟨c, C1⟩, -⟩ := cw1; exact C1.2.2.1
            refine ⟨w, m31', w, m31', w, m31', w, m31', w, m31', _, rfl, w, m31', w, m31', w, m31', rfl, ?_⟩
            have lo' : Lo w (bA W.length (allF W).length (allM W).length nq nk np nh nr) M (sI (sI (sI (sI (sI (sI (sI (sI M' 5 w 2 (Int32.ofNat W.length)) 5 w 17 (Int32.ofNat (allF W).length)) 5 w 26 (Int32.ofNat (allM W).length)) 5 w 39 (Int32.ofNat nq)) 5 w 47 (Int32.ofNat nk)) 5 w 49 (Int32.ofNat np)) 5 w 51 (Int32.ofNat nh)) 5 w 53 (Int32.ofNat nr)) := ((((((((lo1.trans y4.1).w5).w5).w5).w5).w5).w5).w5).w5
            have hAl := y3.1.len
            have q' := q2.trans y2
            refine hX A' e _ (hst.trans y1) q' ⟨⟨y3.1.1.of rfl (fun _ => rfl) (fun _ => rfl) (fun _ => rfl) (fun _ => rfl) rfl rfl rfl rfl, y3.1.2⟩, y3.2.1, y3.2.2⟩ (hCW.back q' (by omega) lo' ?_ ?_ ?_ ?_ ?_ ?_ ?_ ?_ ?_) ?_ lo'
            · simp only [mI_sI, Nat.reduceEqDiff, and_false, if_false]
              rw [y4.2.1.2.2, hw.1.I (f := 5) (k := 1) rfl w]; exact i9 5 w 1 (by omega)
            · simp only [mI_sI, Nat.reduceEqDiff, and_false, if_false, and_self, if_true]; exact e2.symm
            · simp only [mI_sI, Nat.reduceEqDiff, and_false, if_false, and_self, if_true]; exact e17.symm
            · simp only [mI_sI, Nat.reduceEqDiff, and_false, if_false, and_self, if_true]; exact k1.symm
            · simp only [mI_sI, Nat.reduceEqDiff, and_false, if_false, and_self, if_true]; exact k2.symm
            · simp only [mI_sI, Nat.reduceEqDiff, and_false, if_false, and_self, if_true]; exact k3.symm
            · simp only [mI_sI, Nat.reduceEqDiff, and_false, if_false, and_self, if_true]; exact k4.symm
            · simp only [mI_sI, Nat.reduceEqDiff, and_false, if_false, and_self, if_true]; exact k5.symm
            · simp only [mI_sI, Nat.reduceEqDiff, and_false, if_false, and_self, if_true]; exact k6.symm
            · have rd1 : cRd M1 := cw1.x.2
              exact (rd1.ez y4).ez (w := w) (b := fun _ => 10000000) ((((((((Ez.rf w _ M').w5).w5).w5).w5).w5).w5).w5).w5
      unfold w_Reader_define_j102
      exact ⟨_, main ((rln p n to).length + 1) A1 l to W nq nk np nh nr M1 (by omega) p1 R1 hln1 (fun x hx => ⟨hB x (by rw [e0]; exact List.mem_cons_of_mem _ hx), by rw [e0]; exact List.mem_cons_of_mem _ hx⟩) cw1 (nw9 M1) (Nat.le_refl _) hBud (by omega) (Ez.rf w _ M1) (fun f => Nat.le_refl _) (by rw [e0])⟩
  refine start _ (fun f i k hf => ?_) (fun _ _ _ => rfl) (fun _ _ => rfl) ?_ ?_ ?_ ?_
  · rw [mI_sI, if_neg (fun z => hf z.1), mI_sI, if_neg (fun z => hf z.1)]; rfl
  · rfl
  · rfl
  · rfl
  · rfl
