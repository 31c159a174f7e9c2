/-! THE OPERATIONS reach, reached, in the works -/
section
variable {A : List Nm} {W : List Cls} {w k C0 B F K c j r qi ab : Nat} {br a b cc : Int32} {nq nk np nh nr : Nat} {s : Ms} {M M' M0 : Mem} {Q : Int32 → Mem → Prop} {on : Nat → Bool} {L0 : LkS} {x : Mth} {V : RV} {m : Nat × Nat} {z : RV × LkS} {C : Nat → Int32}
theorem LKw.q0 {L L' : LkS} {q0 : Nat} (hK : KB w nq nk np nh nr) (lk : LKw A W w br nq nk np nh nr L' M') (hf : Fr F_Works_reach M M') (hc : c < W.length) (hj : j < (gc W c).2.2.2.2.2.length) (e62 : mI M 62 w (moff W c + j) = Int32.ofNat q0) (hq0 : q0 ≤ nq) (hk : k < (co (gmt (gc W c) j)).length) : cFi A w nk np nr (q0 + k) (gin (co (gmt (gc W c) j)) k) M' := by
  obtain ⟨hH, q1, h1, ⟨e62', e63, hq, h80, -⟩, hIs, -⟩ := lk.1.2.1.2.2 c hc j hj
  have hLb := L_le w
  have := hK.1
  have e : q1 = q0 := by
    have e0 : Int32.ofNat q1 = Int32.ofNat q0 := by rw [← e62', hf.Ia (f := 62) rfl rfl, e62]
    have e1 := congrArg Int32.toInt e0
    rw [oN_toInt (by omega), oN_toInt (by omega)] at e1
    omega
  subst e
  exact hIs k hk
theorem c_rch100 (hW : WO W) (hnA : nA A) (hK : KB w nq nk np nh nr) (hC : ∀ k, k < W.length → mI M0 46 w k = C k) (h21 : ∀ k, k < 21 → C k = 2) (hc : c < W.length) (hj : j < (gc W c).2.2.2.2.2.length) {k65 : Nat → Int32 → Mem → Prop} {v5 : Int32} {R : RV × LkS}
    (hfin : ∀ M', Rw A W w br nq nk np nh nr L0 R M0 M' → k65 w (v5 + 1) M') :
    ∀ d k z M, (co (gmt (gc W c) j)).length - k < d → k ≤ (co (gmt (gc W c) j)).length → Rw A W w br nq nk np nh nr L0 z M0 M → R = rchC br W C c (gmt (gc W c) j) ((co (gmt (gc W c) j)).drop k) z → w_Works_reach_L100 0 Q k65 d w v5 (Int32.ofNat (moff W c + j)) (Int32.ofNat k) M := by
  intro d
  induction d with
  | zero => intro k z M h; omega
  | succ d ih =>
    intro k z M hd hk h hR
    have h51 := hW.2.2.2
    obtain ⟨u1, u2, u3, u4, u5⟩ := h.1.1.1.mo (e := 0) hc
    obtain ⟨hH, q0, h0, ⟨e62, e63, hq, h80, -⟩, hIs, -⟩ := h.1.1.1.2.1.2.2 c hc j hj
    have h80' : (co (gmt (gc W c) j)).length ≤ 80 := h80
    have hq' : q0 + (co (gmt (gc W c) j)).length ≤ nq := hq
    have f381 := h.1.1.1.2.1.1.2.1
    have hLb := L_le w
    have hlt : moff W c + j < 381 := by omega
    have hv : ∀ f, 55 ≤ f → f ≤ 65 → vp_in (Int32.ofNat (moff W c + j)) (mL M f w) := fun f h1 h2 => by rw [f381 f h1 h2]; exact (vp_oN (by omega)).mpr hlt
    unfold w_Works_reach_L100
    rw [oN_tnc (k := moff W c + j) (by omega), e63, e62]
    refine ⟨hv 63 (by omega) (by omega), ?_⟩
    by_cases ck : k = (co (gmt (gc W c) j)).length
    · refine itp (le_oN (by show (co (gmt (gc W c) j)).length ≤ k; omega) (by omega)) ?_
      rw [ck, List.drop_eq_nil_of_le (Nat.le_refl _)] at hR
      exact hfin M (hR ▸ h)
    · have hkl : k < (co (gmt (gc W c) j)).length := by omega
      refine itn (nle_oN (by show k < (co (gmt (gc W c) j)).length; omega) (by show (co (gmt (gc W c) j)).length < _; omega)) ⟨hv 62 (by omega) (by omega), ?_⟩
      rw [oN_add]
      have hdr := List.drop_eq_getElem_cons hkl
      obtain ⟨-, hgin, -⟩ := gin_at hdr
      have hmem : gin (co (gmt (gc W c) j)) k ∈ co (gmt (gc W c) j) := by rw [hgin]; exact List.getElem_mem hkl
      have hwf := wo_ins hW hc hj hmem
      rw [hdr, ← hgin] at hR
      have := hK.1
      refine c_comesBy hW hnA hK hC h21 hc hj h (fun L' M' lk hf => lk.q0 (L := L') hK hf hc hj e62 (by omega) hkl) (by omega) hwf (fun M1 h1 => ?_)
      rw [lit32 1, oN_add]
      exact ih (k + 1) _ M1 (by omega) (by omega) h1 hR
theorem rchN_s {n k : Nat} {z : RV × LkS} (h : k < z.1.length) : rchN br W C (n + 1) k z = rchN br W C n (k + 1) (rchC br W C (gV z.1 k).1 (gmt (gc W (gV z.1 k).1) (gV z.1 k).2) (co (gmt (gc W (gV z.1 k).1) (gV z.1 k).2)) z) := by
  conv => lhs; unfold rchN
  rw [if_pos h]
theorem rchN_e {n k : Nat} {z : RV × LkS} (h : ¬ k < z.1.length) : rchN br W C n k z = z := by
  cases n with
  | zero => rfl
  | succ n => unfold rchN; rw [if_neg h]
theorem Rw.vl (h : Rw A W w br nq nk np nh nr L0 z M0 M) : z.1.length ≤ 381 := h.2.2.2.1.len (fun y h1 h2 => by
  obtain ⟨-, -, w3, -⟩ := h.1.1.1.mo (e := 0) h1
  omega)
theorem c_rch65 (hW : WO W) (hnA : nA A) (hK : KB w nq nk np nh nr) (hC : ∀ k, k < W.length → mI M0 46 w k = C k) (h21 : ∀ k, k < 21 → C k = 2) {R : RV × LkS}
    (hfin : ∀ M', Rw A W w br nq nk np nh nr L0 R M0 M' → Q (Int32.ofNat R.1.length) M') :
    ∀ d k z M, 382 - k < d → k + d ≤ 400 → Rw A W w br nq nk np nh nr L0 z M0 M → R = rchN br W C d k z → w_Works_reach_L65 0 Q d w (Int32.ofNat k) M := by
  intro d
  induction d with
  | zero => intro k z M h; omega
  | succ d ih =>
    intro k z M hd hkd h hR
    have hvl := h.vl
    have h51 := hW.2.2.2
    obtain ⟨e27, ⟨l101, l102⟩, hrow⟩ := h.2.2.2.2.1
    unfold w_Works_reach_L65
    rw [e27]
    by_cases ck : k < z.1.length
    · rw [rchN_s ck] at hR
      have hm := h.2.2.2.1.2 _ (gV_mem ck)
      have hcw := h.1.1.1
      obtain ⟨u1, u2, u3, u4, u5⟩ := hcw.mo (e := 0) hm.1
      have l43 : mL M 43 w = 51 := hcw.2.1.1.1.1
      obtain ⟨r1, r2⟩ := hrow k ck
      refine itn (nle_oN ck (by omega)) ?_
      rw [oN_tnc (k := k) (by omega), r1, r2, oN_tnc (k := (gV z.1 k).1) (by omega), u1, l43, l101, l102, oN_add]
      refine ⟨(vp_oN (by omega)).mpr (by omega), (vp_oN (by omega)).mpr (by omega), (vp_oN (by omega)).mpr (by omega), _, rfl, (co (gmt (gc W (gV z.1 k).1) (gV z.1 k).2)).length + 1, ?_⟩
      refine c_rch100 hW hnA hK hC h21 hm.1 hm.2 (R := rchC br W C (gV z.1 k).1 (gmt (gc W (gV z.1 k).1) (gV z.1 k).2) (co (gmt (gc W (gV z.1 k).1) (gV z.1 k).2)) z) (fun M1 h1 => ?_) _ 0 z M (by omega) (Nat.zero_le _) h rfl
      rw [lit32 1, oN_add]
      exact ih (k + 1) _ M1 (by omega) (by omega) h1 hR
    · rw [rchN_e ck] at hR
      subst hR
      exact itp (le_oN (by omega) (by omega)) (hfin M h)
/-- reach, in the works -/
theorem c_wreach (hk : k < 3) (hOn : cOn on M) (hon : on k = true) (hW : WO W) (hG : GL W s) (hKB : KB (k + 1) nq nk np nh nr) (hnA : nA A) (hB0 : rcB V M) (l517 : mL M 517 0 = 381) (h : RA A W (k + 1) br nq nk np nh nr C0 B F s M) (hQ : ∀ M', RA A W (k + 1) br nq nk np nh nr C0 B F (rchO br W cc a V s).2.2 M' → LkM W (zL s) (zL (rchO br W cc a V s).2.2) → rcB (rchO br W cc a V s).2.1 M' → Q (rchO br W cc a V s).1 M') : w_Works_reach 0 (Int32.ofNat k) cc a Q M := by
  have hQ' : ∀ y, rchO br W cc a V s = y → ∀ M', RA A W (k + 1) br nq nk np nh nr C0 B F y.2.2 M' → LkM W (zL s) (zL y.2.2) → rcB y.2.1 M' → Q y.1 M' := fun y hy => by rw [← hy]; exact hQ
  unfold rchO at hQ'
  have h51 := hW.2.2.2
  unfold w_Works_reach
  refine c_isClass hk hOn hon hW.1.1 h51 h.1.1.1.1.1.1.1.1 (fun z => itp rfl (hQ' _ (if_pos (Or.inl z)) M h (LkM.rf hG.1) hB0)) (fun c hc ei ei2 nz => ?_)
  rw [ei2] at hQ'
  obtain ⟨a1, a2⟩ := hOn.at hk hon
  have hcw := h.1.1.1
  obtain ⟨u1, u2, u3, u4, u5⟩ := hcw.mo (e := 0) hc
  have l43 : mL M 43 (k + 1) = 51 := hcw.2.1.1.1.1
  have l44 : mL M 44 (k + 1) = 51 := hcw.2.1.1.1.2
  refine itn (by decide) ⟨a1, k + 1, a2, ?_⟩
  rw [ei]
  unfold w_Works_isMethod
  rw [oN_tnc (k := c) (by omega), u2, l44]
  refine ⟨(vp_oN (by omega)).mpr (by omega), ?_⟩
  refine c_isIn1 (n := (gc W c).2.2.2.2.2.length) (by omega) (fun z => ⟨Or.inl rfl, itp rfl (hQ' _ (if_pos (Or.inr z)) M h (LkM.rf hG.1) hB0)⟩) (fun j hj ej ej2 nj => ⟨Or.inr rfl, itn (by decide) ⟨a1, k + 1, a2, ?_⟩⟩)
  have hQ2 := hQ' _ (if_neg (fun z => z.elim nz nj))
  rw [ej2] at hQ2
  obtain ⟨b1, ⟨b2, b3⟩, -⟩ := hB0
  refine ⟨by show mL M 517 0 < _; rw [l517]; decide, _, rfl, ?_⟩
  obtain ⟨M1, hM1⟩ : ∃ M1, M1 = flI (sI M 10 0 27 0) 517 0 0 := ⟨_, rfl⟩
  rw [← hM1]
  have f1 : Fr SRw M M1 := by rw [hM1]; exact Fr.wfl rfl rfl (Fr.wI rfl (Fr.rf _ _))
  have k27 : mI M1 10 0 27 = 0 := by
    rw [hM1]; show (if (10 : Nat) = 517 ∧ (0 : Nat) = 0 ∧ 27 < mL (sI M 10 0 27 0) 517 0 then (0 : Int32) else mI (sI M 10 0 27 0) 10 0 27) = 0
    rw [if_neg (fun z => absurd z.1 (by decide)), mI_sI, if_pos ⟨rfl, rfl, rfl⟩]
  have k517 : ∀ i, i < 381 → mI M1 517 0 i = 0 := fun i hi => by
    rw [hM1]
    show (if (517 : Nat) = 517 ∧ 0 = 0 ∧ i < mL (sI M 10 0 27 0) 517 0 then _ else _) = _
    rw [if_pos ⟨rfl, rfl, by show i < mL M 517 0; rw [l517]; exact hi⟩]
  clear hM1
  have v0 : rcV W [] M1 := ⟨⟨List.Pairwise.nil, fun m hm => absurd hm List.not_mem_nil⟩, ⟨k27, ⟨(f1.L (f := 101) rfl 0).trans b2, (f1.L (f := 102) rfl 0).trans b3⟩, fun i hi => absurd hi (Nat.not_lt_zero i)⟩, (f1.L (f := 517) rfl 0).trans l517, fun m h1 h2 => by
    obtain ⟨-, -, w3, -⟩ := hcw.mo (e := 0) h1
    rw [k517 _ (by omega)]
    rfl⟩
  have r0 : Rw A W (k + 1) br nq nk np nh nr (zL s) ([], zL s) M M1 := by
    have hb : Rw A W (k + 1) br nq nk np nh nr (zL s) ([], zL s) M M1 := by
      refine ⟨⟨(h.1.1.fr f1).1, h.1.2.fr f1⟩, LkM.rf hG.1, f1.sub rfl, v0⟩
    exact hb
  have hcw1 := r0.1.1.1
  obtain ⟨w1, -⟩ := hcw1.mo (e := 0) hc
  have m43 : mL M1 43 (k + 1) = 51 := hcw1.2.1.1.1.1
  rw [w1, ej, oN_add, m43]
  refine ⟨(vp_oN (by omega)).mpr (by omega), ?_⟩
  refine c_comes (m := (c, j)) hcw1 v0 ⟨hc, hj⟩ (fun M2 f2 v2 => ⟨400, ?_⟩)
  have r2 : Rw A W (k + 1) br nq nk np nh nr (zL s) ([(c, j)], zL s) M M2 := r0.cm hKB f2 v2
  exact c_rch65 (C := zC s) hW hnA hKB (fun q hq => (h.2.1.1.2.1 q hq).1) hG.2.2.2.2.1 (R := rchN br W (zC s) 400 0 ([(c, j)], zL s)) (fun M3 r3 => hQ2 M3 (h.lk r3.2.2.1 rfl r3.1.1 r3.1.2) r3.2.1 r3.2.2.2.2.1) 400 0 _ M2 (by omega) (by omega) r2 rfl
theorem c_wreached (h : rcB V M) (hl : V.length ≤ 381) (hV : ∀ m ∈ V, m.1 < 51 ∧ m.2 < 12) (hQ : Q (rcdO V a) M) : w_Works_reached 0 a Q M := by
  obtain ⟨b1, ⟨b2, b3⟩, b4⟩ := h
  unfold w_Works_reached
  rw [b1]
  unfold rcdO at hQ
  refine c_isIn1 (n := V.length) (by omega) (fun z => by rw [if_pos z] at hQ; exact itp rfl hQ) (fun i hi ei ei2 nz => ?_)
  rw [if_neg nz, ei2] at hQ
  obtain ⟨r1, r2⟩ := b4 i hi
  have hm := hV _ (gV_mem hi)
  refine itn (by decide) ?_
  rw [ei, oN_tnc (k := i) (by omega), r1, r2, b2, b3]
  refine ⟨(vp_oN (by omega)).mpr (by omega), (vp_oN (by omega)).mpr (by omega), ?_⟩
  rw [show (100 : Int32) = Int32.ofNat 100 from rfl, oN_mul, oN_add]
  exact hQ
end
