/-! THE OPERATION asked, whole in both -/
theorem dsp_th {W : List Cls} {x : Mth} {c : Nat} : ∀ e, dspW W x c = .inl e → e = 5818 := fun e h => by
  unfold dspW at h
  split at h
  · cases h; rfl
  · split at h
    · cases h; rfl
    · cases h
/-- what is thrown by asking is a code, what is found is there -/
theorem ask_ok {br : Int32} {W : List Cls} {L : LkS} {x : Nm × Nm × List Kd × Kd} {k : Nat} (hB : LB L) (h51 : W.length ≤ 51) (hk : k < W.length) : (∀ e, (askS br W L x k).1 = .inl e → cdOk e ∧ e ≠ 0) ∧ ∀ m, (askS br W L x k).1 = .inr m → m.1 < W.length ∧ m.2 < (gc W m.1).2.2.2.2.2.length := by
  have hok := fMth_ok (br := br) (W := W) (a := L) (kn := x.1) (x := mOf x) (o := 50) (acc := fun _ => true) hB h51
  unfold askS
  cases ef : fMth br W L x.1 (mOf x) 50 (fun _ => true) with
  | mk y L0 =>
    rw [ef] at hok
    cases y with
    | inl e => exact ⟨fun e' h => by cases h; exact ⟨hok.1.1, hok.1.2.1⟩, fun m h => by cases h⟩
    | inr q =>
      dsimp only
      obtain ⟨c0, hlk, -, hf1, hst, hab⟩ := fMth_in ef
      obtain ⟨hfc, -, hlc⟩ := lkd_in hlk
      have hqm := fMth1_ok (fnd_lt hfc) hf1
      have hB0 : LB L0 := by
        have := (lkd_ok (br := br) (k := x.1) hB h51).2
        rw [← hok.2] at this; exact this
      by_cases c1 : (lkN br W 60 L0 k).1 = 1
      · rw [if_pos c1]
        by_cases c4 : (gmt (gc W q.1) q.2).2.2.2.1 &&& 4 = 0
        · rw [if_pos c4]
          dsimp only
          refine ⟨fun e h => ?_, fun m h => ?_⟩
          · rw [dsp_th e h]; exact ⟨⟨5818, by decide, by decide, rfl⟩, by decide⟩
          · unfold dspW at h
            split at h
            · cases h
            · rename_i m' em
              split at h
              · cases h
              · cases h; exact ⟨(mthW_ok hk em).1, (mthW_ok hk em).2.1⟩
        · rw [if_neg c4]
          exact ⟨fun e h => (by cases h), fun m h => (by cases h; exact ⟨hqm.1, hqm.2.1⟩)⟩
      · rw [if_neg c1]
        refine ⟨fun e h => ?_, fun m h => by cases h⟩
        cases h
        have hlb := lkN_lb (br := br) (W := W) 60 L0 k hB0
        have hr := rk_le (W := W) (c := k)
        exact ⟨hlb.1, lkN_ne0 (br := br) (W := W) 60 L0 k hk (by omega)⟩
theorem div100 {e : Int32} (h : cdOk e) : e / 100 = Int32.ofNat (e.toNatClampNeg / 100) := by
  obtain ⟨n, hn, -, rfl⟩ := h
  rw [show (100 : Int32) = Int32.ofNat 100 from rfl, oN_div (by omega) (by omega), oN_tnc (by omega)]
section
variable {A A' BB : List Nm} {W : List Cls} {w k C B F K L n t i : Nat} {br a c : Int32} {nq nk np nh nr : Nat} {s : Ms} {M M' M0 : Mem} {Q : Int32 → Mem → Prop} {on : Nat → Bool} {tp : List Int32} {x : Nm × Nm × List Kd × Kd}
theorem c_wasked (hk : k < 3) (hOn : cOn on M) (hon : on k = true) (hTp : tpC tp M) (hn : tp.length ≤ 2900) (hN : NC BB A M) (hB : ∀ l ∈ lns (pT tp) tp.length 0, NB BB l) (hRd : cRd M) (hl30 : mL M 30 0 = 6) (hW : WO W) (hG : GL W s) (hKB : KB (k + 1) nq nk np nh nr) (h : RA A W (k + 1) br nq nk np nh nr C B F s M)
    (h0 : (c < 0 ∨ Int32.ofNat W.length ≤ c) → Q (-1) M)
    (hQ : ∀ A' x i M', i < W.length → c = Int32.ofNat i → takO pAsk tp.length (lns (pT tp) tp.length 0) = .inr x → A <+: A' → NC BB A' M' → RA A' W (k + 1) br nq nk np nh nr C B F (yL s (askS br W (zL s) x i).2) M' → tpC [] M' → mI M' 10 0 21 = -2 → cRd M' → Q (askA (askS br W (zL s) x i).1) M')
    (hX : ∀ A' e i M', i < W.length → c = Int32.ofNat i → takO pAsk tp.length (lns (pT tp) tp.length 0) = .inl e → A <+: A' → NC BB A' M' → RA A' W (k + 1) br nq nk np nh nr C B F s M' → tpC [] M' → mI M' 10 0 21 = Int32.ofNat e.2 → cRd M' → Q (-11) M') : w_Works_asked 0 (Int32.ofNat k) c Q M := by
  unfold w_Works_asked
  refine c_isClass hk hOn hon hW.1.1 hW.2.2.2 h.1.1.1.1.1.1.1.1 (fun z => itp rfl (h0 z)) (fun i hi ei ei2 nz => ?_)
  obtain ⟨a1, a2⟩ := hOn.at hk hon
  refine itn (by decide) ⟨a1, k + 1, a2, ?_⟩
  obtain ⟨m76, m212⟩ := h.m76
  have hLl : L76 (k + 1) = 29836 ∧ L212 (k + 1) = 44754 := by unfold L76 L212; exact ⟨if_neg (by omega), if_neg (by omega)⟩
  refine mf_w_Works_isTaken (Q := fun v M' => Fr F_Works_isTaken M M' → (if v = 0 then (Q (-11 : Int32) M') else (w_Machine_asks (k + 1) c (fun r10 M9 => if 0 ≤ r10 then (vp_in r10 (mL M9 55 (k + 1)) ∧ vp_in r10 (mL M9 55 (k + 1)) ∧ vp_in (mI M9 55 (k + 1) r10.toNatClampNeg) (mL M9 43 (k + 1)) ∧ Q ((((100 : Int32) * (mI M9 55 (k + 1) r10.toNatClampNeg)) + r10) - (mI M9 43 (k + 1) (mI M9 55 (k + 1) r10.toNatClampNeg).toNatClampNeg)) M9) else (¬ (100 : Int32) = 0 ∧ Q ((-100 : Int32) - ((-r10) / (100 : Int32))) M9)) M'))) (fun _ _ hf hp => hp hf) (c_takenA hTp hn hN hB hRd hl30 (by rw [m76]; omega) (by rw [m76]; omega) (by rw [m212]; omega) (by rw [m212]; omega) (fun A' x M1 y1 y2 y3 y4 y5 y6 y7 y8 hf => ?_) (fun A' e M1 y1 y2 y3 y4 y5 y6 y7 hf => ?_))
  · refine itn (by decide) ?_
    have hR1 := h.tk (t := 3) (by omega) y2 (by have := y3.len; omega) hf y5 (fun z => absurd z (by omega))
    have hnA := y3.nA (by have := y3.len; omega)
    have hRd1 := hRd.tk hf y8
    obtain ⟨l, -, hl⟩ := takO_in y1
    have hkd := pAsk_kd hl
    have hRf : RfX A' (k + 1) 3 x.1 (mOf x) M1 := ⟨y4.1, ⟨y4.2, hkd.1, hkd.2.1⟩, ⟨by rw [hR1.m76.1]; omega, by rw [hR1.m76.1]; omega⟩, by rw [hR1.m76.2]; omega, by rw [hR1.m76.2]; omega⟩
    rw [ei]
    refine mf_w_Machine_asks (Q := fun r10 M9 => Fr F_Machine_asks M1 M9 → (if 0 ≤ r10 then (vp_in r10 (mL M9 55 (k + 1)) ∧ vp_in r10 (mL M9 55 (k + 1)) ∧ vp_in (mI M9 55 (k + 1) r10.toNatClampNeg) (mL M9 43 (k + 1)) ∧ Q ((((100 : Int32) * (mI M9 55 (k + 1) r10.toNatClampNeg)) + r10) - (mI M9 43 (k + 1) (mI M9 55 (k + 1) r10.toNatClampNeg).toNatClampNeg)) M9) else (¬ (100 : Int32) = 0 ∧ Q ((-100 : Int32) - ((-r10) / (100 : Int32))) M9))) (fun _ _ hf hp => hp hf) (c_maskd hW hG hKB hnA hR1 hRf hi (fun M2 hR2 hf2 => ?_))
    have hfin := hQ A' x i M2 hi ei y1 y2 (y3.fr hf2) hR2 (y6.fr hf2) ((hf2.I (f := 10) (k := 21) rfl 0).trans y7) (hRd1.fr hf2)
    have hok := ask_ok (br := br) (x := x) hG.1.2.1 hW.2.2.2 hi
    generalize askS br W (zL s) x i = q at hfin hok hR2
    obtain ⟨y, L0⟩ := q
    cases y with
    | inl e =>
      obtain ⟨ck, ne⟩ := hok.1 e rfl
      refine itn (ck.neg ne).2 ⟨by decide, ?_⟩
      show Q (-100 - -(-e) / 100) M2
      rw [Int32.neg_neg]
      exact hfin
    | inr m =>
      obtain ⟨hm1, hm2⟩ := hok.2 m rfl
      have h51 := hW.2.2.2
      obtain ⟨u1, u2, u3, u4, u5⟩ := hR2.1.1.1.mo (e := 0) hm1
      have hmx : okM W (gmt (gc W m.1) m.2) 0 m := ⟨hm1, hm2, ⟨rfl, rfl, rfl⟩, by rw [Int32.and_zero]⟩
      obtain ⟨-, hm381, hH3⟩ := oM_lt hR2.1.1.1 hmx
      have f381 := hR2.1.1.1.2.1.1.2.1
      have l43 : mL M2 43 (k + 1) = 51 := hR2.1.1.1.2.1.1.1.1
      show (if 0 ≤ Int32.ofNat (moff W m.1 + m.2) then _ else _)
      have v1 : vp_in (Int32.ofNat (moff W m.1 + m.2)) (mL M2 55 (k + 1)) := by rw [f381 55 (by omega) (by omega)]; exact (vp_oN (by omega)).mpr hm381
      refine itp (oN_zero_le (by omega)) ⟨v1, v1, ?_⟩
      show vp_in (mI M2 55 (k + 1) (Int32.ofNat (moff W m.1 + m.2)).toNatClampNeg) _ ∧ Q (((100 : Int32) * mI M2 55 (k + 1) (Int32.ofNat (moff W m.1 + m.2)).toNatClampNeg + Int32.ofNat (moff W m.1 + m.2)) - mI M2 43 (k + 1) (mI M2 55 (k + 1) (Int32.ofNat (moff W m.1 + m.2)).toNatClampNeg).toNatClampNeg) M2
      rw [oN_tnc (k := moff W m.1 + m.2) (by omega), hH3.1, oN_tnc (k := m.1) (by omega), u1, l43]
      refine ⟨(vp_oN (by omega)).mpr (by omega), ?_⟩
      have e : (100 : Int32) * Int32.ofNat m.1 + Int32.ofNat (moff W m.1 + m.2) - Int32.ofNat (moff W m.1) = Int32.ofNat (100 * m.1 + m.2) := by
        rw [show (100 : Int32) = Int32.ofNat 100 from rfl, oN_mul, oN_add, oN_sub (by omega)]
        congr 1; omega
      rw [e]; exact hfin
  · refine itp rfl ?_
    exact hX A' e i M1 hi ei y1 y2 y3 (h.tk (t := 3) (by omega) y2 (by have := y3.len; omega) hf y4 (fun z => absurd z (by omega))) y5 y6 (hRd.tk hf y7)
end
