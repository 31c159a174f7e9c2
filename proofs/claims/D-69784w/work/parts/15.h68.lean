/-! THE OPERATION asked: spec, in the works -/
abbrev mOf (x : Nm × Nm × List Kd × Kd) : Mth := (x.2.1, x.2.2.1, x.2.2.2, 0, 0, 0, [], [])
/-- what would be called -/
noncomputable def askS (br : Int32) (W : List Cls) (L : LkS) (x : Nm × Nm × List Kd × Kd) (k : Nat) : FR := match fMth br W L x.1 (mOf x) 50 (fun _ => true) with
  | (.inl e, L') => (.inl e, L')
  | (.inr r, L') => if (lkN br W 60 L' k).1 = 1 then ((if (gmt (gc W r.1) r.2).2.2.2.1 &&& 4 = 0 then dspW W (mOf x) k else .inr r), (lkN br W 60 L' k).2) else (.inl (lkN br W 60 L' k).1, (lkN br W 60 L' k).2)
def askA : Int32 ⊕ (Nat × Nat) → Int32
  | .inl e => -100 - e / 100
  | .inr m => Int32.ofNat (100 * m.1 + m.2)
/-- asked: the tape n long, its lines -/
noncomputable def askO (br : Int32) (W : List Cls) (n : Nat) (ls : List (List Tok)) (c : Int32) (s : Ms) : Int32 × Ms := if c < 0 ∨ Int32.ofNat W.length ≤ c then (-1, s) else match takO pAsk n ls with
  | .inl _ => (-11, s)
  | .inr x => (askA (askS br W (zL s) x c.toNatClampNeg).1, yL s (askS br W (zL s) x c.toNatClampNeg).2)
theorem pAsk_kd {ts : List Tok} {x : Nm × Nm × List Kd × Kd} (h : pAsk ts = .inr x) : (∀ κ ∈ x.2.2.1, kdOk κ) ∧ kdOk x.2.2.2 ∧ ∃ t ∈ ts, t.1 = 2 ∧ t.2.1 = x.2.1 := by
  unfold pAsk at h
  split at h
  · cases h
  · rename_i k t1 e1
    unfold pA0 at h
    split at h
    · cases h
    · rename_i t2 e2
      unfold pA1 at h
      split at h
      · cases h
      · rename_i m t3 e3
        unfold pA2 at h
        split at h
        · cases h
        · rename_i ks t4 e4
          unfold pA3 at h
          split at h
          · cases h
          · rename_i κ t5 e5
            split at h
            · cases h
            · cases h
              refine ⟨?_, pRes_kdO e5, ?_⟩
              · unfold pTypes at e4
                split at e4
                · cases e4
                · exact pTypesF_kd _ _ _ _ _ e4 (fun κ hκ => absurd hκ (by simp))
              · have n1 := pCls_h2 e1
                have n3 := pName_ne e3
                unfold pSign at e2
                split at e2
                · cases e2
                  unfold pName at e3
                  rw [if_pos n3.1] at e3
                  cases e3
                  have hne : t1.tail ≠ [] := fun q => by rw [q] at n3; exact absurd n3.1 (by decide)
                  refine ⟨hd t1.tail, ?_, n3.1, rfl⟩
                  have : hd t1.tail ∈ t1.tail := by
                    cases ht : t1.tail with
                    | nil => exact absurd ht hne
                    | cons a b => exact List.mem_cons_self
                  have hs : t1.tail <:+ ts := by rw [n1.2]; exact (List.tail_suffix _).trans (List.tail_suffix _)
                  exact hs.subset this
                · cases e2
section
variable {A A' BB : List Nm} {W : List Cls} {w k C B F K L n t i : Nat} {br a c : Int32} {nq nk np nh nr : Nat} {s : Ms} {M M' M0 : Mem} {Q : Int32 → Mem → Prop} {on : Nat → Bool} {tp : List Int32} {x : Nm × Nm × List Kd × Kd}
theorem c_maskd (hW : WO W) (hG : GL W s) (hKB : KB (k + 1) nq nk np nh nr) (hnA : nA A) (h : RA A W (k + 1) br nq nk np nh nr C B F s M) (hR : RfX A (k + 1) 3 x.1 (mOf x) M) (hi : i < W.length) (hQ : ∀ M', RA A W (k + 1) br nq nk np nh nr C B F (yL s (askS br W (zL s) x i).2) M' → Q (rcM W (askS br W (zL s) x i).1) M') : w_Machine_asks (k + 1) (Int32.ofNat i) Q M := by
  have h51 := hW.2.2.2
  have hok := fMth_ok (br := br) (W := W) (a := zL s) (kn := x.1) (x := mOf x) (o := 50) (acc := fun _ => true) hG.1.2.1 h51
  have hm : LkM W (zL s) (fMth br W (zL s) x.1 (mOf x) 50 (fun _ => true)).2 := by rw [hok.2]; exact lkd_M h51 hG.1
  unfold w_Machine_asks
  rw [show (50 : Int32) = Int32.ofNat 50 from rfl, show (3 : Int32) = Int32.ofNat 3 from rfl]
  refine mf_w_Machine_findMethod (Q := fun v M' => v = rcM W (fMth br W (zL s) x.1 (mOf x) 50 (fun _ => true)).1 ∧ LKw A W (k + 1) br nq nk np nh nr (fMth br W (zL s) x.1 (mOf x) 50 (fun _ => true)).2 M' ∧ cSt (k + 1) M' ∧ LInv W (fMth br W (zL s) x.1 (mOf x) 50 (fun _ => true)).2.1 ∧ Lo (k + 1) bL M M') (fun v M1 hf ⟨ev, a1, s1, i1, lo1⟩ => ?_) (c_findMethod h.1.1 h.1.2 hnA hKB hW.2.1 hW.2.2.1 hG.1.1 hG.1.2.1 hR (by omega) (by omega) (Or.inl ⟨rfl, fun _ => rfl⟩) (fun M' a1 s1 i1 lo1 => ⟨rfl, a1, s1, i1, lo1⟩))
  rw [ev]
  have r1 := h.lk hf rfl a1 s1
  have hR1 : RfX A (k + 1) 3 x.1 (mOf x) M1 := hR.fr hf
  unfold askS at hQ
  cases ef : fMth br W (zL s) x.1 (mOf x) 50 (fun _ => true) with
  | mk y L0 =>
    rw [ef] at hok hm hQ r1 a1 i1
    cases y with
    | inl e =>
      refine itn (hok.1.1.neg hok.1.2.1).2 ?_
      exact hQ M1 r1
    | inr q =>
      dsimp only at hQ
      obtain ⟨c0, hlk, -, hf1, hst, hab⟩ := fMth_in ef
      obtain ⟨hfc, -, hlc⟩ := lkd_in hlk
      have hqm := fMth1_ok (fnd_lt hfc) hf1
      obtain ⟨-, hq381, hH⟩ := oM_lt r1.1.1.1 hqm
      refine itp (show (0 : Int32) ≤ Int32.ofNat (moff W q.1 + q.2) from oN_zero_le (by omega)) ?_
      refine c_link hnA hKB hW.2.1 a1 i1 hi (fun M2 b1 i2 lo2 fr2 => ?_)
      have r2 := r1.lk fr2 rfl b1 (r1.1.2.fr fr2)
      have hR2 : RfX A (k + 1) 3 x.1 (mOf x) M2 := hR1.fr fr2
      by_cases c1 : (lkN br W 60 L0 i).1 = 1
      · rw [if_pos c1] at hQ
        refine itp c1 ?_
        obtain ⟨-, -, hH2⟩ := oM_lt r2.1.1.1 hqm
        have f381 := r2.1.1.1.2.1.1.2.1
        refine ⟨by rw [f381 57 (by omega) (by omega)]; exact (vp_oN (a := moff W q.1 + q.2) (by omega)).mpr hq381, ?_⟩
        show (if mI M2 57 (k + 1) (Int32.ofNat (moff W q.1 + q.2)).toNatClampNeg &&& 4 = 0 then _ else _)
        rw [oN_tnc (by omega), hH2.2.2.1]
        by_cases c4 : (gmt (gc W q.1) q.2).2.2.2.1 &&& 4 = 0
        · rw [if_pos c4] at hQ
          refine itp c4 ?_
          have hl1 : (lkN br W 60 L0 i).2.1 i = 1 := by rw [lkN_own]; exact c1
          refine c_methodW r2.1.1.1 r2.1.2 hR2 hKB hnA.1 i2 hW.2.2.1 hi hl1 (fun M3 s3 sp3 => ?_)
          have r3 : RA A W (k + 1) br nq nk np nh nr C B F (yL s (lkN br W 60 L0 i).2) M3 := r2.lk sp3.1 rfl (r2.1.1.sp sp3 hKB) s3
          unfold dspW at hQ
          have bad : (∀ M', RA A W (k + 1) br nq nk np nh nr C B F (yL s (lkN br W 60 L0 i).2) M' → Q (-5818) M') → w_Machine_asks_j82 (k + 1) Q M3 := fun hq => by
            unfold w_Machine_asks_j82 w_Machine_thrown
            exact hq M3 r3
          cases em : mthW W (mOf x) 5 i with
          | none =>
            rw [em] at hQ
            exact itp (show (-2 : Int32) < 0 by decide) (bad hQ)
          | some m =>
            rw [em] at hQ
            dsimp only at hQ
            have hmo := mthW_ok hi em
            obtain ⟨eo, hm381, hH3⟩ := oM_lt r3.1.1.1 hmo
            have f381' := r3.1.1.1.2.1.1.2.1
            rw [eo]
            refine itn (by rw [Int32.not_lt]; exact oN_zero_le (by omega)) ⟨by rw [f381' 57 (by omega) (by omega)]; exact (vp_oN (a := moff W m.1 + m.2) (by omega)).mpr hm381, ?_⟩
            rw [oN_tnc (by omega), hH3.2.2.1]
            by_cases c8 : (gmt (gc W m.1) m.2).2.2.2.1 &&& 8 = 0
            · rw [if_neg (fun z => z c8)] at hQ
              exact itp c8 (hQ M3 r3)
            · rw [if_pos c8] at hQ
              exact itn c8 (bad hQ)
        · rw [if_neg c4] at hQ
          exact itn c4 (hQ M2 r2)
      · rw [if_neg c1] at hQ
        exact itn c1 (hQ M2 r2)
end
