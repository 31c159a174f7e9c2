/-! what an instruction finds, with no run at hand (printed by gen/fl.py out of g27) -/
def rcJ (W : List Cls) (i : Ins) : Int32 ⊕ (Nat × Nat) → Int32
  | .inl e => -e
  | .inr q => if i.1 = 54 ∨ i.1 = 55 then Int32.ofNat q.1 else i36 W i q
section
variable {A : List Nm} {W : List Cls} {w t : Nat} {br : Int32} {nq nk np nh nr : Nat} {M M2 : Mem} {c j a qi : Nat} {q : Nat × Nat} {i : Ins} {Q : Int32 → Mem → Prop} {L0 : LkS}
theorem c_findsL (hW : WO W) (hK : KB w nq nk np nh nr) (hnA : nA A) (lk : LKw A W w br nq nk np nh nr L0 M) (ls : cSt w M) (hLI : LInv W L0.1) (hLB : LB L0) (hc : c < W.length) (hj : j < (gc W c).2.2.2.2.2.length) (hrfx : ∀ r, r < nr → cRf A w r (iK i) (iM i) (iA i) (iR i) M → RfX A w r (iK i) (xi i) M) (hI : cFi A w nk np nr qi i M) (hqi : qi < L6 w) (hQ : ∀ M', LKw A W w br nq nk np nh nr (fIns br W L0 c (gmt (gc W c) j) i).2 M' → cSt w M' → Q (rcJ W i (fIns br W L0 c (gmt (gc W c) j) i).1) M') : w_Machine_finds w (Int32.ofNat (moff W c + j)) (Int32.ofNat qi) Q M := by
  have hLb := L_le w
  have h62 : i.1 < 62 := hI.1.2
  have l6 := lk.1.2.2.2.1.1
  have h51 := hW.2.2.2
  unfold w_Machine_finds
  rw [oN_tnc (k := qi) (by omega), hI.1.1]
  refine ⟨by rw [l6 66 (by omega) (by omega)]; exact (vp_oN (by omega)).mpr hqi, by rw [l6 67 (by omega) (by omega)]; exact (vp_oN (by omega)).mpr hqi, ?_⟩
  unfold fIns at hQ
  by_cases h54 : i.1 = 54 ∨ i.1 = 55
  · rw [if_pos h54] at hQ
    have fin : w_Machine_finds_j33 w Q (mI M 67 w qi) M := by
      unfold w_Machine_finds_j33
      obtain ⟨o1, hk⟩ := hI.nm (by unfold isN; omega)
      rw [o1]
      refine c_findClass lk.1.1.1.1 h51 hk ?_
      have hq := hQ M lk ls
      cases ef : fnd W (iK i) with
      | none => rw [ef] at hq; exact hq
      | some d =>
        rw [ef] at hq
        have : rcJ W i (.inr (d, 0)) = Int32.ofNat d := if_pos h54
        dsimp only at hq
        rw [this] at hq
        exact hq
    rcases h54 with z | z
    · exact itp (by rw [z]; rfl) fin
    · exact itn (by rw [z]; decide) (itp (by rw [z]; rfl) fin)
  have e54 : ∀ y, rcJ W i y = rcI W i y := fun y => by
    cases y with
    | inl e => rfl
    | inr q => exact if_neg h54
  rw [e54] at hQ
  refine itn (ne_oN (b := 54) (fun z => h54 (Or.inl z)) (by omega) (by omega)) (itn (ne_oN (b := 55) (fun z => h54 (Or.inr z)) (by omega) (by omega)) ?_)
  rw [if_neg h54] at hQ
  by_cases c41 : i.1 = 41
  · rw [if_pos c41] at hQ
    refine itp (by rw [c41]; rfl) ?_
    obtain ⟨o1, hk⟩ := hI.nm (Or.inl c41)
    rw [o1]
    refine c_linkedClass lk ls hnA hK hW.2.1 hLI hLB hk (fun M1 a1 s1 i1 lo1 => ?_)
    have hok := lkd_ok (br := br) (k := iK i) hLB h51
    cases el : lkd br W L0 (iK i) with
    | mk y L =>
      rw [el] at hQ a1 hok
      cases y with
      | inl e => exact itp (hok.1.1.neg hok.1.2.1).1 (hQ M1 a1 s1)
      | inr d =>
        dsimp only at hQ
        have hd := fnd_lt (lkd_in el).1
        have e40 : mI M1 40 w d = (gc W d).2.2.2.1 := (a1.1.1.1.2.2 d hd).2.2
        have l40 : mL M1 40 w = 51 := a1.1.1.1.2.1.2.2.2
        have er : rcI W i (.inr (d, 0)) = Int32.ofNat d := by
          show i36 W i (d, 0) = _
          unfold i36; rw [if_pos c41]
        refine itn (show ¬ Int32.ofNat d < 0 from fun z => by have := (oN_lt (a := d) (b := 0) (by omega) (by omega)).mp z; omega) ?_
        show vp_in (Int32.ofNat d) (mL M1 40 w) ∧ (if ((mI M1 40 w (Int32.ofNat d).toNatClampNeg) &&& (6 : Int32)) = 0 then _ else _)
        rw [oN_tnc (k := d) (by omega), e40, l40]
        refine ⟨(vp_oN (by omega)).mpr (by omega), ?_⟩
        by_cases c6 : (gc W d).2.2.2.1 &&& 6 = 0
        · rw [if_neg (fun z => z.1 c6)] at hQ
          have := hQ M1 a1 s1
          dsimp only at this
          rw [er] at this
          exact itp c6 this
        · refine itn c6 (c_asks (rule := 57) (bit := 7) (by decide) ?_)
          rw [a1.1.1.2.2]
          cases eb : brk br 7 with
          | false =>
            rw [if_neg (fun z => by rw [eb] at z; cases z.2)] at hQ
            have := hQ M1 a1 s1
            dsimp only at this
            rw [er] at this
            exact itp rfl this
          | true =>
            rw [if_pos ⟨c6, eb⟩] at hQ
            exact itn (by decide) (c_thrown (f := 19) (ru := 57) (hQ M1 a1 s1))
  rw [if_neg c41] at hQ
  refine itn (ne_oN (b := 41) c41 (by omega) (by omega)) ?_
  by_cases cf : isFo i.1
  · rw [if_pos cf] at hQ
    have eF : ∀ y, rcI W i y = rcF W y := fun y => by
      cases y with
      | inl e => rfl
      | inr q =>
        show i36 W i q = _
        unfold i36; rw [if_neg c41, if_pos cf]; rfl
    rw [eF] at hQ
    obtain ⟨r, hr, e67, hrf⟩ := hI.mem (by unfold isN; omega) (Or.inl cf)
    refine c_isInN (o := i.1) (lo := 46) (hi := 49) (by omega) (by omega) (by omega) (itn (by rw [decide_eq_true cf]; decide) ?_)
    rw [e67]
    have fin : ∀ fx pt : Bool, fx = decide (48 ≤ i.1) → pt = decide (i.1 = 47 ∨ i.1 = 49) → w_Machine_findField w (Int32.ofNat r) (b2 fx) (b2 pt) (Int32.ofNat (moff W c + j)) (fun r29 M28 => Q r29 M28) M := fun fx pt e1 e2 => by
      subst e1; subst e2
      exact c_findField (x := xi i) lk ls hnA hK hW.2.1 hW.2.2.1 hLI hLB (hrfx r hr hrf) hr hc hj (fun M1 a1 s1 _ _ => hQ M1 a1 s1)
    have go : ∀ fx : Bool, fx = decide (48 ≤ i.1) → w_Machine_finds_j126 w Q (Int32.ofNat (moff W c + j)) (Int32.ofNat i.1) (b2 fx) (Int32.ofNat r) M := fun fx e1 => by
      unfold w_Machine_finds_j126 w_Machine_finds_j138 w_Machine_finds_j143
      by_cases c7 : i.1 = 47
      · exact itp (by rw [c7]; rfl) (fin fx true e1 (decide_eq_true (Or.inl c7)).symm)
      refine itn (ne_oN (b := 47) c7 (by omega) (by omega)) ?_
      by_cases c9 : i.1 = 49
      · exact itp (by rw [c9]; rfl) (fin fx true e1 (decide_eq_true (Or.inr c9)).symm)
      · exact itn (ne_oN (b := 49) c9 (by omega) (by omega)) (fin fx false e1 (decide_eq_false (fun z => z.elim c7 c9)).symm)
    by_cases c8 : 48 ≤ i.1
    · exact itn (fun z => by have := (oN_lt (a := i.1) (b := 48) (by omega) (by omega)).mp z; omega) (go true (decide_eq_true c8).symm)
    · exact itp ((oN_lt (a := i.1) (b := 48) (by omega) (by omega)).mpr (by omega)) (go false (decide_eq_false c8).symm)
  rw [if_neg cf] at hQ
  refine c_isInN (o := i.1) (lo := 46) (hi := 49) (by omega) (by omega) (by omega) (itp (by rw [decide_eq_false cf]; rfl) ?_)
  by_cases cm : isMo i.1
  · rw [if_pos cm] at hQ
    have eM : ∀ y, rcI W i y = rcM W y := fun y => by
      cases y with
      | inl e => rfl
      | inr q =>
        show i36 W i q = _
        unfold i36; rw [if_neg c41, if_neg cf, if_pos cm]; rfl
    rw [eM] at hQ
    obtain ⟨r, hr, e67, hrf⟩ := hI.mem (by unfold isN; omega) (Or.inr cm)
    refine c_isInN (o := i.1) (lo := 50) (hi := 53) (by omega) (by omega) (by omega) (itn (by rw [decide_eq_true cm]; decide) ?_)
    rw [e67]
    exact c_findMethod (x := xi i) lk ls hnA hK hW.2.1 hW.2.2.1 hLI hLB (hrfx r hr hrf) (by omega) (by omega) (Or.inr (Or.inr ⟨c, j, hc, hj, rfl, fun d => rfl⟩)) (fun M1 a1 s1 _ _ => hQ M1 a1 s1)
  rw [if_neg cm] at hQ
  refine c_isInN (o := i.1) (lo := 50) (hi := 53) (by omega) (by omega) (by omega) (itp (by rw [decide_eq_false cm]; rfl) ?_)
  have := hQ M lk ls
  have e0 : rcI W i (.inr (0, 0)) = 0 := by
    show i36 W i (0, 0) = 0
    unfold i36; rw [if_neg c41, if_neg cf, if_neg cm]
  dsimp only at this
  rw [e0] at this
  exact this
end
