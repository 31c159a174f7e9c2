/-! THE MACHINE IN THE WORKS: what an instruction finds -/
section
variable {A : List Nm} {W : List Cls} {w C B F t : Nat} {br : Int32} {nq nk np nh nr : Nat} {s : Ms} {M M2 : Mem} {U : List Un} {c j a qi : Nat} {lo st lo' st' : List Vl} {q : Nat × Nat} {i : Ins} {Q : Int32 → Mem → Prop} {L : LkS}
/-- the instruction that comes next -/
theorem RI.ci (hK : KB w nq nk np nh nr) (h : RI A W w br nq nk np nh nr C B F t s c j a lo st U M) (hA : At W s t c j a lo st U i) : ∃ q0, (mI M 62 w (moff W c + j) = Int32.ofNat q0 ∧ q0 + a < L6 w) ∧ cFi A w nk np nr (q0 + a) i M := by
  obtain ⟨⟨hF, -⟩, -⟩ := hA.1.2.1.2.2.2.1
  obtain ⟨q0, h0, ⟨e1, -, e3, -⟩, e5, -⟩ := (h.1.1.1.1.1.2.1.2.2 c hF.1.2.1 j hF.2.1).2
  have ha : a < (co (gmt (gc W c) j)).length := hF.2.2.1
  have e3 : q0 + (co (gmt (gc W c) j)).length ≤ nq := e3
  have := hK.1
  refine ⟨q0, ⟨e1, by omega⟩, ?_⟩
  rw [hA.2.2.1]
  exact e5 a ha
/-- what is found is there -/
def qOk (W : List Cls) (i : Ins) (q : Nat × Nat) : Prop := (i.1 = 41 → q.1 < W.length) ∧ (isFo i.1 → q.1 < W.length ∧ q.2 < (gc W q.1).2.2.2.2.1.length) ∧ (isMo i.1 → q.1 < W.length ∧ q.2 < (gc W q.1).2.2.2.2.2.length)
theorem fIns_lt {a : LkS} {x : Mth} (ef : fIns br W a c x i = (.inr q, L)) : qOk W i q := by
  unfold fIns at ef
  refine ⟨fun z => ?_, fun z => ?_, fun z => ?_⟩
  · rw [if_neg (by omega), if_pos z] at ef
    cases e : lkd br W a (iK i) with
    | mk y a' =>
      rw [e] at ef
      cases y with
      | inl e => cases ef
      | inr d =>
        dsimp only at ef
        split at ef
        · cases ef
        · cases ef; exact fnd_lt (lkd_in e).1
  · rw [if_neg (by omega), if_neg (by omega), if_pos z] at ef
    obtain ⟨d, h1, h2, -⟩ := fFld_in ef
    have := fldW_ok (fnd_lt (lkd_in h1).1) h2
    exact ⟨this.1, this.2.1⟩
  · rw [if_neg (by omega), if_neg (by omega), if_neg (by omega), if_pos z] at ef
    obtain ⟨d, h1, -, h2, -⟩ := fMth_in ef
    have := fMth1_ok (fnd_lt (lkd_in h1).1) h2
    exact ⟨this.1, this.2.1⟩
theorem i36_lt (h : CWx A W w br nq nk np nh nr M) (hq : qOk W i q) : ∃ n, n < 1000 ∧ i36 W i q = Int32.ofNat n := by
  have h51 : W.length ≤ 51 := h.1.1.1.1.2.2.1
  unfold i36
  by_cases c1 : i.1 = 41
  · rw [if_pos c1]
    have := hq.1 c1
    exact ⟨q.1, by omega, rfl⟩
  rw [if_neg c1]
  by_cases c2 : isFo i.1
  · rw [if_pos c2]
    obtain ⟨h1, h2⟩ := hq.2.1 c2
    have hfl := h.1.2.1
    have hfs := foff_succ (W := W) (n := q.1) h1
    have hfo := foff_le (fun c hc => (hfl.2.1 c hc).2) (q.1 + 1) h1
    exact ⟨foff W q.1 + q.2, by omega, rfl⟩
  rw [if_neg c2]
  by_cases c3 : isMo i.1
  · rw [if_pos c3]
    obtain ⟨h1, h2⟩ := hq.2.2 c3
    have := (h.mo (e := 0) h1).2.2.1
    exact ⟨moff W q.1 + q.2, by omega, rfl⟩
  rw [if_neg c3]
  exact ⟨0, by omega, rfl⟩
def rcI (W : List Cls) (i : Ins) : Int32 ⊕ (Nat × Nat) → Int32
  | .inl e => -e
  | .inr q => i36 W i q
theorem c_finds (hq : RQ A W w nq nk np nh nr F s) (h : RI A W w br nq nk np nh nr C B F t s c j a lo st U M) (hA : At W s t c j a lo st U i) (hI : cFi A w nk np nr qi i M) (hqi : qi < L6 w) (h54 : ¬ (i.1 = 54 ∨ i.1 = 55)) (hQ : ∀ M', LKw A W w br nq nk np nh nr (fIns br W (zL s) c (gmt (gc W c) j) i).2 M' → cSt w M' → Q (rcI W i (fIns br W (zL s) c (gmt (gc W c) j) i).1) M') : w_Machine_finds w (Int32.ofNat (moff W c + j)) (Int32.ofNat qi) Q M := by
  obtain ⟨hW, hK, hnA, -, -⟩ := id hq
  have hM := hA.1.2.1
  obtain ⟨⟨hF, -⟩, -⟩ := hM.2.2.2.1
  have hLb := L_le w
  have h62 : i.1 < 62 := hI.1.2
  have l6 := h.1.1.1.1.1.2.2.2.1.1
  have lk := h.1.1.1.1
  have ls := h.1.1.1.2
  have hLI := hM.1.1.1.1
  have hLB := hM.1.1.1.2.1
  have h51 := hW.2.2.2
  unfold w_Machine_finds
  rw [oN_tnc (k := qi) (by omega), hI.1.1]
  refine ⟨by rw [l6 66 (by omega) (by omega)]; exact (vp_oN (by omega)).mpr hqi, by rw [l6 67 (by omega) (by omega)]; exact (vp_oN (by omega)).mpr hqi, itn (ne_oN (b := 54) (fun z => h54 (Or.inl z)) (by omega) (by omega)) (itn (ne_oN (b := 55) (fun z => h54 (Or.inr z)) (by omega) (by omega)) ?_)⟩
  unfold fIns at hQ
  rw [if_neg h54] at hQ
  by_cases c41 : i.1 = 41
  · rw [if_pos c41] at hQ
    refine itp (by rw [c41]; rfl) ?_
    obtain ⟨o1, hk⟩ := hI.nm (Or.inl c41)
    rw [o1]
    refine c_linkedClass lk ls hnA hK hW.2.1 hLI hLB hk (fun M1 a1 s1 i1 lo1 => ?_)
    have hok := lkd_ok (br := br) (k := iK i) hLB h51
    cases el : lkd br W (zL s) (iK i) with
    | mk y L =>
      rw [el] at hQ a1 hok
      cases y with
      | inl e => exact itp (hok.1.1.neg hok.1.2.1).1 (hQ M1 a1 s1)
      | inr d =>
        dsimp only at hQ
        have hd := fnd_lt (lkd_in el).1
        have e40 : mI M1 40 w d = (gc W d).2.2.2.1 := (a1.1.1.1.2.2 d hd).2.2
        have l40 : mL M1 40 w = 51 := a1.1.1.1.2.1.2.2.2
        have er : rcI W i (.inr (d, 0)) = Int32.ofNat d := by
          show i36 W i (d, 0) = _
          unfold i36; rw [if_pos c41]
        refine itn (show ¬ Int32.ofNat d < 0 from fun z => by have := (oN_lt (a := d) (b := 0) (by omega) (by omega)).mp z; omega) ?_
        show vp_in (Int32.ofNat d) (mL M1 40 w) ∧ (if ((mI M1 40 w (Int32.ofNat d).toNatClampNeg) &&& (6 : Int32)) = 0 then _ else _)
        rw [oN_tnc (k := d) (by omega), e40, l40]
        refine ⟨(vp_oN (by omega)).mpr (by omega), ?_⟩
        by_cases c6 : (gc W d).2.2.2.1 &&& 6 = 0
        · rw [if_neg (fun z => z.1 c6)] at hQ
          have := hQ M1 a1 s1
          dsimp only at this
          rw [er] at this
          exact itp c6 this
        · refine itn c6 (c_asks (rule := 57) (bit := 7) (by decide) ?_)
          rw [a1.1.1.2.2]
          cases eb : brk br 7 with
          | false =>
            rw [if_neg (fun z => by rw [eb] at z; cases z.2)] at hQ
            have := hQ M1 a1 s1
            dsimp only at this
            rw [er] at this
            exact itp rfl this
          | true =>
            rw [if_pos ⟨c6, eb⟩] at hQ
            exact itn (by decide) (c_thrown (f := 19) (ru := 57) (hQ M1 a1 s1))
  rw [if_neg c41] at hQ
  refine itn (ne_oN (b := 41) c41 (by omega) (by omega)) ?_
  by_cases cf : isFo i.1
  · rw [if_pos cf] at hQ
    have eF : ∀ y, rcI W i y = rcF W y := fun y => by
      cases y with
      | inl e => rfl
      | inr q =>
        show i36 W i q = _
        unfold i36; rw [if_neg c41, if_pos cf]; rfl
    rw [eF] at hQ
    obtain ⟨r, hr, e67, hrf⟩ := hI.mem (by unfold isN; omega) (Or.inl cf)
    refine c_isInN (o := i.1) (lo := 46) (hi := 49) (by omega) (by omega) (by omega) (itn (by rw [decide_eq_true cf]; decide) ?_)
    rw [e67]
    have fin : ∀ fx pt : Bool, fx = decide (48 ≤ i.1) → pt = decide (i.1 = 47 ∨ i.1 = 49) → w_Machine_findField w (Int32.ofNat r) (b2 fx) (b2 pt) (Int32.ofNat (moff W c + j)) (fun r29 M28 => Q r29 M28) M := fun fx pt e1 e2 => by
      subst e1; subst e2
      exact c_findField (x := xi i) lk ls hnA hK hW.2.1 hW.2.2.1 hLI hLB (h.rfx hK hA hr hrf) hr hF.1.2.1 hF.2.1 (fun M1 a1 s1 _ _ => hQ M1 a1 s1)
    have go : ∀ fx : Bool, fx = decide (48 ≤ i.1) → w_Machine_finds_j126 w Q (Int32.ofNat (moff W c + j)) (Int32.ofNat i.1) (b2 fx) (Int32.ofNat r) M := fun fx e1 => by
      unfold w_Machine_finds_j126 w_Machine_finds_j138 w_Machine_finds_j143
      by_cases c7 : i.1 = 47
      · exact itp (by rw [c7]; rfl) (fin fx true e1 (decide_eq_true (Or.inl c7)).symm)
      refine itn (ne_oN (b := 47) c7 (by omega) (by omega)) ?_
      by_cases c9 : i.1 = 49
      · exact itp (by rw [c9]; rfl) (fin fx true e1 (decide_eq_true (Or.inr c9)).symm)
      · exact itn (ne_oN (b := 49) c9 (by omega) (by omega)) (fin fx false e1 (decide_eq_false (fun z => z.elim c7 c9)).symm)
    by_cases c8 : 48 ≤ i.1
    · exact itn (fun z => by have := (oN_lt (a := i.1) (b := 48) (by omega) (by omega)).mp z; omega) (go true (decide_eq_true c8).symm)
    · exact itp ((oN_lt (a := i.1) (b := 48) (by omega) (by omega)).mpr (by omega)) (go false (decide_eq_false c8).symm)
  rw [if_neg cf] at hQ
  refine c_isInN (o := i.1) (lo := 46) (hi := 49) (by omega) (by omega) (by omega) (itp (by rw [decide_eq_false cf]; rfl) ?_)
  by_cases cm : isMo i.1
  · rw [if_pos cm] at hQ
    have eM : ∀ y, rcI W i y = rcM W y := fun y => by
      cases y with
      | inl e => rfl
      | inr q =>
        show i36 W i q = _
        unfold i36; rw [if_neg c41, if_neg cf, if_pos cm]; rfl
    rw [eM] at hQ
    obtain ⟨r, hr, e67, hrf⟩ := hI.mem (by unfold isN; omega) (Or.inr cm)
    refine c_isInN (o := i.1) (lo := 50) (hi := 53) (by omega) (by omega) (by omega) (itn (by rw [decide_eq_true cm]; decide) ?_)
    rw [e67]
    exact c_findMethod (x := xi i) lk ls hnA hK hW.2.1 hW.2.2.1 hLI hLB (h.rfx hK hA hr hrf) (by omega) (by omega) (Or.inr (Or.inr ⟨c, j, hF.1.2.1, hF.2.1, rfl, fun d => rfl⟩)) (fun M1 a1 s1 _ _ => hQ M1 a1 s1)
  rw [if_neg cm] at hQ
  refine c_isInN (o := i.1) (lo := 50) (hi := 53) (by omega) (by omega) (by omega) (itp (by rw [decide_eq_false cm]; rfl) ?_)
  have := hQ M lk ls
  have e0 : rcI W i (.inr (0, 0)) = 0 := by
    show i36 W i (0, 0) = 0
    unfold i36; rw [if_neg c41, if_neg cf, if_neg cm]
  dsimp only at this
  rw [e0] at this
  exact this
end
