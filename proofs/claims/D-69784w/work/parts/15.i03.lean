/-! THE OPERATION reach, in the works: calls -/
section
variable {A : List Nm} {W : List Cls} {w k B F K c j r qi ab : Nat} {br a b cc : Int32} {nq nk np nh nr : Nat} {s : Ms} {M M' M0 : Mem} {Q : Mem → Prop} {on : Nat → Bool} {L0 : LkS} {x : Mth} {V : RV} {m : Nat × Nat} {z : RV × LkS} {kn : Nm} {i : Ins} {C : Nat → Int32}
theorem Rw.sp (hK : KB w nq nk np nh nr) (h : Rw A W w br nq nk np nh nr L0 z M0 M) (hs : Sp w M M') (hc : cSt w M') : Rw A W w br nq nk np nh nr L0 z M0 M' := ⟨⟨h.1.1.sp hs hK, hc⟩, h.2.1, h.2.2.1.trans (hs.1.sub rfl), h.2.2.2.fr hs.1⟩
theorem range_drop {n k : Nat} (h : k < n) : (List.range n).drop k = k :: (List.range n).drop (k + 1) := by
  rw [List.drop_eq_getElem_cons (by rw [List.length_range]; exact h), List.getElem_range]
theorem c_calls69 (hW : WO W) (hnA : nA A) (hK : KB w nq nk np nh nr) (hab : ab < W.length) (hqi : qi < L6 w) (hr : r < 1000000) : ∀ n k z M, W.length - k < n → k ≤ W.length → Rw A W w br nq nk np nh nr L0 z M0 M → (mI M 67 w qi = Int32.ofNat r ∧ RfX A w r kn x M) → (∀ M', Rw A W w br nq nk np nh nr L0 (clsV br W x ab ((List.range W.length).drop k) z) M0 M' → Q M') → w_Works_callsOf_L69 0 Q n w (Int32.ofNat qi) (Int32.ofNat ab) (Int32.ofNat k) M := by
  intro n
  induction n with
  | zero => intro k z M h; omega
  | succ n ih =>
    intro k z M hn hk h hR hQ
    have h51 := hW.2.2.2
    have hLb := L_le w
    have hcw := h.1.1.1
    have e2 : mI M 5 w 2 = Int32.ofNat W.length := hcw.1.1.1.1.1
    unfold w_Works_callsOf_L69
    rw [e2]
    by_cases ck : k = W.length
    · rw [ck, List.drop_eq_nil_of_le (by rw [List.length_range]; exact Nat.le_refl _)] at hQ
      exact itp (le_oN (by omega) (by omega)) (hQ M h)
    have hkl : k < W.length := by omega
    rw [range_drop hkl] at hQ
    unfold clsV at hQ
    have e40 : mI M 40 w k = (gc W k).2.2.2.1 := (hcw.1.1.2.2 k hkl).2.2
    have l40 : mL M 40 w = 51 := hcw.1.1.2.1.2.2.2
    refine itn (nle_oN (by omega) (by omega)) ⟨by rw [l40]; exact (vp_oN (by omega)).mpr (by omega), ?_⟩
    rw [oN_tnc (k := k) (by omega), e40]
    have nx : ∀ z' M', Rw A W w br nq nk np nh nr L0 z' M0 M' → (mI M' 67 w qi = Int32.ofNat r ∧ RfX A w r kn x M') → (∀ M', Rw A W w br nq nk np nh nr L0 (clsV br W x ab ((List.range W.length).drop (k + 1)) z') M0 M' → Q M') → w_Works_callsOf_j165 0 Q (w_Works_callsOf_L69 0 Q n) w (Int32.ofNat qi) (Int32.ofNat ab) (Int32.ofNat k) M' := by
      intro z' M' h' hR' hQ'
      unfold w_Works_callsOf_j165
      rw [lit32 1, oN_add]
      exact ih (k + 1) z' M' (by omega) (by omega) h' hR' hQ'
    by_cases c6 : (gc W k).2.2.2.1 &&& 6 = 0
    · refine itp c6 ?_
      refine k_isBelow hcw.1.1 h.1.2 hkl (by omega) (fun M1 b1 hb s1 sp1 => ?_)
      have h1 := h.sp hK sp1 s1
      have hR1 : mI M1 67 w qi = Int32.ofNat r ∧ RfX A w r kn x M1 := ⟨(sp1.1.Ia (f := 67) rfl rfl w qi).trans hR.1, hR.2.fr sp1.1⟩
      cases b1 with
      | false =>
        have nb : ¬ bel W k ab = true := fun q => by have := hb.mpr (bel_iff.mp q); cases this
        rw [if_neg (fun q => nb q.2)] at hQ
        exact itp rfl (nx z M1 h1 hR1 hQ)
      | true =>
        have yb : bel W k ab = true := bel_iff.mpr (hb.mp rfl)
        rw [if_pos ⟨c6, yb⟩] at hQ
        refine itn (by decide) ?_
        refine c_link hnA hK hW.2.1 h1.1.1 h1.2.1.1.1 hkl (fun M2 b2' i2 lo2 fr2 => ?_)
        have hmk := lkN_M (br := br) (W := W) (a := z.2) (k := k) h51 h1.2.1.1 hkl
        have h2 : Rw A W w br nq nk np nh nr L0 (z.1, (lkN br W 60 z.2 k).2) M0 M2 := ⟨⟨b2', h1.1.2.fr fr2⟩, h1.2.1.tr hmk, h1.2.2.1.trans (fr2.sub rfl), h1.2.2.2.fr fr2⟩
        have hR2 : mI M2 67 w qi = Int32.ofNat r ∧ RfX A w r kn x M2 := ⟨(fr2.Ia (f := 67) rfl rfl w qi).trans hR1.1, hR1.2.fr fr2⟩
        by_cases c1 : (lkN br W 60 z.2 k).1 = 1
        · rw [if_pos c1] at hQ
          have l6 := h2.1.1.1.2.2.2.1.1
          refine itp c1 ⟨by rw [l6 67 (by omega) (by omega)]; exact (vp_oN (by omega)).mpr hqi, ?_⟩
          rw [oN_tnc (k := qi) (by omega), hR2.1]
          have hl1 : (lkN br W 60 z.2 k).2.1 k = 1 := by rw [lkN_own]; exact c1
          refine c_methodW h2.1.1.1 h2.1.2 hR2.2 hK hnA.1 i2 hW.2.2.1 hkl hl1 (fun M3 s3 sp3 => ?_)
          have h3 := h2.sp hK sp3 s3
          have hR3 : mI M3 67 w qi = Int32.ofNat r ∧ RfX A w r kn x M3 := ⟨(sp3.1.Ia (f := 67) rfl rfl w qi).trans hR2.1, hR2.2.fr sp3.1⟩
          unfold dspW at hQ
          cases em : mthW W x 5 k with
          | none =>
            rw [em] at hQ
            exact itp (show (-2 : Int32) < 0 by decide) (nx _ M3 h3 hR3 hQ)
          | some m =>
            rw [em] at hQ
            dsimp only at hQ
            have hmo := mthW_ok hkl em
            obtain ⟨eo, hm381, hH3⟩ := oM_lt h3.1.1.1 hmo
            have f381' := h3.1.1.1.2.1.1.2.1
            rw [eo]
            refine itn (by rw [Int32.not_lt]; exact oN_zero_le (by omega)) ⟨by rw [f381' 57 (by omega) (by omega)]; exact (vp_oN (a := moff W m.1 + m.2) (by omega)).mpr hm381, ?_⟩
            rw [oN_tnc (k := moff W m.1 + m.2) (by omega), hH3.2.2.1]
            by_cases c8 : (gmt (gc W m.1) m.2).2.2.2.1 &&& 8 = 0
            · rw [if_neg (fun z => z c8)] at hQ
              refine itp c8 ?_
              show w_Works_callsOf_j33 0 (fun M33 => w_Works_callsOf_j165 0 Q (w_Works_callsOf_L69 0 Q n) w (Int32.ofNat qi) (Int32.ofNat ab) (Int32.ofNat k) M33) w (Int32.ofNat (moff W m.1 + m.2)) M3
              refine mf_w_Works_callsOf_j33 (M0 := M3) (Q := fun M' => Fr F_Works_callsOf M3 M' → w_Works_callsOf_j165 0 Q (w_Works_callsOf_L69 0 Q n) w (Int32.ofNat qi) (Int32.ofNat ab) (Int32.ofNat k) M') (fun _ hf hp => hp hf) (Fr.rf _ _) (c_comesB hK h3 ⟨hmo.1, hmo.2.1⟩ (fun M4 h4 f4 => nx _ M4 h4 ⟨(f4.Ia (f := 67) rfl rfl w qi).trans hR3.1, hR3.2.fr f4⟩ hQ))
            · rw [if_pos c8] at hQ
              exact itn c8 (nx _ M3 h3 hR3 hQ)
        · rw [if_neg c1] at hQ
          exact itn c1 (nx _ M2 h2 hR2 hQ)
    · rw [if_neg (fun q => c6 q.1)] at hQ
      exact itn c6 (nx z M h hR hQ)
/-- the class of what is found is linked -/
theorem fIns_lk {a L1 : LkS} {q : Nat × Nat} (hB : BI W) (h51 : W.length ≤ 51) (h : LInv W a.1 ∧ LB a ∧ KJ W a.1) (ef : fIns br W a c x i = (.inr q, L1)) (hop : i.1 = 41 ∨ isFo i.1 ∨ isMo i.1) : L1.1 q.1 = 1 ∧ (isMo i.1 → ∃ ab, fnd W (iK i) = some ab) := by
  have hm := lkd_M (br := br) (nm := iK i) h51 h
  unfold fIns at ef
  rw [if_neg (by unfold isFo isMo at hop; omega)] at ef
  by_cases c41 : i.1 = 41
  · rw [if_pos c41] at ef
    refine ⟨?_, fun e => by unfold isMo at e; omega⟩
    cases el : lkd br W a (iK i) with
    | mk y L =>
      rw [el] at ef
      cases y with
      | inl e => cases ef
      | inr d =>
        dsimp only at ef
        split at ef
        · cases ef
        · cases ef; exact (lkd_in el).2.2
  rw [if_neg c41] at ef
  by_cases cf : isFo i.1
  · rw [if_pos cf] at ef
    obtain ⟨d, hl, hf, -⟩ := fFld_in ef
    obtain ⟨l1, -, l3⟩ := lkd_in hl
    rw [hl] at hm
    exact ⟨(fldW_up hB hm.1.1 hm.1.2.2 (fnd_lt l1) l3 hf).1, fun e => by unfold isFo at cf; unfold isMo at e; omega⟩
  · rw [if_neg cf, if_pos (hop.elim (fun e => absurd e c41) (fun e => e.elim (fun e => absurd e cf) id))] at ef
    obtain ⟨d, hl, -, hf, -⟩ := fMth_in ef
    obtain ⟨l1, -, l3⟩ := lkd_in hl
    rw [hl] at hm
    refine ⟨?_, fun _ => ⟨d, l1⟩⟩
    unfold fMth1 at hf
    split at hf
    · cases eo : ownI (iM i, iA i, iR i, 0, 0, 0, [], []) 0 (gc W d).2.2.2.2.2 with
      | none => rw [eo] at hf; cases hf
      | some jj => rw [eo] at hf; cases hf; exact l3
    · exact (mthW_up hB hm.1.1 hm.1.2.2 (fnd_lt l1) l3 hf).1
/-- an instruction of a method that is reached -/
theorem c_comesBy (hW : WO W) (hnA : nA A) (hK : KB w nq nk np nh nr) (hC : ∀ k, k < W.length → mI M0 46 w k = C k) (h21 : ∀ k, k < 21 → C k = 2) (hc : c < W.length) (hj : j < (gc W c).2.2.2.2.2.length) (h : Rw A W w br nq nk np nh nr L0 z M0 M) (hIf : ∀ L' M', LKw A W w br nq nk np nh nr L' M' → Fr F_Works_reach M M' → cFi A w nk np nr qi i M') (hqi : qi < L6 w) {n0 : Nat} (hwf : wfI n0 i) (hQ : ∀ M', Rw A W w br nq nk np nh nr L0 (rchI br W C c (gmt (gc W c) j) i z) M0 M' → Q M') : w_Works_comesBy 0 w (Int32.ofNat (moff W c + j)) (Int32.ofNat qi) Q M := by
  have h51 := hW.2.2.2
  have hLb := L_le w
  have hI : cFi A w nk np nr qi i M := hIf _ M h.1.1 (Fr.rf _ _)
  have h62 : i.1 < 62 := hI.1.2
  have l6 := h.1.1.1.2.2.2.1.1
  have hok := fIns_ok (br := br) (c := c) (x := gmt (gc W c) j) (i := i) h51 h.2.1.1
  unfold rchI at hQ
  -- found or not
  have j61 : ∀ v5 : Int32, (v5 = 0 ∨ v5 = 1) → (v5 = 1 ↔ (i.1 = 41 ∨ i.1 = 52 ∨ i.1 = 48 ∨ i.1 = 49)) → (i.1 = 41 ∨ i.1 = 48 ∨ i.1 = 49 ∨ isMo i.1) → w_Works_comesBy_j61 0 Q w (Int32.ofNat (moff W c + j)) (Int32.ofNat qi) (Int32.ofNat i.1) v5 M := by
    intro v5 h5 h5' hop
    rw [if_pos hop] at hQ
    unfold w_Works_comesBy_j61
    have n54 : ¬ (i.1 = 54 ∨ i.1 = 55) := by unfold isMo at hop; omega
    refine mf_w_Machine_finds (Q := fun v M' => (LKw A W w br nq nk np nh nr (fIns br W z.2 c (gmt (gc W c) j) i).2 M' ∧ cSt w M') ∧ v = rcJ W i (fIns br W z.2 c (gmt (gc W c) j) i).1) (fun v M1 hf hp => ?_) (c_findsL hW hK hnA h.1.1 h.1.2 h.2.1.1.1 h.2.1.1.2.1 hc hj (fun r hr hc' => h.1.1.1.rfx hK hwf hr hc') hI hqi (fun M' a1 s1 => ⟨⟨a1, s1⟩, rfl⟩))
    obtain ⟨a1, ev⟩ := hp
    subst ev
    cases ef : fIns br W z.2 c (gmt (gc W c) j) i with
    | mk y L1 =>
      rw [ef] at hQ hok a1
      have h1 : Rw A W w br nq nk np nh nr L0 (z.1, L1) M0 M1 := ⟨a1, h.2.1.tr hok.2, h.2.2.1.trans (hf.sub rfl), h.2.2.2.fr hf⟩
      cases y with
      | inl e => exact itn (hok.1.1.neg hok.1.2.1).2 (hQ M1 h1)
      | inr q =>
        dsimp only at hQ
        have hlt := fIns_lt ef
        have er : rcJ W i (.inr q) = i36 W i q := if_neg n54
        obtain ⟨n36, hn36, en36⟩ := i36_lt h1.1.1.1 hlt
        show (if 0 ≤ rcJ W i (.inr q) then _ else _)
        rw [er]
        refine itp (by rw [en36]; exact oN_zero_le (by omega)) ?_
        -- the starts
        have st : ∀ z' M', (v5 = 1 → z'.2 = L1) → Rw A W w br nq nk np nh nr L0 z' M0 M' → (v5 = 1 → ∀ M', Rw A W w br nq nk np nh nr L0 (stsV W C 60 (some q.1) z'.1, z'.2) M0 M' → Q M') → (v5 = 0 → Q M') → w_Works_comesBy_j98 0 Q w (Int32.ofNat i.1) v5 (i36 W i q) M' := by
          intro z' M' ez h' hQ1 hQ0
          unfold w_Works_comesBy_j98
          rcases h5 with e5 | e5
          · exact itp e5 (hQ0 e5)
          refine itn (by rw [e5]; decide) ?_
          have hst : i.1 = 41 ∨ i.1 = 52 ∨ i.1 = 48 ∨ i.1 = 49 := h5'.mp e5
          have hq1 : q.1 < W.length ∧ (q.1 = 0 ∨ L1.1 q.1 = 1) := by
            obtain ⟨k1, k2, k3⟩ := hlt
            refine ⟨?_, Or.inr (fIns_lk hW.1 h51 h.2.1.1 ef (by unfold isFo; omega)).1⟩
            rcases hst with e | e | e | e
            · exact k1 e
            · exact (k3 (by unfold isMo; omega)).1
            · exact (k2 (by unfold isFo; omega)).1
            · exact (k2 (by unfold isFo; omega)).1
          have go : w_Works_comesBy_j140 0 Q (Int32.ofNat q.1) w M' := by
            unfold w_Works_comesBy_j140 w_Works_startsOf
            refine ⟨60, c_startsOf hW.1 hnA hK C hC h21 60 (some q.1) z' M' h' (fun d hd => ?_) (by omega) (hQ1 e5)⟩
            cases hd
            have hrk := rk_le (W := W) (c := q.1)
            refine ⟨hq1.1, ?_⟩
            rw [ez e5]
            rcases hq1.2 with e | e
            · exact Or.inl e
            · exact Or.inr ⟨e, by omega⟩
          by_cases c41 : i.1 = 41
          · refine itp (by rw [c41]; rfl) ?_
            rw [show i36 W i q = Int32.ofNat q.1 from if_pos c41]; exact go
          refine itn (ne_oN (b := 41) c41 (by omega) (by omega)) ?_
          by_cases c52 : i.1 = 52
          · have cm : isMo i.1 := by unfold isMo; omega
            have e36 : i36 W i q = Int32.ofNat (moff W q.1 + q.2) := by unfold i36; rw [if_neg c41, if_neg (by unfold isFo; omega), if_pos cm]
            have hq := hlt.2.2 cm
            obtain ⟨hH, -⟩ := h'.1.1.1.2.1.2.2 q.1 hq.1 q.2 hq.2
            obtain ⟨-, -, w3, -⟩ := h'.1.1.1.mo (e := 0) hq.1
            have f381 := h'.1.1.1.2.1.1.2.1
            rw [e36]
            refine itp (by rw [c52]; rfl) ⟨by rw [f381 55 (by omega) (by omega)]; exact (vp_oN (by omega)).mpr (by omega), ?_⟩
            rw [oN_tnc (k := moff W q.1 + q.2) (by omega), hH.1]; exact go
          · have cf : isFo i.1 := by unfold isFo; omega
            have e36 : i36 W i q = Int32.ofNat (foff W q.1 + q.2) := by unfold i36; rw [if_neg c41, if_pos cf]
            have hq := hlt.2.1 cf
            refine itn (ne_oN (b := 52) c52 (by omega) (by omega)) ?_
            rw [e36]
            exact c_classOfField h'.1.1.1 hq.1 hq.2 go
        by_cases cm : isMo i.1
        · rw [if_pos cm] at hQ
          have o4 : 50 ≤ i.1 ∧ i.1 ≤ 53 := cm
          have e36 : i36 W i q = Int32.ofNat (moff W q.1 + q.2) := by unfold i36; rw [if_neg (by omega), if_neg (by unfold isFo; omega), if_pos cm]
          have hq := hlt.2.2 cm
          refine c_isInN (o := i.1) (lo := 50) (hi := 53) (by omega) (by omega) (by omega) (itn (by rw [decide_eq_true o4]; decide) ?_)
          have hI1 : cFi A w nk np nr qi i M1 := hIf _ M1 a1.1 (hf.sub rfl)
          have hcw1 := h1.1.1.1
          have l61 := hcw1.2.2.2.1.1
          obtain ⟨hH1, -⟩ := hcw1.2.1.2.2 q.1 hq.1 q.2 hq.2
          obtain ⟨-, -, w3, -⟩ := hcw1.mo (e := 0) hq.1
          have f381 := hcw1.2.1.1.2.1
          unfold w_Works_callsOf
          rw [oN_tnc (k := qi) (by omega), hI1.1.1, e36]
          refine ⟨by rw [l61 66 (by omega) (by omega)]; exact (vp_oN (by omega)).mpr hqi, ?_⟩
          have bk : ∀ z' M', (v5 = 1 → z'.2 = L1) → Rw A W w br nq nk np nh nr L0 z' M0 M' → (v5 = 1 → ∀ M', Rw A W w br nq nk np nh nr L0 (stsV W C 60 (some q.1) z'.1, z'.2) M0 M' → Q M') → (v5 = 0 → Q M') → w_Works_comesBy_j98 0 Q w (Int32.ofNat i.1) v5 (Int32.ofNat (moff W q.1 + q.2)) M' := fun z' M' a b c d => by rw [← e36]; exact st z' M' a b c d
          by_cases c52 : i.1 = 52
          · rw [if_pos c52] at hQ
            refine itp (by rw [c52]; rfl) ?_
            exact c_comesB hK h1 hq (fun M2 h2 => bk _ M2 (fun _ => rfl) h2 (fun _ M' h' => hQ M' h') (fun e => absurd (h5'.mpr (Or.inr (Or.inl c52))) (by rw [e]; decide)))
          rw [if_neg c52] at hQ
          have v0 : v5 = 0 := h5.elim id (fun e => absurd (h5'.mp e) (by omega))
          have v1 : v5 = 1 → False := fun e => by rw [v0] at e; exact absurd e (by decide)
          refine itn (ne_oN (b := 52) c52 (by omega) (by omega)) ?_
          by_cases c51 : i.1 = 51
          · rw [if_pos (Or.inl c51)] at hQ
            refine itp (by rw [c51]; rfl) ?_
            exact c_comesB hK h1 hq (fun M2 h2 => bk _ M2 (fun _ => rfl) h2 (fun e => (v1 e).elim) (fun _ => hQ M2 h2))
          refine itn (ne_oN (b := 51) c51 (by omega) (by omega)) ⟨by rw [f381 57 (by omega) (by omega)]; exact (vp_oN (by omega)).mpr (by omega), ?_⟩
          rw [oN_tnc (k := moff W q.1 + q.2) (by omega), hH1.2.2.1]
          by_cases c4 : (gmt (gc W q.1) q.2).2.2.2.1 &&& 4 = 0
          · rw [if_neg (fun e => e.elim c51 (fun e => e c4))] at hQ
            obtain ⟨r, hr, e67, hrf⟩ := hI1.mem (by unfold isN; omega) (Or.inr cm)
            have hRf := hcw1.rfx hK hwf hr hrf
            have hKr := hK.2.2.2.2
            refine itp c4 ⟨by rw [l61 67 (by omega) (by omega)]; exact (vp_oN (by omega)).mpr hqi, ?_⟩
            rw [e67]
            refine c_refClass hRf.1 hcw1.2.2.2.1 (by have := hK.2.2.2.2.1; omega) ?_
            refine c_find hcw1.1.1.1 hRf.1.1.2 ?_
            obtain ⟨ab, hab⟩ := (fIns_lk hW.1 h51 h.2.1.1 ef (Or.inr (Or.inr cm))).2 cm
            rw [hab] at hQ ⊢
            dsimp only at hQ
            have habl := fnd_lt hab
            refine ⟨W.length + 1, ?_⟩
            show w_Works_callsOf_L69 0 _ (W.length + 1) w (Int32.ofNat qi) (Int32.ofNat ab) (21 : Int32) M1
            rw [lit32 21]
            have h21W : 21 ≤ W.length := hW.1.1
            refine c_calls69 (x := xi i) (kn := iK i) (r := r) hW hnA hK habl hqi (by omega) (W.length + 1) 21 (z.1, L1) M1 (by omega) h21W h1 ⟨e67, hRf⟩ (fun M2 h2 => bk _ M2 (fun e => (v1 e).elim) h2 (fun e => (v1 e).elim) (fun _ => hQ M2 ?_))
            · have e0 : List.range W.length = List.range 21 ++ (List.range W.length).drop 21 := by
                rw [show List.range 21 = (List.range W.length).take 21 by rw [List.take_range]; congr 1; omega, List.take_append_drop]
              rw [e0, clsV_low hW.1 h1.2.1.1.1.1.2.2.2.2 (List.range 21) _ z.1 (fun k hk => List.mem_range.mp hk)]
              exact h2
          · rw [if_pos (Or.inr c4)] at hQ
            refine itn c4 ?_
            exact c_comesB hK h1 hq (fun M2 h2 => bk _ M2 (fun _ => rfl) h2 (fun e => (v1 e).elim) (fun _ => hQ M2 h2))
        · rw [if_neg cm] at hQ
          refine c_isInN (o := i.1) (lo := 50) (hi := 53) (by omega) (by omega) (by omega) (itp (by rw [decide_eq_false (fun e => cm e)]; rfl) ?_)
          have hst : i.1 = 41 ∨ i.1 = 52 ∨ i.1 = 48 ∨ i.1 = 49 := by
            rcases hop with e | e | e | e
            · exact Or.inl e
            · exact Or.inr (Or.inr (Or.inl e))
            · exact Or.inr (Or.inr (Or.inr e))
            · exact absurd e cm
          exact st (z.1, L1) M1 (fun _ => rfl) h1 (fun _ M' h' => hQ M' h') (fun e => absurd (h5'.mpr hst) (by rw [e]; decide))
  unfold w_Works_comesBy
  rw [oN_tnc (k := qi) (by omega), hI.1.1]
  refine ⟨by rw [l6 66 (by omega) (by omega)]; exact (vp_oN (by omega)).mpr hqi, ?_⟩
  have j36 : (i.1 = 41 ∨ i.1 = 52 ∨ i.1 = 48 ∨ i.1 = 49) → w_Works_comesBy_j36 0 Q w (Int32.ofNat (moff W c + j)) (Int32.ofNat qi) (Int32.ofNat i.1) M := fun hst => by
    unfold w_Works_comesBy_j36 w_Works_comesBy_j41
    exact itn (by decide) (j61 1 (Or.inr rfl) ⟨fun _ => hst, fun _ => rfl⟩ (by unfold isMo; omega))
  by_cases c41 : i.1 = 41
  · exact itp (by rw [c41]; rfl) (j36 (Or.inl c41))
  refine itn (ne_oN (b := 41) c41 (by omega) (by omega)) ?_
  by_cases c52 : i.1 = 52
  · exact itp (by rw [c52]; rfl) (j36 (Or.inr (Or.inl c52)))
  refine itn (ne_oN (b := 52) c52 (by omega) (by omega)) ?_
  by_cases c48 : i.1 = 48
  · exact itp (by rw [c48]; rfl) (j36 (Or.inr (Or.inr (Or.inl c48))))
  refine itn (ne_oN (b := 48) c48 (by omega) (by omega)) ?_
  by_cases c49 : i.1 = 49
  · exact itp (by rw [c49]; rfl) (j36 (Or.inr (Or.inr (Or.inr c49))))
  refine itn (ne_oN (b := 49) c49 (by omega) (by omega)) ?_
  unfold w_Works_comesBy_j41
  refine itp rfl ?_
  by_cases cm : isMo i.1
  · have o4 : 50 ≤ i.1 ∧ i.1 ≤ 53 := cm
    refine c_isInN (o := i.1) (lo := 50) (hi := 53) (by omega) (by omega) (by omega) (itn (by rw [decide_eq_true o4]; decide) ?_)
    exact j61 0 (Or.inl rfl) ⟨fun e => absurd e (by decide), fun e => by omega⟩ (Or.inr (Or.inr (Or.inr cm)))
  · rw [if_neg (fun e => e.elim c41 (fun e => e.elim c48 (fun e => e.elim c49 cm)))] at hQ
    refine c_isInN (o := i.1) (lo := 50) (hi := 53) (by omega) (by omega) (by omega) (itp (by rw [decide_eq_false (fun e => cm e)]; rfl) (hQ M h))
end
