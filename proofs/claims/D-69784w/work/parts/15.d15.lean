/-! B: the works' checker: a class -/
section
variable {A : List Nm} {W : List Cls} {w c k this : Nat} {br : Int32} {nq nk np nh nr : Nat} {M M' : Mem}
theorem begL_len {W : List Cls} {c : Nat} {x : Mth} : (begL W c x).length = x.2.1.length + (if x.2.2.2.1 &&& 1 = 0 then 1 else 0) := by
  unfold begL
  rw [List.length_append]
  split
  · simp; omega
  · simp
theorem c_kbegin {Q : Mem → Prop} (h : KE A W w c k br nq nk np nh nr this M) (hL2 : mL M 31 this = 20 ∧ mL M 32 this = 24) (h8 : mI M 4 this 8 = 0) (hne : co (gmt (gc W c) k) ≠ []) (hQ : ∀ M', KE A W w c k br nq nk np nh nr this M' → KS A (gmt (gc W c) k) this (padL (gmt (gc W c) k) (begL W c (gmt (gc W c) k))) [] true M' → Q M') : w_Checker_begin this Q M := by
  have hm := h.mlt
  have hlr := h.lr
  have hl2 := h.lc
  obtain ⟨hT, ⟨s0, l0, e1, e2, h1, h2, h3⟩, -⟩ := h.wf
  have h6 := hT.2.2
  have hbl := begL_len (W := W) (c := c) (x := gmt (gc W c) k)
  have hnb : (begL W c (gmt (gc W c) k)).length ≤ lr (gmt (gc W c) k) := by
    rw [hbl]
    have e : lr (gmt (gc W c) k) = l0 := by show (gmt (gc W c) k).2.2.2.2.2.1.toNatClampNeg = l0; rw [e2, oN_tnc (by omega)]
    rw [e]; exact h3 hne
  have hpl : (padL (gmt (gc W c) k) (begL W c (gmt (gc W c) k))).length = lr (gmt (gc W c) k) := by unfold padL; rw [List.length_append, List.length_replicate]; omega
  have gpad : ∀ i, i < (begL W c (gmt (gc W c) k)).length → gk (padL (gmt (gc W c) k) (begL W c (gmt (gc W c) k))) i = gk (begL W c (gmt (gc W c) k)) i := fun i hi => by unfold padL; rw [gk_ap, if_pos hi]
  have gpad2 : ∀ i, (begL W c (gmt (gc W c) k)).length ≤ i → i < lr (gmt (gc W c) k) → gk (padL (gmt (gc W c) k) (begL W c (gmt (gc W c) k))) i = uns := fun i hi hi2 => by
    unfold padL
    rw [gk_ap, if_neg (by omega)]
    show (List.replicate _ uns).getD _ _ = uns
    rw [List.getD_eq_getElem?_getD, List.getElem?_replicate, if_pos (by omega)]; rfl
  generalize hP : padL (gmt (gc W c) k) (begL W c (gmt (gc W c) k)) = P at hpl gpad gpad2 hQ
  -- the rest is unset
  have loopU : ∀ n j M, KE A W w c k br nq nk np nh nr this M → (mL M 31 this = 20 ∧ mL M 32 this = 24) → mI M 4 this 8 = 0 → lr (gmt (gc W c) k) - j < n → (begL W c (gmt (gc W c) k)).length ≤ j → j ≤ lr (gmt (gc W c) k) → (∀ i, i < j → mI M 31 this i = kC A (gk P i) ∧ kwf A (co (gmt (gc W c) k)) (gk P i)) → w_Checker_begin_L106 this Q n (Int32.ofNat (lr (gmt (gc W c) k))) (Int32.ofNat j) M := by
    intro n
    induction n with
    | zero => intro j M _ _ _ hn; exact absurd hn (by omega)
    | succ n ih =>
      intro j M hK hL2 h8 hn hj1 hj hs
      unfold w_Checker_begin_L106
      by_cases cj : lr (gmt (gc W c) k) ≤ j
      · refine itp (le_oN cj (by omega)) ⟨Or.inr rfl, hQ _ (hK.fr (S := (857380182920762500324831254276295903966887737381868296036319803867227119447874543993961783402114640451121740165271249072238023902733037465553061065655592315150283177804472639713654935869813353375359418852607731718114322693814764324276761041498224407875521681174109655158977446464480957392927050911841079328634719525909442018683483921679581403634868942099991550995864602389511800903535863030303088117962792513893946111694473935678576842612577960273481509209800953641339941741136513932816667968148052381475492474623319591411054846959427898048512)) (Fr.wI rfl (Fr.wI rfl (Fr.rf _ _)))) ⟨hL2, ⟨fun i hi => ?_, hpl⟩, ⟨fun i hi => absurd hi (by simp), ?_, by simp⟩, ?_, ?_⟩⟩
        · have := hs i (by omega)
          simp only [mI_sI, mI_sR, mI_sJ, mR_sI, mL_sI, mL_sR, mR_sR, Nat.reduceEqDiff, and_false, false_and, if_false, and_self, true_and, and_true, if_true]; exact this
        · simp only [mI_sI, mI_sR, mI_sJ, mR_sI, mL_sI, mL_sR, mR_sR, Nat.reduceEqDiff, and_false, false_and, if_false, and_self, true_and, and_true, if_true]; rfl
        · simp only [mI_sI, mI_sR, mI_sJ, mR_sI, mL_sI, mL_sR, mR_sR, Nat.reduceEqDiff, and_false, false_and, if_false, and_self, true_and, and_true, if_true]; rfl
        · simp only [mI_sI, mI_sR, mI_sJ, mR_sI, mL_sI, mL_sR, mR_sR, Nat.reduceEqDiff, and_false, false_and, if_false, and_self, true_and, and_true, if_true]; exact h8
      refine itn (nle_oN (by omega) (by omega)) ?_
      rw [hL2.1, oN_tnc (by omega), show Int32.ofNat j + (1 : Int32) = Int32.ofNat (j + 1) from oN_add j 1]
      refine ⟨(vp_oN (by omega)).mpr (by omega), ih (j + 1) _ hK.s31 hL2 (by simp only [mI_sI, mI_sR, mI_sJ, mR_sI, mL_sI, mL_sR, mR_sR, Nat.reduceEqDiff, and_false, false_and, if_false, and_self, true_and, and_true, if_true]; exact h8) (by omega) (by omega) (by omega) (fun i hi => ?_)⟩
      rw [mI_sI]
      by_cases e : i = j
      · rw [if_pos ⟨rfl, rfl, e⟩, e, gpad2 j hj1 (by omega)]; exact ⟨rfl, kwf_uns⟩
      · rw [if_neg (fun q => e q.2.2)]; exact hs i (by omega)
  -- arguments
  have loopA : ∀ s, (begL W c (gmt (gc W c) k)).length = s + (gmt (gc W c) k).2.1.length → (∀ j, j < (gmt (gc W c) k).2.1.length → gk (begL W c (gmt (gc W c) k)) (s + j) = gk (gmt (gc W c) k).2.1 j) → ∀ n j M, KE A W w c k br nq nk np nh nr this M → (mL M 31 this = 20 ∧ mL M 32 this = 24) → mI M 4 this 8 = 0 → (gmt (gc W c) k).2.1.length - j < n → j ≤ (gmt (gc W c) k).2.1.length → (∀ i, i < s + j → mI M 31 this i = kC A (gk P i) ∧ kwf A (co (gmt (gc W c) k)) (gk P i)) → w_Checker_begin_L58 this Q n (Int32.ofNat (lr (gmt (gc W c) k))) (Int32.ofNat (s + j)) (Int32.ofNat j) M := by
    intro s hs1 hs2 n
    induction n with
    | zero => intro j M _ _ _ hn; exact absurd hn (by omega)
    | succ n ih =>
      intro j M hK hL2 h8 hn hj hs
      have hd := hK.hd.2.2.2.1
      unfold w_Checker_begin_L58
      refine ⟨w, hK.r, ?_⟩
      rw [hK.m6, oN_tnc (k := moff W c + k) (by omega), hd.1, hK.ml (by omega) (by omega)]
      refine ⟨(vp_oN (by omega)).mpr hm, ?_⟩
      by_cases cj : (gmt (gc W c) k).2.1.length ≤ j
      · refine itp (le_oN cj (by omega)) ⟨lr (gmt (gc W c) k) + 1, loopU _ _ M hK hL2 h8 (by omega) (by omega) (by omega) hs⟩
      refine itn (nle_oN (by omega) (by omega)) ⟨w, hK.r, ?_⟩
      obtain ⟨d1, d2, d3⟩ := hd.2.2 j (by omega)
      rw [show (6 : Int32) * Int32.ofNat (moff W c + k) = Int32.ofNat (6 * (moff W c + k)) from oN_mul 6 _, oN_add, oN_tnc (k := 6 * (moff W c + k) + j) (by omega), d1, hL2.1, oN_tnc (k := s + j) (by omega), hK.2.1.2.1.1.2.2]
      refine ⟨(vp_oN (by omega)).mpr (by omega), (vp_oN (by omega)).mpr (by omega), _, rfl, ?_⟩
      rw [show Int32.ofNat (s + j) + (1 : Int32) = Int32.ofNat (s + (j + 1)) from oN_add (s + j) 1, show Int32.ofNat j + (1 : Int32) = Int32.ofNat (j + 1) from oN_add j 1]
      refine ih (j + 1) _ hK.s31 hL2 (by simp only [mI_sI, mI_sR, mI_sJ, mR_sI, mL_sI, mL_sR, mR_sR, Nat.reduceEqDiff, and_false, false_and, if_false, and_self, true_and, and_true, if_true]; exact h8) (by omega) (by omega) (fun i hi => ?_)
      rw [mI_sI]
      by_cases e : i = s + j
      · rw [if_pos ⟨rfl, rfl, e⟩, e, gpad _ (by omega), hs2 j (by omega)]; exact ⟨rfl, kwf_kd d3 d2⟩
      · rw [if_neg (fun q => e q.2.2)]; exact hs i (by omega)
  unfold w_Checker_begin
  refine ⟨w, h.r, ?_⟩
  rw [h.m6, oN_tnc (k := moff W c + k) (by omega), hlr.1, h.ml (by omega) (by omega)]
  refine ⟨(vp_oN (by omega)).mpr hm, w, h.r, ?_⟩
  rw [h.hd.2.2.1, h.ml (by omega) (by omega)]
  refine ⟨(vp_oN (by omega)).mpr hm, ?_⟩
  by_cases c1 : (gmt (gc W c) k).2.2.2.1 &&& 1 = 0
  · refine itp c1 ?_
    rw [if_pos c1] at hbl
    have put : ∀ κ, gk (begL W c (gmt (gc W c) k)) 0 = κ → kwf A (co (gmt (gc W c) k)) κ → w_Checker_begin_j53 this Q (Int32.ofNat (lr (gmt (gc W c) k))) (kC A κ) 0 M := fun κ eκ hκ => by
      unfold w_Checker_begin_j53 w_Checker_begin_j56
      refine ⟨by rw [hL2.1]; exact (vp_oN (a := 0) (by omega)).mpr (by omega), (gmt (gc W c) k).2.1.length + 1, ?_⟩
      refine loopA 1 (by omega) (fun j hj => ?_) _ 0 _ h.s31 hL2 (by simp only [mI_sI, mI_sR, mI_sJ, mR_sI, mL_sI, mL_sR, mR_sR, Nat.reduceEqDiff, and_false, false_and, if_false, and_self, true_and, and_true, if_true]; exact h8) (by omega) (by omega) (fun i hi => ?_)
      · unfold begL
        rw [if_pos c1, gk_ap, if_neg (by simp)]
        congr 1
        simp
      · have e0 : i = 0 := by omega
        rw [e0, gpad 0 (by omega), eκ, mI_sI, if_pos ⟨rfl, rfl, rfl⟩]; exact ⟨rfl, hκ⟩
    have g0 : gk (begL W c (gmt (gc W c) k)) 0 = if (gmt (gc W c) k).1 = nMake then (-3, []) else (2, (gc W c).1) := by
      unfold begL
      rw [if_pos c1]; rfl
    refine c_isMaker h ?_
    by_cases c2 : (gmt (gc W c) k).1 = nMake
    · rw [decide_eq_true c2]
      rw [if_pos c2] at g0
      exact itn (by decide) (put (-3, []) g0 (Or.inr ⟨rfl, Or.inl ⟨by decide, by decide⟩⟩))
    · rw [decide_eq_false c2]
      rw [if_neg c2] at g0
      exact itp (by decide) (c_classKind h (fun hc => put _ g0 hc))
  · rw [if_neg c1] at hbl
    refine itn c1 ?_
    unfold w_Checker_begin_j56
    refine ⟨(gmt (gc W c) k).2.1.length + 1, loopA 0 (by omega) (fun j hj => ?_) _ 0 M h hL2 h8 (by omega) (by omega) (fun i hi => absurd hi (by omega))⟩
    unfold begL
    rw [if_neg c1, List.nil_append, Nat.zero_add]
/-- a method -/
theorem c_all {Q : Mem → Prop} (h : KE A W w c k br nq nk np nh nr this M) (hL2 : mL M 31 this = 20 ∧ mL M 32 this = 24) (h8 : mI M 4 this 8 = 0) (h9 : mI M 4 this 9 = 0) (h10 : mI M 4 this 10 = 0) (hne : co (gmt (gc W c) k) ≠ []) (hQ : (chkM W c (gmt (gc W c) k)).1 = 0 → ∀ M', KE A W w c k br nq nk np nh nr this M' → (mL M' 31 this = 20 ∧ mL M' 32 this = 24) → mI M' 4 this 8 = 0 → mI M' 4 this 10 = 0 → Q M') (hX : (chkM W c (gmt (gc W c) k)).1 ≠ 0 → ∀ M', KZ A W w c k br nq nk np nh nr this (chkM W c (gmt (gc W c) k)).2 (chkM W c (gmt (gc W c) k)).1 M' → Q M') : w_Checker_all this Q M := by
  have hm := h.mlt
  have h80 := h.wf.2.2.1.1
  have loop : ∀ n a s M, KN A W w c k br nq nk np nh nr this a s M → mI M 4 this 9 = 0 → (co (gmt (gc W c) k)).length - a < n → a ≤ (co (gmt (gc W c) k)).length → chkM W c (gmt (gc W c) k) = allS W c (gmt (gc W c) k) ((co (gmt (gc W c) k)).length - a) a s → w_Checker_all_L9 this Q n M := by
    intro n
    induction n with
    | zero => intro a s M _ _ hn; exact absurd hn (by omega)
    | succ n ih =>
      intro a s M hN h9 hn ha he
      obtain ⟨hK, hU, h10, h7⟩ := id hN
      obtain ⟨q0, hh0, ⟨a1, a2, a3, a4, a5, a6, a7, a8⟩, -, -⟩ := hK.mc
      have e63 : mI M 63 w (moff W c + k) = Int32.ofNat (co (gmt (gc W c) k)).length := a2
      unfold w_Checker_all_L9
      refine ⟨w, hK.r, ?_⟩
      rw [hK.m6, oN_tnc (k := moff W c + k) (by omega), e63, h7, hK.ml (by omega) (by omega)]
      refine ⟨(vp_oN (by omega)).mpr hm, ?_⟩
      by_cases ca : (co (gmt (gc W c) k)).length ≤ a
      · rw [show (co (gmt (gc W c) k)).length - a = 0 by omega] at he
        refine itp (le_oN ca (by omega)) (hQ (by rw [he]; rfl) _ (hK.fr (S := (9145388617821466670131533378947156308980135865406595157720744574583755940777328469268925689622556164811965228429559990103872254962485732965899318033659651361603020563247708156945652649278009102670500467761149138326552775400690819458952117775981060350672231265857169655029092762287796878857888543059638179505437008276367381532623828497915534972105268715733243210622555758821459209637715872323232939924936453481535425191407721980571486321200831576250469431571210172174292711905456148616711124993579225402405253062648742308384585034233897579184128)) (Fr.wI rfl (Fr.rf _ _))) hU.1 ?_ ?_)
        · simp only [mI_sI, mI_sR, mI_sJ, mR_sI, mL_sI, mL_sR, mR_sR, Nat.reduceEqDiff, and_false, false_and, if_false, and_self, true_and, and_true, if_true]; exact hU.2.2.2
        · simp only [mI_sI, mI_sR, mI_sJ, mR_sI, mL_sI, mL_sR, mR_sR, Nat.reduceEqDiff, and_false, false_and, if_false, and_self, true_and, and_true, if_true]; exact h10
      refine itn (nle_oN (by omega) (by omega)) ?_
      rw [show (co (gmt (gc W c) k)).length - a = ((co (gmt (gc W c) k)).length - (a + 1)) + 1 by omega] at he
      refine mf_w_Checker_one (Q := fun v M' => Fr F_Checker_one M M' → (if v = 0 then Q M' else w_Checker_all_L9 this Q n (sI M' 4 this 7 (mI M' 4 this 7 + 1)))) (fun v M' hf hp => hp hf) (c_one hN (by omega) h9 ?_)
      unfold allS at he
      cases e : oneS W c (gmt (gc W c) k) a s with
      | inl r =>
        rw [e] at he
        refine fun M' z _ => itp rfl ?_
        have he : chkM W c (gmt (gc W c) k) = (r, a) := he
        rw [he] at hX hQ
        by_cases c0 : r = 0
        · refine hQ c0 M' z.1 z.2.1 ?_ z.2.2.1
          rw [z.2.2.2.2, c0]; rfl
        · exact hX c0 M' z
      | inr s' =>
        rw [e] at he
        refine fun M' z hf => itn (by decide) ?_
        obtain ⟨zK, zU, z10, z7⟩ := z
        rw [z7, show Int32.ofNat a + (1 : Int32) = Int32.ofNat (a + 1) from oN_add a 1]
        have rr : ∀ f i k', f ≠ 4 → mI (sI M' 4 this 7 (Int32.ofNat (a + 1))) f i k' = mI M' f i k' := fun f i k' hf => by rw [mI_sI, if_neg (fun q => hf q.1)]
        have r4 : ∀ k', k' ≠ 7 → mI (sI M' 4 this 7 (Int32.ofNat (a + 1))) 4 this k' = mI M' 4 this k' := fun k' hf => by rw [mI_sI, if_neg (fun q => hf q.2.2)]
        have hfr : Fr (9145388617821466670131533378947156308980135865406595157720744574583755940777328469268925689622556164811965228429559990103872254962485732965899318033659651361603020563247708156945652649278009102670500467761149138326552775400690819458952117775981060350672231265857169655029092762287796878857888543059638179505437008276367381532623828497915534972105268715733243210622555758821459209637715872323232939924936453481535425191407721980571486321200831576250469431571210172174292711905456148616711124993579225402405253062648742308384585034233897579184128) M' (sI M' 4 this 7 (Int32.ofNat (a + 1))) := Fr.wI rfl (Fr.rf _ _)
        refine ih (a + 1) s' _ ⟨zK.fr hfr, ⟨zU.1, fun q => ?_, by rw [r4 3 (by omega)]; exact zU.2.2.1, by rw [r4 8 (by omega)]; exact zU.2.2.2⟩, by rw [r4 10 (by omega)]; exact z10, by rw [mI_sI, if_pos ⟨rfl, rfl, rfl⟩]⟩ ?_ (by omega) (by omega) he
        · obtain ⟨u1, ⟨u2, u3⟩, ⟨u4, u5, u6⟩, u7, u8⟩ := zU.2.1 q
          exact ⟨u1, ⟨fun i hi => by rw [rr _ _ _ (by omega)]; exact u2 i hi, u3⟩, ⟨fun i hi => by rw [rr _ _ _ (by omega)]; exact u4 i hi, by rw [r4 2 (by omega)]; exact u5, u6⟩, by rw [r4 3 (by omega)]; exact u7, by rw [r4 8 (by omega)]; exact u8⟩
        · rw [r4 9 (by omega)]
          exact (hf.I (f := 4) (k := 9) rfl this).trans h9
  unfold w_Checker_all
  refine mf_w_Checker_begin (Q := fun M' => Fr F_Checker_begin M M' → ∃ n8 : Nat, w_Checker_all_L9 this Q n8 (sI M' 4 this 7 (0 : Int32))) (fun M' hf hp => hp hf) (c_kbegin h hL2 h8 hne (fun M' zK zS hf => ⟨(co (gmt (gc W c) k)).length + 1, ?_⟩))
  have rr : ∀ f i k', f ≠ 4 → mI (sI M' 4 this 7 0) f i k' = mI M' f i k' := fun f i k' hf => by rw [mI_sI, if_neg (fun q => hf q.1)]
  have r4 : ∀ k', k' ≠ 7 → mI (sI M' 4 this 7 0) 4 this k' = mI M' 4 this k' := fun k' hf => by rw [mI_sI, if_neg (fun q => hf q.2.2)]
  have hfr : Fr (9145388617821466670131533378947156308980135865406595157720744574583755940777328469268925689622556164811965228429559990103872254962485732965899318033659651361603020563247708156945652649278009102670500467761149138326552775400690819458952117775981060350672231265857169655029092762287796878857888543059638179505437008276367381532623828497915534972105268715733243210622555758821459209637715872323232939924936453481535425191407721980571486321200831576250469431571210172174292711905456148616711124993579225402405253062648742308384585034233897579184128) M' (sI M' 4 this 7 0) := Fr.wI rfl (Fr.rf _ _)
  obtain ⟨u1, ⟨u2, u3⟩, ⟨u4, u5, u6⟩, u7, u8⟩ := zS
  refine loop _ 0 (padL (gmt (gc W c) k) (begL W c (gmt (gc W c) k)), [], true) _ ⟨zK.fr hfr, ⟨u1, fun _ => ⟨u1, ⟨fun i hi => by rw [rr _ _ _ (by omega)]; exact u2 i hi, u3⟩, ⟨fun i hi => by rw [rr _ _ _ (by omega)]; exact u4 i hi, by rw [r4 2 (by omega)]; exact u5, u6⟩, by rw [r4 3 (by omega)]; exact u7, by rw [r4 8 (by omega)]; exact u8⟩, by rw [r4 3 (by omega)]; exact u7, by rw [r4 8 (by omega)]; exact u8⟩, ?_, by rw [mI_sI, if_pos ⟨rfl, rfl, rfl⟩]; rfl⟩ ?_ (by omega) (by omega) (by rw [Nat.sub_zero]; rfl)
  · rw [r4 10 (by omega)]
    exact (hf.I (f := 4) (k := 10) rfl this).trans h10
  · rw [r4 9 (by omega)]
    exact (hf.I (f := 4) (k := 9) rfl this).trans h9
theorem chkC_drop {W : List Cls} {c j : Nat} {L : List Mth} {d : Mth} (h : j < L.length) : chkC W c j (L.drop j) = if (chkM W c (L.getD j d)).1 = 0 then chkC W c (j + 1) (L.drop (j + 1)) else some (j, (chkM W c (L.getD j d)).1, (chkM W c (L.getD j d)).2) := by
  have e : L.drop j = L.getD j d :: L.drop (j + 1) := by
    rw [List.drop_eq_getElem_cons h]
    congr 1
    rw [List.getD_eq_getElem?_getD, List.getElem?_eq_getElem h]; rfl
  rw [e]
  rfl
theorem chkM_nil {W : List Cls} {c : Nat} {x : Mth} (h : co x = []) : (chkM W c x).1 = 0 := by
  unfold chkM
  rw [h]; rfl
/-! rules are small numbers -/
theorem fitK_le {W : List Cls} {a b : Kd} : fitK W a b ≤ 60 := by rcases fitK_val (W := W) (a := a) (b := b) with q | q | q <;> omega
theorem fitL_le {W : List Cls} : ∀ {lo fl : List Kd}, fitL W lo fl ≤ 60
  | [], _ => by unfold fitL; omega
  | a :: lo, fl => by
    unfold fitL
    split
    · exact fitL_le
    · exact fitK_le
theorem fitS_le {W : List Cls} {lo st fl fs : List Kd} : fitS W lo st fl fs ≤ 60 := by
  unfold fitS
  split
  · exact fitL_le
  · split
    · omega
    · exact fitL_le
theorem goesS_le {W : List Cls} {x : Mth} {lo st : List Kd} {t : Nat} : goesS W x lo st t ≤ 60 := by
  unfold goesS
  cases frOf x t with
  | none => show (36 : Nat) ≤ 60; omega
  | some f =>
    show (if wrongF x f.1 f.2 = true then 38 else fitS W lo st f.1 f.2) ≤ 60
    split
    · omega
    · exact fitS_le
theorem handOne_le {W : List Cls} {x : Mth} {lo : List Kd} {h : Hnd} : handOne W x lo h ≤ 60 := by
  unfold handOne
  cases frOf x h.2.2.1 with
  | none => show (36 : Nat) ≤ 60; omega
  | some f =>
    show (if wrongF x f.1 f.2 = true then 38 else if f.2.length ≠ 1 then 37 else if fitL W lo f.1 ≠ 0 then fitL W lo f.1 else fitK W _ (gk f.2 0)) ≤ 60
    split
    · omega
    · split
      · omega
      · split
        · exact fitL_le
        · exact fitK_le
theorem handS_le {W : List Cls} {x : Mth} {lo : List Kd} {a : Nat} : ∀ {H : List Hnd}, handS W x lo a H ≤ 60
  | [] => by unfold handS; omega
  | h :: H => by
    unfold handS
    split
    · exact handS_le
    · split
      · exact handS_le
      · exact handOne_le
theorem pickS_le {W : List Cls} {x : Mth} {lo st : List Kd} {ts : List Nat} : ∀ {n k : Nat}, pickS W x lo st ts n k ≤ 60
  | 0, _ => by unfold pickS; omega
  | n + 1, k => by
    unfold pickS
    split
    · exact pickS_le
    · exact goesS_le
theorem wOne_le {W : List Cls} {t : Wt} {κ : Kd} : wOne W t κ ≤ 60 := by
  unfold wOne
  repeat' split
  all_goals omega
theorem wFst_le {W : List Cls} {st : List Kd} : ∀ {ws : List Wt} {k : Nat}, wFst W st k ws ≤ 60
  | [], _ => by unfold wFst; omega
  | t :: ws, k => by
    unfold wFst
    split
    · exact wFst_le
    · exact wOne_le
theorem takeS_le {W : List Cls} {st : List Kd} {ws : List Wt} : takeS W st ws ≤ 60 := by
  unfold takeS
  split
  · omega
  · split
    · exact wFst_le
    · split <;> omega
theorem takenS_le {W : List Cls} {c : Nat} {x : Mth} {i : Ins} {lo st : List Kd} : takenS W c x i lo st ≤ 60 := by
  unfold takenS
  split
  · omega
  · split
    · exact takeS_le
    · split <;> omega
theorem ownS_le {W : List Cls} {c : Nat} {x : Mth} {i : Ins} {lo st : List Kd} : ownS W c x i lo st ≤ 60 := by
  unfold ownS
  repeat' split
  all_goals omega
theorem thenS_le {W : List Cls} {x : Mth} {i : Ins} {a : Nat} {lo st : List Kd} : thenS W x i a lo st ≤ 60 := by
  unfold thenS
  split
  · exact handS_le
  · split
    · exact goesS_le
    · split
      · exact pickS_le
      · omega
theorem stepS_le {W : List Cls} {c : Nat} {x : Mth} {a r : Nat} {lo st : List Kd} (h : stepS W c x a lo st = .inl r) : r ≤ 60 := by
  unfold stepS at h
  repeat' split at h
  all_goals first
    | (cases h; done)
    | (injection h with h; subst h; first | exact handS_le | exact takenS_le | exact ownS_le | exact thenS_le | omega)
theorem oneS_le {W : List Cls} {c : Nat} {x : Mth} {a r : Nat} {s : KSt} (h : oneS W c x a s = .inl r) : r ≤ 60 := by
  unfold oneS at h
  split at h
  · split at h
    · exact stepS_le h
    · injection h with h; omega
  · split at h
    · injection h with h; omega
    · split at h
      · injection h with h; subst h; exact fitS_le
      · exact stepS_le h
theorem allS_le {W : List Cls} {c : Nat} {x : Mth} : ∀ {n a : Nat} {s : KSt}, (allS W c x n a s).1 ≤ 60
  | 0, _, _ => by unfold allS; omega
  | n + 1, a, s => by
    unfold allS
    split
    · rename_i e; exact oneS_le e
    · exact allS_le
theorem chkM_le {W : List Cls} {c : Nat} {x : Mth} : (chkM W c x).1 ≤ 60 := allS_le
/-- a class's methods, one after another -/
theorem c_check {Q : Int32 → Mem → Prop} (hCW : CWx A W w br nq nk np nh nr M) (hA : nA A) (hKB : KB w nq nk np nh nr) (hc : c < W.length) (hwf : ∀ m ∈ (gc W c).2.2.2.2.2, wfM m) (hpar : (gc W c).2.1 ≠ []) (hL2 : mL M 31 this = 20 ∧ mL M 32 this = 24) (h9 : mI M 4 this 9 = 0) (h10 : mI M 4 this 10 = 0)
    (hQ : chkC W c 0 (gc W c).2.2.2.2.2 = none → ∀ M', Fr (1206905504158126679623920795602932534150722304987876604720459510577100041809458066428833537102376708875029036239313494944020391647080539072343525626754522115626548619956095985836921598059407263768047608604854150348532261578659916580473587292749000558152776019866088357912120585473167694356776978666901626001608140185971857881633450867084290755850017180829421439951845405296969445071877316525659998992701443244666271649478139271655413176906120340422735028158593583416644578068473634687303322133418916366870289752824864682212614848723163115616731136) M M' → Q 1 M')
    (hX : ∀ j r a M1, chkC W c 0 (gc W c).2.2.2.2.2 = some (j, r, a) → Fr (1206905504158126679623920795602932534150722304987876604720459510577100041809458066428833537102376708875029036239313494944020391647080539072343525626754522115626548619956095985836921598059407263768047608604854150348532261578659916580473587292749000558152776019866088357912120585473167694356776978666901626001608140185971857881633450867084290755850017180829421439951845405296969445071877316525659998992701443244666271649478139271655413176906120340422735028158593583416644578068473634687303322133418916366870289752824864682212614848723163115616731136) M M1 → Q (100 * Int32.ofNat r + 17) (sI (sI (sI M1 5 w 56 (Int32.ofNat c)) 5 w 57 (Int32.ofNat j)) 5 w 58 (Int32.ofNat a))) : w_Checker_check this w (Int32.ofNat c) Q M := by
  have h51 : W.length ≤ 51 := hCW.1.1.1.1.2.2.1
  have loop : ∀ n j M1, Fr (1206905504158126679623920795602932534150722304987876604720459510577100041809458066428833537102376708875029036239313494944020391647080539072343525626754522115626548619956095985836921598059407263768047608604854150348532261578659916580473587292749000558152776019866088357912120585473167694356776978666901626001608140185971857881633450867084290755850017180829421439951845405296969445071877316525659998992701443244666271649478139271655413176906120340422735028158593583416644578068473634687303322133418916366870289752824864682212614848723163115616731136) M M1 → mR M1 4 this 4 = some (5, w) → mI M1 4 this 5 = Int32.ofNat c → (gc W c).2.2.2.2.2.length - j < n → j ≤ (gc W c).2.2.2.2.2.length → chkC W c 0 (gc W c).2.2.2.2.2 = chkC W c j ((gc W c).2.2.2.2.2.drop j) → w_Checker_check_L20 this Q n (Int32.ofNat c) (Int32.ofNat (moff W c + j)) M1 := by
    intro n
    induction n with
    | zero => intro j M1 _ _ _ hn; exact absurd hn (by omega)
    | succ n ih =>
      intro j M1 hf hR h5 hn hj he
      have hW := hCW.fr hf
      have hms := hW.2.1
      have hmm := hms.2.1 c hc
      have m1 : mI M1 43 w c = Int32.ofNat (moff W c) := hmm.1.1
      have m2 : mI M1 44 w c = Int32.ofNat (gc W c).2.2.2.2.2.length := by
        have := hmm.1.2
        rw [show (if c + 1 = W.length then 0 else 0) = 0 by split <;> rfl, Nat.add_zero] at this
        exact this
      have h12 := hmm.2.1
      have hall : ∀ d, d < W.length → (gc W d).2.2.2.2.2.length ≤ 12 ∧ (d < 21 → (gc W d).2.2.2.2.2.length = 1) := fun d hd => (hms.2.1 d hd).2
      have hmo1 := moff_le hall (c + 1) hc
      have hmo2 := moff_succ (W := W) (n := c) hc
      have hmo : moff W c + (gc W c).2.2.2.2.2.length ≤ 381 := by omega
      unfold w_Checker_check_L20 w_Checker_check_j133
      refine ⟨w, hR, by rw [hms.1.1.1]; exact (vp_oN (by omega)).mpr (by omega), w, hR, ?_⟩
      rw [oN_tnc (k := c) (by omega), m1, m2, oN_add, hms.1.1.2]
      refine ⟨(vp_oN (by omega)).mpr (by omega), ?_⟩
      by_cases cj : (gc W c).2.2.2.2.2.length ≤ j
      · refine itp (le_oN (by omega) (by omega)) (hQ ?_ M1 hf)
        rw [he, List.drop_eq_nil_of_le cj]; rfl
      have hjl : j < (gc W c).2.2.2.2.2.length := by omega
      refine itn (nle_oN (by omega) (by omega)) ⟨w, hR, ?_⟩
      have hd := (hms.2.2 c hc j hjl).1
      have hxw : wfM (gmt (gc W c) j) := hwf _ (by
        show (gc W c).2.2.2.2.2.getD j _ ∈ _
        rw [List.getD_eq_getElem?_getD, List.getElem?_eq_getElem hjl]; exact List.getElem_mem hjl)
      rw [oN_tnc (by omega), hd.2.2.1, hms.1.2.1 57 (by omega) (by omega)]
      refine ⟨(vp_oN (by omega)).mpr (by omega), ?_⟩
      rw [chkC_drop (d := ([], [], (0, []), 0, 0, 0, [], [])) hjl] at he
      have next : (chkM W c (gmt (gc W c) j)).1 = 0 → ∀ M2, Fr (1206905504158126679623920795602932534150722304987876604720459510577100041809458066428833537102376708875029036239313494944020391647080539072343525626754522115626548619956095985836921598059407263768047608604854150348532261578659916580473587292749000558152776019866088357912120585473167694356776978666901626001608140185971857881633450867084290755850017180829421439951845405296969445071877316525659998992701443244666271649478139271655413176906120340422735028158593583416644578068473634687303322133418916366870289752824864682212614848723163115616731136) M M2 → mR M2 4 this 4 = some (5, w) → mI M2 4 this 5 = Int32.ofNat c → w_Checker_check_L20 this Q n (Int32.ofNat c) (Int32.ofNat (moff W c + j) + 1) M2 := fun e0 M2 f2 r2 c2 => by
        rw [if_pos e0] at he
        rw [show Int32.ofNat (moff W c + j) + (1 : Int32) = Int32.ofNat (moff W c + (j + 1)) from oN_add (moff W c + j) 1]
        exact ih (j + 1) M2 f2 r2 c2 (by omega) (by omega) he
      by_cases c8 : (gmt (gc W c) j).2.2.2.1 &&& 8 = 0
      · refine itp c8 ?_
        have hne : co (gmt (gc W c) j) ≠ [] := fun q => (hxw.2.2.2.2.mp q) c8
        have f2 : Fr (1206905504158126679623920795602932534150722304987876604720459510577100041809458066428833537102376708875029036239313494944020391647080539072343525626754522115626548619956095985836921598059407263768047608604854150348532261578659916580473587292749000558152776019866088357912120585473167694356776978666901626001608140185971857881633450867084290755850017180829421439951845405296969445071877316525659998992701443244666271649478139271655413176906120340422735028158593583416644578068473634687303322133418916366870289752824864682212614848723163115616731136) M (sI (sI M1 4 this 6 (Int32.ofNat (moff W c + j))) 4 this 8 0) := Fr.wI rfl (Fr.wI rfl hf)
        have r8 : mI (sI (sI M1 4 this 6 (Int32.ofNat (moff W c + j))) 4 this 8 0) 4 this 8 = 0 := by simp only [mI_sI, mI_sR, mI_sJ, mR_sI, mL_sI, mL_sR, mR_sR, Nat.reduceEqDiff, and_false, false_and, if_false, and_self, true_and, and_true, if_true]
        have r6 : mI (sI (sI M1 4 this 6 (Int32.ofNat (moff W c + j))) 4 this 8 0) 4 this 6 = Int32.ofNat (moff W c + j) := by simp only [mI_sI, mI_sR, mI_sJ, mR_sI, mL_sI, mL_sR, mR_sR, Nat.reduceEqDiff, and_false, false_and, if_false, and_self, true_and, and_true, if_true]
        have r5 : mI (sI (sI M1 4 this 6 (Int32.ofNat (moff W c + j))) 4 this 8 0) 4 this 5 = Int32.ofNat c := by simp only [mI_sI, mI_sR, mI_sJ, mR_sI, mL_sI, mL_sR, mR_sR, Nat.reduceEqDiff, and_false, false_and, if_false, and_self, true_and, and_true, if_true]; exact h5
        have rR : mR (sI (sI M1 4 this 6 (Int32.ofNat (moff W c + j))) 4 this 8 0) 4 this 4 = some (5, w) := hR
        generalize sI (sI M1 4 this 6 (Int32.ofNat (moff W c + j))) 4 this 8 0 = M2 at f2 r8 r6 r5 rR ⊢
        have hK : KE A W w c j br nq nk np nh nr this M2 := ⟨⟨rR, r5, r6⟩, hCW.fr f2, ⟨hc, hjl⟩, ⟨hA, hKB⟩, hxw, hpar⟩
        refine mf_w_Checker_all (Q := fun M12 => Fr F_Checker_all M2 M12 → (if (mI M12 4 this 8) = 0 then w_Checker_check_L20 this Q n (Int32.ofNat c) (Int32.ofNat (moff W c + j) + 1) M12 else (∃ i14, (mR M12 4 this 4) = some (5, i14) ∧ ∃ i15, (mR (sI M12 5 i14 56 (Int32.ofNat c)) 4 this 4) = some (5, i15) ∧ ∃ i16, (mR (sI M12 5 i14 56 (Int32.ofNat c)) 4 this 4) = some (5, i16) ∧ vp_in (Int32.ofNat c) (mL (sI M12 5 i14 56 (Int32.ofNat c)) 43 i16) ∧ ∃ M18, M18 = (sI (sI M12 5 i14 56 (Int32.ofNat c)) 5 i15 57 ((Int32.ofNat (moff W c + j)) - (mI (sI M12 5 i14 56 (Int32.ofNat c)) 43 i16 c))) ∧ ∃ i19, (mR M18 4 this 4) = some (5, i19) ∧ Q (((100 : Int32) * (mI (sI M18 5 i19 58 (mI M18 4 this 7)) 4 this 8)) + (17 : Int32)) (sI M18 5 i19 58 (mI M18 4 this 7))))) (fun M' hf hp => hp hf) (c_all hK ⟨(f2.L (f := 31) rfl this).trans hL2.1, (f2.L (f := 32) rfl this).trans hL2.2⟩ r8 ((f2.I (f := 4) (k := 9) rfl this).trans h9) ((f2.I (f := 4) (k := 10) rfl this).trans h10) hne (fun e0 M' zK zL z8 z10 hf3 => ?_) (fun e0 M' z hf3 => ?_))
        · exact itp z8 (next e0 M' (f2.trans (hf3.sub rfl)) zK.r zK.c5)
        · have f3 : Fr (1206905504158126679623920795602932534150722304987876604720459510577100041809458066428833537102376708875029036239313494944020391647080539072343525626754522115626548619956095985836921598059407263768047608604854150348532261578659916580473587292749000558152776019866088357912120585473167694356776978666901626001608140185971857881633450867084290755850017180829421439951845405296969445071877316525659998992701443244666271649478139271655413176906120340422735028158593583416644578068473634687303322133418916366870289752824864682212614848723163115616731136) M M' := f2.trans (hf3.sub rfl)
          have hle := chkM_le (W := W) (c := c) (x := gmt (gc W c) j)
          rw [if_neg (show ¬ (chkM W c ((gc W c).2.2.2.2.2.getD j ([], [], (0, []), 0, 0, 0, [], []))).1 = 0 from e0)] at he
          obtain ⟨zK, zL, z10, z7, z8⟩ := z
          refine itn (by rw [z8]; exact ne_oN (b := 0) e0 (by omega) (by omega)) ⟨w, zK.r, w, zK.r, w, zK.r, ?_⟩
          have hms' := zK.2.1.2.1
          have m1' : mI M' 43 w c = Int32.ofNat (moff W c) := (hms'.2.1 c hc).1.1
          refine ⟨by show vp_in _ (mL M' 43 w); rw [hms'.1.1.1]; exact (vp_oN (by omega)).mpr (by omega), _, rfl, w, zK.r, ?_⟩
          have q1 : mI (sI M' 5 w 56 (Int32.ofNat c)) 43 w c = Int32.ofNat (moff W c) := by rw [mI_sI, if_neg (fun q => absurd q.1 (by decide))]; exact m1'
          rw [q1, oN_sub (by omega), show moff W c + j - moff W c = j by omega]
          have q2 : mI (sI (sI M' 5 w 56 (Int32.ofNat c)) 5 w 57 (Int32.ofNat j)) 4 this 7 = Int32.ofNat (chkM W c (gmt (gc W c) j)).2 := by rw [mI_sI, if_neg (fun q => absurd q.1 (by decide)), mI_sI, if_neg (fun q => absurd q.1 (by decide))]; exact z7
          rw [q2]
          have q3 : mI (sI (sI (sI M' 5 w 56 (Int32.ofNat c)) 5 w 57 (Int32.ofNat j)) 5 w 58 (Int32.ofNat (chkM W c (gmt (gc W c) j)).2)) 4 this 8 = Int32.ofNat (chkM W c (gmt (gc W c) j)).1 := by rw [mI_sI, if_neg (fun q => absurd q.1 (by decide)), mI_sI, if_neg (fun q => absurd q.1 (by decide)), mI_sI, if_neg (fun q => absurd q.1 (by decide))]; exact z8
          rw [q3]
          exact hX j _ _ M' he f3
      · exact itn c8 (next (chkM_nil (hxw.2.2.2.2.mpr c8)) M1 hf hR h5)
  unfold w_Checker_check
  have f1 : Fr (1206905504158126679623920795602932534150722304987876604720459510577100041809458066428833537102376708875029036239313494944020391647080539072343525626754522115626548619956095985836921598059407263768047608604854150348532261578659916580473587292749000558152776019866088357912120585473167694356776978666901626001608140185971857881633450867084290755850017180829421439951845405296969445071877316525659998992701443244666271649478139271655413176906120340422735028158593583416644578068473634687303322133418916366870289752824864682212614848723163115616731136) M (sI (sR M 4 this 4 (some (5, w))) 4 this 5 (Int32.ofNat c)) := Fr.wI rfl (Fr.wR rfl (Fr.rf _ _))
  have r1 : mR (sI (sR M 4 this 4 (some (5, w))) 4 this 5 (Int32.ofNat c)) 4 this 4 = some (5, w) := by simp only [mI_sI, mI_sR, mI_sJ, mR_sI, mL_sI, mL_sR, mR_sR, Nat.reduceEqDiff, and_false, false_and, if_false, and_self, true_and, and_true, if_true]
  have r5 : mI (sI (sR M 4 this 4 (some (5, w))) 4 this 5 (Int32.ofNat c)) 4 this 5 = Int32.ofNat c := by simp only [mI_sI, mI_sR, mI_sJ, mR_sI, mL_sI, mL_sR, mR_sR, Nat.reduceEqDiff, and_false, false_and, if_false, and_self, true_and, and_true, if_true]
  generalize sI (sR M 4 this 4 (some (5, w))) 4 this 5 (Int32.ofNat c) = M1 at f1 r1 r5
  have hW := hCW.fr f1
  refine ⟨w, r1, ?_⟩
  rw [oN_tnc (by omega), (hW.2.1.2.1 c hc).1.1, hW.2.1.1.1.1]
  exact ⟨(vp_oN (by omega)).mpr (by omega), _, rfl, (gc W c).2.2.2.2.2.length + 1, loop _ 0 M1 f1 r1 r5 (by omega) (by omega) (by rw [List.drop_zero])⟩
end
