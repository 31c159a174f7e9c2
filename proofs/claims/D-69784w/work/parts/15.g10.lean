/-! THE MACHINE IN THE WORKS: starts begin -/
section
variable {A : List Nm} {W : List Cls} {w C B F t L : Nat} {br : Int32} {nq nk np nh nr : Nat} {s s' : Ms} {M M' M1 : Mem} {S : Nat} {l : Ln} {U V : List Un} {r : Int32} {c j a k : Nat} {lo : List Vl} {o : Option Kd}
theorem LKw.wx {f i : Nat} {v : Int32} {q : LkS} (h : LKw A W w br nq nk np nh nr q M) (hK : KB w nq nk np nh nr) (hf : f = 46 ∨ f = 54) : LKw A W w br nq nk np nh nr q (sI M f w i v) := by
  have hlo : Lo w bL M (sI M f w i v) := by
    rcases hf with z | z <;> subst z <;> exact (Lo.rf w bL M).w (Nat.zero_le _)
  have row : ∀ g i' j', g ≠ 46 → g ≠ 54 → mI (sI M f w i v) g i' j' = mI M g i' j' := fun g i' j' h1 h2 => by rw [mI_sI, if_neg (fun z => by omega)]
  obtain ⟨hcw, h45, hx, hla, q1, q2, q3, q4, q5, q6⟩ := h
  refine ⟨hcw.lw hlo hK (fun j hj => row 5 w j (by omega) (by omega)), fun d hd => (row 45 w d (by omega) (by omega)).trans (h45 d hd), ⟨(row 5 w 56 (by omega) (by omega)).trans hx.1, (row 5 w 57 (by omega) (by omega)).trans hx.2.1, (row 5 w 58 (by omega) (by omega)).trans hx.2.2⟩, fun d hd hl1 => ?_, q1, q2, q3, q4, (row 4 0 9 (by omega) (by omega)).trans q5, (row 4 0 10 (by omega) (by omega)).trans q6⟩
  obtain ⟨x, y, z⟩ := hla d hd hl1
  exact ⟨(row 47 w d (by omega) (by omega)).trans x, (row 48 w d (by omega) (by omega)).trans y, fun f hf' hs => (row 53 w _ (by omega) (by omega)).trans (z f hf' hs)⟩
theorem foff_ne {c d f g : Nat} (hc : c < W.length) (hd : d < W.length) (hf : f < (gc W c).2.2.2.2.1.length) (hg : g < (gc W d).2.2.2.2.1.length) (h : foff W c + f = foff W d + g) : c = d ∧ f = g := by
  have key : ∀ {c d f g : Nat}, c < d → d < W.length → f < (gc W c).2.2.2.2.1.length → foff W c + f ≠ foff W d + g := fun {c d f g} h1 h2 h3 h4 => by
    have e1 := foff_succ (W := W) (n := c) (by omega)
    have e2 := foff_mono (W := W) (show c + 1 ≤ d by omega) (by omega)
    omega
  rcases Nat.lt_trichotomy c d with z | z | z
  · exact absurd h (key z hd hf)
  · subst z; exact ⟨rfl, by omega⟩
  · exact absurd h.symm (key z hc hg)
/-- a start's class goes on, in this thread -/
theorem RM.bg1 (h : RM A W w br nq nk np nh nr C B F t s U M) (hK : KB w nq nk np nh nr) (hk : k < W.length) (h0 : mI M 7 (3 * w + t) 0 = Int32.ofNat t) : RM A W w br nq nk np nh nr C B F t (yO (yC s (up1 (zC s) k 1)) (up1 (zO s) k (Int32.ofNat t))) U (sI (sI M 46 w k 1) 86 w k (Int32.ofNat t)) := by
  have hf : Fr (77371252455406635925372928) M (sI (sI M 46 w k 1) 86 w k (Int32.ofNat t)) := Fr.wIa rfl rfl (Fr.wIa rfl rfl (Fr.rf _ _))
  obtain ⟨⟨⟨a1, a2⟩, ⟨b1, b2'⟩, ⟨c1, c2⟩, ⟨d1, d2, d3⟩, ⟨e1, e2, e3⟩, g⟩, hl, hu, hr⟩ := h
  have a1' : LKw A W w br nq nk np nh nr (zL s) (sI (sI M 46 w k 1) 86 w k (Int32.ofNat t)) := ((a1.wx hK (Or.inl rfl)).fr (S := (77371252455336267181195264)) (Fr.wIa rfl rfl (Fr.rf _ _))).1
  have row : ∀ f i j, f ≠ 46 → f ≠ 86 → mI (sI (sI M 46 w k 1) 86 w k (Int32.ofNat t)) f i j = mI M f i j := fun f i j h1 h2 => by rw [mI_sI, if_neg (fun z => h2 z.1), mI_sI, if_neg (fun z => h1 z.1)]
  refine ⟨⟨⟨a1', a2.fr hf⟩, ⟨⟨b1.1, fun i hi => ?_, ?_, fun i hi => ?_⟩, b2'.fr hf⟩, ⟨c1.fr hf, c2.fr hf rfl⟩, ⟨d1.fr hf, d2.fr hf, d3.fr hf⟩, ⟨e1, e2, e3⟩, fun t' ht hne => (g t' ht hne).fr hf rfl⟩, hl.fr hf rfl, hu.fr hf rfl, fun z => (hr z).fr hf⟩
  · show mI _ 46 w i = up1 (zC s) k 1 i ∧ (up1 (zC s) k 1 i = 1 → mI _ 86 w i = up1 (zO s) k (Int32.ofNat t) i)
    by_cases e : i = k
    · rw [e, up1_s, up1_s]
      refine ⟨?_, fun _ => ?_⟩
      · rw [mI_sI, if_neg (fun z => absurd z.1 (by decide)), mI_sI, if_pos ⟨rfl, rfl, rfl⟩]
      · rw [mI_sI, if_pos ⟨rfl, rfl, rfl⟩]
    · rw [up1_o e, up1_o e, mI_sI, if_neg (fun z => absurd z.1 (by decide)), mI_sI, if_neg (fun z => e z.2.2), mI_sI, if_neg (fun z => e z.2.2), mI_sI, if_neg (fun z => absurd z.1 (by decide))]
      exact b1.2.1 i hi
  · rw [row 6 _ _ (by omega) (by omega)]; exact b1.2.2.1
  · rw [row 85 _ _ (by omega) (by omega)]; exact b1.2.2.2 i hi
/-- it is among those that begun -/
theorem RM.bg2 (h : RM A W w br nq nk np nh nr C B F t s U M) : RM A W w br nq nk np nh nr C B F t (yB s (zB s ++ [k])) U (sI (sI M 85 w (zB s).length (Int32.ofNat k)) 6 w 26 (Int32.ofNat ((zB s).length + 1))) := by
  have hf : Fr (12381416924604994033475061265883782332281288563270990641162794808721866629342436099378914206831203388030439192266771628103565436476543020338528341902116421709569132707349729121632695093205634184720800001768555834947527502836041149672365820136179147575017006569747042451434705073153628633944674753686802418156241720875260480578597536040212846144742585900597234344786699156817278688764360316364588149175301174178562855734321715253145232772525629907290362263412971171878677006126713064423541222508773760160287063696385400307052013991459952347072874839404131482864503816159055170069669295530129332448193186640608543040738333514071653297810811309732701404627878282549050474496) M (sI (sI M 85 w (zB s).length (Int32.ofNat k)) 6 w 26 (Int32.ofNat ((zB s).length + 1))) := Fr.wI rfl (Fr.wIa rfl rfl (Fr.rf _ _))
  obtain ⟨⟨⟨a1, a2⟩, ⟨b1, b2'⟩, ⟨c1, c2⟩, ⟨d1, d2, d3⟩, ⟨e1, e2, e3⟩, g⟩, hl, hu, hr⟩ := h
  refine ⟨⟨⟨(a1.fr hf).1, a2.fr hf⟩, ⟨⟨b1.1, fun i hi => ?_, ?_, fun i hi => ?_⟩, b2'.fr hf⟩, ⟨c1.fr hf, c2.fr hf rfl⟩, ⟨d1.fr hf, d2.fr hf, d3.fr hf⟩, ⟨e1, e2, e3⟩, fun t' ht hne => (g t' ht hne).fr hf rfl⟩, hl.fr hf rfl, hu.fr hf rfl, fun z => (hr z).fr hf⟩
  · rw [hf.Ia (f := 46) rfl rfl, hf.Ia (f := 86) rfl rfl]; exact b1.2.1 i hi
  · rw [mI_sI, if_pos ⟨rfl, rfl, rfl⟩]
    show _ = Int32.ofNat (zB s ++ [k]).length
    rw [List.length_append]; rfl
  · have hi : i < (zB s ++ [k]).length := hi
    rw [List.length_append, List.length_singleton] at hi
    show _ = Int32.ofNat ((zB s ++ [k]).getD i 0)
    rw [mI_sI, if_neg (fun z => absurd z.1 (by decide)), mI_sI]
    by_cases e : i = (zB s).length
    · rw [if_pos ⟨rfl, rfl, e⟩, e, List.getD_eq_getElem?_getD, List.getElem?_append_right (Nat.le_refl _), Nat.sub_self]; rfl
    · rw [if_neg (fun z => e z.2.2), List.getD_eq_getElem?_getD, List.getElem?_append_left (by omega), b1.2.2.2 i (by omega), List.getD_eq_getElem?_getD]
/-- fixed fields -/
theorem RM.s54 {i : Nat} {v : Int32} {X : Nat → Nat → Int32} (h : RM A W w br nq nk np nh nr C B F t s U M) (hK : KB w nq nk np nh nr) (hX : rS W w (yS s X) (sI M 54 w i v)) : RM A W w br nq nk np nh nr C B F t (yS s X) U (sI M 54 w i v) := by
  have hf : Fr (18014398509481984) M (sI M 54 w i v) := Fr.wIa rfl rfl (Fr.rf _ _)
  obtain ⟨⟨⟨a1, a2⟩, ⟨b1, b2'⟩, ⟨c1, c2⟩, ⟨d1, d2, d3⟩, ⟨e1, e2, e3⟩, g⟩, hl, hu, hr⟩ := h
  exact ⟨⟨⟨a1.wx hK (Or.inr rfl), a2.fr hf⟩, ⟨b1.fr hf, hX⟩, ⟨c1.fr hf, c2.fr hf rfl⟩, ⟨d1.fr hf, d2.fr hf, d3.fr hf⟩, ⟨e1, e2, e3⟩, fun t' ht hne => (g t' ht hne).fr hf rfl⟩, hl.fr hf rfl, hu.fr hf rfl, fun z => (hr z).fr hf⟩
/-- a start is the top unit -/
theorem RM.pushS (h : RM A W w br nq nk np nh nr C B F t s U M) (hst : stk U) : RM A W w br nq nk np nh nr C B F t (sU s t (.inr (k, false) :: U)) (.inr (k, false) :: U) (sI (sI (sI M 92 (3 * w + t) U.length (Int32.ofNat k)) 93 (3 * w + t) U.length 0) 7 (3 * w + t) 1 (Int32.ofNat (U.length + 1))) := by
  have ag : AgT w t M (sI (sI (sI M 92 (3 * w + t) U.length (Int32.ofNat k)) 93 (3 * w + t) U.length 0) 7 (3 * w + t) 1 (Int32.ofNat (U.length + 1))) := AgT.rf.wa.wa.w7
  refine ⟨(h.1.ag ag).su, ?_, ⟨?_, ?_, ⟨?_, ?_⟩, ?_⟩, ?_⟩
  · rw [sU_N]
    refine rL.g2 (l := qU (zN s t) _) h.2.1 (fun i h1 h2 => ?_) (fun i => ?_) (fun _ => rfl)
    · simp only [mI_sI, Nat.reduceEqDiff, false_and, if_false, true_and]; rw [if_neg h1]
    · simp only [mI_sI, Nat.reduceEqDiff, false_and, if_false]
  · simp only [mI_sI, and_self, if_true]; rfl
  · rw [mI_sI, if_neg (fun z => absurd z.2.2 (by decide)), mI_sI, if_neg (fun z => absurd z.1 (by decide)), mI_sI, if_neg (fun z => absurd z.1 (by decide))]; exact h.2.2.1.2.1
  · simp only [mI_sI, Nat.reduceEqDiff, false_and, if_false, and_self, if_true]
  · simp only [mI_sI, Nat.reduceEqDiff, false_and, if_false, and_self, if_true]; rfl
  · refine LU.kp (M := M) (n := U.length) (fun g f h1 h2 h3 => ?_) (fun i hi => ?_) h.2.2.1.2.2 hst (Nat.le_refl _)
    · rw [mI_sI, if_neg (by omega), mI_sI, if_neg (by omega), mI_sI, if_neg (by omega)]
    · constructor
      · simp only [mI_sI, Nat.reduceEqDiff, false_and, if_false]
      · simp only [mI_sI, Nat.reduceEqDiff, false_and, if_false]
  · rw [sU_N]
    exact fun z => (h.2.2.2 z).fr ag.1.1
theorem c_begins {Q : Mem → Prop} (hq : RQ A W w nq nk np nh nr F s) (h : RM A W w br nq nk np nh nr C B F t s (gU s t) M) (hM : MO W s t none (gU s t)) (hk : 21 ≤ k ∧ k < W.length) (h0 : zC s k = 0) (hQ : ∀ M', RM A W w br nq nk np nh nr C B F t (begS W t s k) (gU (begS W t s k) t) M' → Q M') : w_Machine_begins w (Int32.ofNat k) Q M := by
  obtain ⟨hW, hK, hA, ⟨hw, hFb⟩, hF⟩ := id hq
  have h51 := h.1.l5
  have hstk := UO.stk hW hM.1.1 hM.2.2.2.1.1
  have hfr := hM.2.2.2.1.2.2
  have R2 : mR M 6 w 2 = some (7, 3 * w + t) := h.1.2.2.2.2.1.1
  have l46 : mL M 46 w = 51 := h.1.1.1.1.2.2.2.1.2.2.2.2.2.2 46 (by omega) (by omega)
  have l86 : mL M 86 w = 51 := h.1.2.1.1.1.1
  have l85 : mL M 85 w = 51 := h.1.2.1.1.1.2
  have hB := hM.1.1.2.2.2.2.2.2
  have hnb : k ∉ zB s := fun z => (hB.2 k z).2 h0
  have hBl : (zB s).length < 51 := by
    have h1 := nd_leN (A := k :: zB s) (B := List.range W.length) (List.nodup_cons.mpr ⟨hnb, hB.1⟩) (fun x hx => by
      rw [List.mem_range]
      rcases List.mem_cons.mp hx with z | z
      · rw [z]; exact hk.2
      · exact (hB.2 x z).1.2)
    rw [List.length_range] at h1
    have h2 : (zB s).length + 1 ≤ W.length := h1
    omega
  have hnu : k ∉ sts (gU s t) := fun z => absurd (hM.2.2.2.1.1.own k z).2.2.1 (by rw [h0]; decide)
  have hU : (gU s t).length ≤ 90 := by
    have h1 := nodup_len (l := k :: sts (gU s t)) (n := W.length) (List.nodup_cons.mpr ⟨hnu, hM.2.2.2.1.2.1⟩) (fun x hx => by
      rcases List.mem_cons.mp hx with z | z
      · rw [z]; exact hk.2
      · exact (hM.2.2.2.1.1.own x z).1.2)
    have h2 : (sts (gU s t)).length + 1 ≤ W.length := h1
    rw [U_len]; omega
  have n7 : mI M 7 (3 * w + t) 0 = Int32.ofNat t := h.2.1.2.1.1
  unfold w_Machine_begins
  rw [oN_tnc (k := k) (by omega)]
  have r1 := h.bg1 (k := k) hK hk.2 n7
  have r2 := r1.bg2 (k := k)
  have q7 : mI (sI M 46 w k 1) 7 (3 * w + t) 0 = Int32.ofNat t := by rw [mI_sI, if_neg (fun z => absurd z.1 (by decide))]; exact n7
  refine ⟨by rw [l46]; exact (vp_oN (by omega)).mpr (by omega), 3 * w + t, R2, by show vp_in _ (mL M 86 w); rw [l86]; exact (vp_oN (by omega)).mpr (by omega), _, rfl, ?_⟩
  rw [q7]
  have q26 : mI (sI (sI M 46 w k 1) 86 w k (Int32.ofNat t)) 6 w 26 = Int32.ofNat (zB s).length := r1.1.2.1.1.2.2.1
  have q26' : ∀ v, mI (sI (sI (sI M 46 w k 1) 86 w k (Int32.ofNat t)) 85 w (zB s).length v) 6 w 26 = Int32.ofNat (zB s).length := fun v => by rw [mI_sI, if_neg (fun z => absurd z.1 (by decide))]; exact q26
  rw [q26, oN_tnc (k := (zB s).length) (by omega)]
  refine ⟨by show vp_in _ (mL M 85 w); rw [l85]; exact (vp_oN (by omega)).mpr hBl, _, rfl, ?_⟩
  rw [q26', show Int32.ofNat (zB s).length + (1 : Int32) = Int32.ofNat ((zB s).length + 1) from oN_add _ 1]
  refine k_cev (what := 4) r2 hM.1.2.1 hk.2 (fun M7 h7 _ => ?_)
  have hfl7 := h7.1.1.1.1.1.2.1
  obtain ⟨⟨e41, e42⟩, h8, -⟩ := hfl7.2.1 k hk.2
  rw [e41]
  refine ⟨by rw [hfl7.1.2.2.1]; exact (vp_oN (by omega)).mpr (by omega), (gc W k).2.2.2.2.1.length + 1, ?_⟩
  generalize hs1 : evS (yB (yO (yC s (up1 (zC s) k 1)) (up1 (zO s) k (Int32.ofNat t))) (zB s ++ [k])) t 4 k none = s1 at h7
  have hzS : zS s1 = zS s := by rw [← hs1, evS_r.2.2.2.2.1]
  have hzN : zN s1 = zN s := by rw [← hs1, ev_N]
  have hfs := foff_succ (W := W) (n := k) hk.2
  have hfo := foff_le (fun c hc => (hfl7.2.1 c hc).2) (k + 1) hk.2
  have loop : ∀ n i M8, (gc W k).2.2.2.2.1.length - i < n → i ≤ (gc W k).2.2.2.2.1.length → RM A W w br nq nk np nh nr C B F t (yS s1 (up1 (zS s) k (fun f => if f < i then (gfl (gc W k) f).2.2.2.1 else zS s k f))) (gU s t) M8 → w_Machine_begins_L61 w Q n (Int32.ofNat k) (Int32.ofNat (foff W k + i)) M8 := by
    intro n
    induction n with
    | zero => intro i M8 hn; exact absurd hn (by omega)
    | succ n ih =>
      intro i M8 hn hi h8'
      have hfl8 := h8'.1.1.1.1.1.2.1
      obtain ⟨⟨f41, f42⟩, -, -⟩ := hfl8.2.1 k hk.2
      have R8 : mR M8 6 w 2 = some (7, 3 * w + t) := h8'.1.2.2.2.2.1.1
      unfold w_Machine_begins_L61
      rw [oN_tnc (k := k) (by omega), f41, f42, hfl8.1.2.2.1, hfl8.1.2.2.2, oN_add]
      refine ⟨(vp_oN (by omega)).mpr (by omega), (vp_oN (by omega)).mpr (by omega), ?_⟩
      by_cases ci : (gc W k).2.2.2.2.1.length ≤ i
      · have u1 : mI M8 7 (3 * w + t) 1 = Int32.ofNat (gU s t).length := h8'.2.2.1.1
        have u2 : ∀ v, mI (sI M8 92 (3 * w + t) (gU s t).length v) 7 (3 * w + t) 1 = Int32.ofNat (gU s t).length := fun v => by rw [mI_sI, if_neg (fun z => absurd z.1 (by decide))]; exact u1
        have u3 : ∀ v v', mI (sI (sI M8 92 (3 * w + t) (gU s t).length v) 93 (3 * w + t) (gU s t).length v') 7 (3 * w + t) 1 = Int32.ofNat (gU s t).length := fun v v' => by rw [mI_sI, if_neg (fun z => absurd z.1 (by decide))]; exact u2 v
        refine itp (le_oN (by omega) (by omega)) ⟨3 * w + t, R8, 3 * w + t, R8, ?_⟩
        rw [u1, oN_tnc (k := (gU s t).length) (by omega)]
        refine ⟨by rw [h8'.2.1.1.1 92 (by omega) (by omega)]; exact (vp_oN (by omega)).mpr (by omega), 3 * w + t, R8, 3 * w + t, R8, by rw [u2]; show vp_in _ (mL M8 93 (3 * w + t)); rw [h8'.2.1.1.1 93 (by omega) (by omega)]; exact (vp_oN (by omega)).mpr (by omega), _, rfl, 3 * w + t, R8, ?_⟩
        rw [u2, oN_tnc (k := (gU s t).length) (by omega), u3, show Int32.ofNat (gU s t).length + (1 : Int32) = Int32.ofNat ((gU s t).length + 1) from oN_add _ 1]
        have eX : yS s1 (up1 (zS s) k (fun f => if f < i then (gfl (gc W k) f).2.2.2.1 else zS s k f)) = yS s1 (up1 (zS s) k (fun f => (gfl (gc W k) f).2.2.2.1)) := by
          have : (fun f => if f < i then (gfl (gc W k) f).2.2.2.1 else zS s k f) = (fun f => (gfl (gc W k) f).2.2.2.1) := by
            funext f
            by_cases cf : f < i
            · rw [if_pos cf]
            · rw [if_neg cf, hM.1.1.2.2.1.2 k f h0]
              show 0 = ((gc W k).2.2.2.2.1.getD f ([], (0, []), 0, 0, false)).2.2.2.1
              rw [List.getD_eq_getElem?_getD, List.getElem?_eq_none (by omega)]; rfl
          rw [this]
        rw [eX] at h8'
        have hp := h8'.pushS (k := k) hstk
        have eb : begS W t s k = sU (yS s1 (up1 (zS s) k (fun f => (gfl (gc W k) f).2.2.2.1))) t (.inr (k, false) :: gU s t) := by
          unfold begS; rw [hs1]
        rw [eb] at hQ
        refine hQ _ ?_
        rw [gU_sU]; exact hp
      have hil : i < (gc W k).2.2.2.2.1.length := by omega
      obtain ⟨g1, g2⟩ := gF1_at hk.2 hil
      have e52 := (hfl8.2.2 (foff W k + i) g1).2.2.2.1
      rw [g2] at e52
      refine itn (nle_oN (by omega) (by omega)) ?_
      rw [oN_tnc (k := foff W k + i) (by omega), e52, hfl8.1.2.1.2.2.2.1, hfl8.1.2.1.2.2.2.2.2.2, show Int32.ofNat (foff W k + i) + (1 : Int32) = Int32.ofNat (foff W k + (i + 1)) from oN_add (foff W k + i) 1]
      refine ⟨(vp_oN (by omega)).mpr (by omega), (vp_oN (by omega)).mpr (by omega), ih (i + 1) _ (by omega) (by omega) ?_⟩
      have := h8'.s54 (i := foff W k + i) (v := (gfl (gc W k) i).2.2.2.1) (X := up1 (zS s) k (fun f => if f < i + 1 then (gfl (gc W k) f).2.2.2.1 else zS s k f)) hK (by
        intro c f hc hf hst
        show _ = up1 (zS s) k (fun f => if f < i + 1 then (gfl (gc W k) f).2.2.2.1 else zS s k f) c f
        have hold := h8'.1.2.1.2 c f hc hf hst
        have hold : mI M8 54 w (foff W c + f) = up1 (zS s) k (fun f => if f < i then (gfl (gc W k) f).2.2.2.1 else zS s k f) c f := hold
        rw [mI_sI]
        by_cases ee : foff W c + f = foff W k + i
        · obtain ⟨z1, z2⟩ := foff_ne hc hk.2 hf hil ee
          rw [if_pos ⟨rfl, rfl, ee⟩, z1, up1_s, z2, if_pos (by omega)]
        · rw [if_neg (fun z => ee z.2.2), hold]
          by_cases ec : c = k
          · subst ec
            rw [up1_s, up1_s]
            have : f ≠ i := fun z => ee (by rw [z])
            by_cases cf : f < i
            · rw [if_pos cf, if_pos (by omega)]
            · rw [if_neg cf, if_neg (by omega)]
          · rw [up1_o ec, up1_o ec])
      exact this
  refine loop _ 0 M7 (by omega) (by omega) ?_
  have eX : yS s1 (up1 (zS s) k (fun f => if f < 0 then (gfl (gc W k) f).2.2.2.1 else zS s k f)) = s1 := by
    have : up1 (zS s) k (fun f => if f < 0 then (gfl (gc W k) f).2.2.2.1 else zS s k f) = zS s1 := by
      rw [hzS]
      funext c
      by_cases ec : c = k
      · rw [ec, up1_s]; funext f; rw [if_neg (Nat.not_lt_zero f)]
      · rw [up1_o ec]
    rw [this]
  rw [eX]; exact h7
end
