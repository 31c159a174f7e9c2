/-! THE MACHINE IN THE WORKS: a new object -/
section
variable {A : List Nm} {W : List Cls} {w C B F t : Nat} {br : Int32} {nq nk np nh nr : Nat} {s s' : Ms} {M M' : Mem} {U : List Un} {c j a qi : Nat} {lo st lo' st' : List Vl} {q : Nat × Nat} {i : Ins} {Q : Mem → Prop} {r v y : Int32}
theorem lfr_le {P : Nat → Bool} : ∀ n r l, r ≤ l → l ≤ r + n → (∀ k, r ≤ k → k < l → P k = true) → l ≤ lfr P n r
  | 0, r, l, h1, h2, _ => by unfold lfr; omega
  | n + 1, r, l, h1, h2, h3 => by
    unfold lfr
    by_cases c : P r = true
    · rw [if_pos c]
      by_cases e : l = r
      · have := lfr_le (P := P) n (r + 1) (r + 1) (Nat.le_refl _) (by omega) (fun k a b => absurd b (by omega)); omega
      · exact lfr_le n (r + 1) l (by omega) (by omega) (fun k a b => h3 k (by omega) b)
    · rw [if_neg c]
      by_cases e : l = r
      · omega
      · exact absurd (h3 r (Nat.le_refl _) (by omega)) c
theorem lfr_all {P : Nat → Bool} : ∀ n r k, r ≤ k → k < lfr P n r → P k = true
  | 0, r, k, h1, h2 => by unfold lfr at h2; exact absurd h2 (by omega)
  | n + 1, r, k, h1, h2 => by
    unfold lfr at h2
    by_cases c : P r = true
    · rw [if_pos c] at h2
      by_cases e : k = r
      · rw [e]; exact c
      · exact lfr_all n (r + 1) k (by omega) h2
    · rw [if_neg c] at h2; exact absurd h2 (by omega)
theorem oszN_le (h : ∀ c, (gc W c).2.2.2.2.1.length ≤ 8) : ∀ n c, oszN W n c ≤ 8 * n
  | 0, c => by unfold oszN; omega
  | n + 1, c => by
    unfold oszN
    have h1 : instF (gc W c).2.2.2.2.1 ≤ (gc W c).2.2.2.2.1.length := List.length_filter_le _ _
    have h2 := h c
    cases upW W c with
    | none => dsimp only; omega
    | some p => have := oszN_le h n p; dsimp only; omega
/-- an object more -/
theorem RI.mkO {cl : Option Nat} {n m : Nat} {ks : List Kd} (h : RI A W w br nq nk np nh nr C B F t s c j a lo st U M) (hO : HO W s) (hfu : ¬ fulS s n) (hf : Fr SHp M M') (hL : ∀ f i, mL M' f i = mL M f i) (hF : rFt w B F s M') (e6 : mI M' 6 w 6 = Int32.ofNat ((zH s).1 + 1)) (e7 : mI M' 6 w 7 = Int32.ofNat ((zH s).2.1 + n)) (e14 : mI M' 6 w 14 = Int32.ofNat (lfree s)) (e15 : mI M' 6 w 15 = Int32.ofNat m) (hm : m ≤ 800 ∧ lfree s ≤ m ∧ ∀ r, thr s r = true → r ≤ m)
    (e512 : ∀ r, mI M' 512 w r = if r = lfree s then 1 else mI M 512 w r) (e79 : ∀ r, mI M' 79 w r = if r = lfree s then oCl cl else mI M 79 w r) (e80 : ∀ r, mI M' 80 w r = if r = lfree s then Int32.ofNat (zH s).2.1 else mI M 80 w r) (e81 : ∀ r, mI M' 81 w r = if r = lfree s then Int32.ofNat n else mI M 81 w r) (e301 : ∀ i r, mI M' 301 i r = if i = 6 * w + 0 ∧ r = lfree s then 0 else mI M 301 i r) (e84 : ∀ i, mI M' 84 w i = if (zH s).2.1 ≤ i ∧ i < (zH s).2.1 + n then 0 else mI M 84 w i) : RI A W w br nq nk np nh nr C B F t (mkOb s cl n ks) c j a lo st U M' := by
  obtain ⟨lf1, lf2, lf3⟩ := lfree_ok hO (fun z => hfu (Or.inl z))
  obtain ⟨⟨⟨a1, a2, a3, a4, a5⟩, a6, a7⟩, ⟨b1, b2'⟩, c, d, e, l, m', ⟨g1, g2⟩, ⟨g3, g4, g5⟩, g6, g7⟩ := h.1.1.2.2.1.1
  refine h.hp hf ⟨⟨⟨(hL _ _).trans a1, (hL _ _).trans a2, (hL _ _).trans a3, (hL _ _).trans a4, (hL _ _).trans a5⟩, (hL _ _).trans a6, (hL _ _).trans a7⟩, ⟨e6, e7⟩, fun r hr => ?_, fun r hr => ?_, fun i hi => ?_, lfree s, m, ⟨e14, e15⟩, ⟨lf2, by omega, hm.1⟩, fun r h1 h2 => ?_, fun r hr => ?_⟩ hF
  · show _ = b2 (up1 (zH s).2.2.1 (lfree s) true r)
    rw [e512]
    by_cases er : r = lfree s
    · rw [if_pos er, er, up1_s]; rfl
    · rw [if_neg er, up1_o er]; exact c r hr
  · have hr : up1 (zH s).2.2.1 (lfree s) true r = true := hr
    unfold rO
    rw [e79, e80, e81, e301, e301]
    show _ = oCl (up1 (zH s).2.2.2.1 (lfree s) _ r).1 ∧ _ = Int32.ofNat (up1 (zH s).2.2.2.1 (lfree s) _ r).2.1 ∧ _ = Int32.ofNat (up1 (zH s).2.2.2.1 (lfree s) _ r).2.2.1 ∧ _ = (up1 (zH s).2.2.2.1 (lfree s) _ r).2.2.2.1 ∧ ((up1 (zH s).2.2.2.1 (lfree s) _ r).2.2.2.1 ≠ 0 → _ = (up1 (zH s).2.2.2.1 (lfree s) _ r).2.2.2.2)
    by_cases er : r = lfree s
    · rw [er, up1_s, if_pos rfl, if_pos rfl, if_pos rfl, if_pos ⟨rfl, rfl⟩]
      exact ⟨rfl, rfl, rfl, rfl, fun z => absurd rfl z⟩
    · rw [up1_o er] at hr ⊢
      rw [if_neg er, if_neg er, if_neg er, if_neg (fun z => er z.2), if_neg (fun z => er z.2)]
      exact d r hr
  · have hi : i < (zH s).2.1 + n := hi
    rw [e84]
    show _ = if (zH s).2.1 ≤ i ∧ i < (zH s).2.1 + n then 0 else (zH s).2.2.2.2.1 i
    by_cases ci : (zH s).2.1 ≤ i ∧ i < (zH s).2.1 + n
    · rw [if_pos ci, if_pos ci]
    · rw [if_neg ci, if_neg ci]; exact e i (by omega)
  · show up1 (zH s).2.2.1 (lfree s) true r = true
    rw [up1_o (by omega)]
    exact lfr_all 801 1 r h1 h2
  · have hr : up1 (zH s).2.2.1 (lfree s) true r = true := hr
    by_cases er : r = lfree s
    · rw [er]; exact hm.2.1
    · rw [up1_o er] at hr; exact hm.2.2 r hr
/-- what is done when there is room -/
theorem c_make {op n : Nat} {cl : Option Nat} {ks : List Kd} {Q : Int32 → Mem → Prop} (hw : w < 4) (h : RI A W w br nq nk np nh nr C B F t s c j a lo st U M) (hO : HO W s) (hop : op = 41 ∨ op = 42) (hcl : oCl cl = if op = 41 then mI M 6 w 36 else -1) (hn : n ≤ 1000) (hful : fulS s n → w_Machine_fail w 9 0 (fun M' => Q 0 M') M)
    (hQ : ¬ fulS s n → ∀ M', RI A W w br nq nk np nh nr C B F t (mkOb s cl n ks) c j a lo st U M' → w_Machine_comes w (if op = 41 then 0 else 1) (Int32.ofNat (lfree s)) 1 (fun M2 => Q 1 M2) M') : w_Machine_makes_j52 w Q (Int32.ofNat op) (Int32.ofNat n) M := by
  have hH := h.1.1.2.2.1.1
  have hRF := h.1.1.2.2.1.2
  obtain ⟨⟨⟨a1, a2, a3, a4, a5⟩, a6, a7⟩, ⟨b1, b2'⟩, c512, d, e, l, m', ⟨g1, g2⟩, ⟨g3, g4, g5⟩, g6, g7⟩ := id hH
  have h4k : (zH s).2.1 ≤ 4000 := hO.1.2.2
  have h8c : (zH s).1 ≤ 801 := by
    rw [hO.1.2.1]
    exact Nat.le_trans (List.length_filter_le _ _) (by rw [List.length_range]; exact Nat.le_refl _)
  unfold w_Machine_makes_j52 w_Machine_makes_j74
  rw [b1, b2', oN_add]
  by_cases c8 : (zH s).1 = 800
  · exact itp (by rw [c8]; rfl) (hful (Or.inl c8))
  refine itn (ne_oN (b := 800) c8 (by omega) (by omega)) ?_
  by_cases c4 : 4000 < (zH s).2.1 + n
  · exact itn (nle_oN (a := (zH s).2.1 + n) (b := 4000) (by omega) (by omega)) (hful (Or.inr c4))
  refine itp (le_oN (b := 4000) (by omega) (by omega)) ?_
  have hnf : ¬ fulS s n := fun z => z.elim c8 (fun z => c4 z)
  have hQ := hQ hnf
  obtain ⟨lf1, lf2, lf3⟩ := lfree_ok hO c8
  have hll : l ≤ lfree s := lfr_le 801 1 l g3 (by omega) (fun k x y => g6 k x y)
  rw [show Int32.ofNat (zH s).1 + (1 : Int32) = Int32.ofNat ((zH s).1 + 1) from oN_add _ 1]
  -- the cells
  have loop2 : ∀ x k Mx, n - k < x → k ≤ n → Fr SHp M Mx → (∀ f i, mL Mx f i = mL M f i) → rFt w B F s Mx → mI Mx 6 w 6 = Int32.ofNat ((zH s).1 + 1) → mI Mx 6 w 7 = Int32.ofNat (zH s).2.1 → mI Mx 6 w 14 = Int32.ofNat (lfree s) → mI Mx 6 w 15 = Int32.ofNat (max m' (lfree s)) →
      (∀ r, mI Mx 512 w r = if r = lfree s then 1 else mI M 512 w r) → (∀ r, mI Mx 79 w r = if r = lfree s then oCl cl else mI M 79 w r) → (∀ r, mI Mx 80 w r = if r = lfree s then Int32.ofNat (zH s).2.1 else mI M 80 w r) → (∀ r, mI Mx 81 w r = if r = lfree s then Int32.ofNat n else mI M 81 w r) → (∀ i r, mI Mx 301 i r = if i = 6 * w + 0 ∧ r = lfree s then 0 else mI M 301 i r) → (∀ i, mI Mx 84 w i = if (zH s).2.1 ≤ i ∧ i < (zH s).2.1 + k then 0 else mI M 84 w i) →
      w_Machine_makes_L189 w Q x (Int32.ofNat op) (Int32.ofNat n) (Int32.ofNat (lfree s)) (Int32.ofNat k) Mx := by
    intro x
    induction x with
    | zero => intro k Mx hx; exact absurd hx (by omega)
    | succ x ih =>
      intro k Mx hx hk hf hL hF p6 p7 p14 p15 p512 p79 p80 p81 p301 p84
      unfold w_Machine_makes_L189
      rw [p7, oN_add, oN_add]
      by_cases ck : n ≤ k
      · refine itp (le_oN ck (by omega)) ?_
        have hkn : k = n := by omega
        rw [hkn] at p84
        have row : ∀ f i j, f ≠ 6 → mI (sI Mx 6 w 7 (Int32.ofNat ((zH s).2.1 + n))) f i j = mI Mx f i j := fun f i j hf => by rw [mI_sI, if_neg (fun z => hf z.1)]
        have r6 : ∀ j, j ≠ 7 → mI (sI Mx 6 w 7 (Int32.ofNat ((zH s).2.1 + n))) 6 w j = mI Mx 6 w j := fun j hj => by rw [mI_sI, if_neg (fun z => hj z.2.2)]
        have hff : Fr (23615678643426883761358377963798107780993058325330716402364339463657124766049263190038517392790228630123976120503943687636500237420164147069031413845284312647951379217814882510438337503825443620149230960404502553839735990211565303177577629349096579694780362262243351843709383150393731372727727420209507786095126573324700318486399719314981167115674182702249973954747579873690183045891495354394127176619150493962407790630954199320116487069178829016285633589578573554761270534757066849562723584191844482727598311798830795873741176588935761160035848311241400686005599624937162723674143401203402199646364568024842344361759821918624216647740957850900006711962987164336128) Mx (sI Mx 6 w 7 (Int32.ofNat ((zH s).2.1 + n))) := Fr.wI rfl (Fr.rf _ _)
        have key := hQ _ (h.mkO (cl := cl) (ks := ks) (m := max m' (lfree s)) hO hnf (Fr.wI rfl hf) (fun f i => hL f i) (hF.fr hff rfl) ((r6 6 (by omega)).trans p6) (by rw [mI_sI, if_pos ⟨rfl, rfl, rfl⟩]) ((r6 14 (by omega)).trans p14) ((r6 15 (by omega)).trans p15) ⟨by omega, by omega, fun r hr => by have := g7 r hr; omega⟩ (fun r => (row 512 _ _ (by omega)).trans (p512 r)) (fun r => (row 79 _ _ (by omega)).trans (p79 r)) (fun r => (row 80 _ _ (by omega)).trans (p80 r)) (fun r => (row 81 _ _ (by omega)).trans (p81 r)) (fun i r => (row 301 _ _ (by omega)).trans (p301 i r)) (fun i => (row 84 _ _ (by omega)).trans (p84 i)))
        unfold w_Machine_makes_j236
        rcases hop with z | z <;> subst z
        · exact itp rfl key
        · exact itn (by decide) key
      · refine itn (nle_oN (by omega) (by omega)) ⟨by rw [hL, a5]; exact (vp_oN (by omega)).mpr (by omega), ?_⟩
        rw [oN_tnc (k := (zH s).2.1 + k) (by omega), show Int32.ofNat k + (1 : Int32) = Int32.ofNat (k + 1) from oN_add _ 1]
        have row : ∀ f i j, f ≠ 84 → mI (sI Mx 84 w ((zH s).2.1 + k) 0) f i j = mI Mx f i j := fun f i j hf => by rw [mI_sI, if_neg (fun z => hf z.1)]
        have hff : Fr (19342813113834066795298816) Mx (sI Mx 84 w ((zH s).2.1 + k) 0) := Fr.wIa rfl rfl (Fr.rf _ _)
        refine ih (k + 1) _ (by omega) (by omega) (Fr.wIa rfl rfl hf) (fun f i => hL f i) (hF.fr hff rfl) ((row 6 _ _ (by omega)).trans p6) ((row 6 _ _ (by omega)).trans p7) ((row 6 _ _ (by omega)).trans p14) ((row 6 _ _ (by omega)).trans p15) (fun r => (row 512 _ _ (by omega)).trans (p512 r)) (fun r => (row 79 _ _ (by omega)).trans (p79 r)) (fun r => (row 80 _ _ (by omega)).trans (p80 r)) (fun r => (row 81 _ _ (by omega)).trans (p81 r)) (fun i r => (row 301 _ _ (by omega)).trans (p301 i r)) (fun i => ?_)
        rw [mI_sI, p84]
        by_cases ei : i = (zH s).2.1 + k
        · rw [if_pos ⟨rfl, rfl, ei⟩, if_pos (by omega)]
        · rw [if_neg (fun z => ei z.2.2)]
          by_cases ej : (zH s).2.1 ≤ i ∧ i < (zH s).2.1 + k
          · rw [if_pos ej, if_pos (by omega)]
          · rw [if_neg ej, if_neg (by omega)]
  -- the least free number
  have loop1 : ∀ x l', lfree s - l' < x → l' ≤ lfree s → (∀ r, 1 ≤ r → r < l' → thr s r = true) → 1 ≤ l' → w_Machine_makes_L93 w Q x (Int32.ofNat op) (Int32.ofNat n) (sI (sI M 6 w 6 (Int32.ofNat ((zH s).1 + 1))) 6 w 14 (Int32.ofNat l')) := by
    intro x
    induction x with
    | zero => intro l' hx; exact absurd hx (by omega)
    | succ x ih =>
      intro l' hx hl' hall h1
      unfold w_Machine_makes_L93
      have e14 : mI (sI (sI M 6 w 6 (Int32.ofNat ((zH s).1 + 1))) 6 w 14 (Int32.ofNat l')) 6 w 14 = Int32.ofNat l' := by rw [mI_sI, if_pos ⟨rfl, rfl, rfl⟩]
      have row : ∀ f i j, f ≠ 6 → mI (sI (sI M 6 w 6 (Int32.ofNat ((zH s).1 + 1))) 6 w 14 (Int32.ofNat l')) f i j = mI M f i j := fun f i j hf => by rw [mI_sI, if_neg (fun z => hf z.1), mI_sI, if_neg (fun z => hf z.1)]
      rw [e14, oN_tnc (k := l') (by omega), row 512 _ _ (by omega), c512 l' (by omega)]
      have vp : ∀ X : Mem, mL X 512 w = mL M 512 w → vp_in (Int32.ofNat l') (mL X 512 w) := fun X hX => by rw [hX, a4]; exact (vp_oN (by omega)).mpr (by omega)
      refine ⟨vp _ rfl, ?_⟩
      by_cases el : l' = lfree s
      · rw [el, lf1]
        refine itp rfl ⟨by rw [← el]; exact vp _ rfl, ?_⟩
        have e15 : mI (sI (sI (sI M 6 w 6 (Int32.ofNat ((zH s).1 + 1))) 6 w 14 (Int32.ofNat (lfree s))) 512 w (lfree s) ((1 : Int32) &&& 1)) 6 w 15 = Int32.ofNat m' := by
          simp only [mI_sI, Nat.reduceEqDiff, false_and, and_false, if_false]; exact g2
        rw [e15]
        refine c_maxN (by omega) (by omega) ?_
        obtain ⟨MB, eB⟩ : ∃ MB, MB = sI (sI (sI (sI M 6 w 6 (Int32.ofNat ((zH s).1 + 1))) 6 w 14 (Int32.ofNat (lfree s))) 512 w (lfree s) ((1 : Int32) &&& 1)) 6 w 15 (Int32.ofNat (max m' (lfree s))) := ⟨_, rfl⟩
        rw [← eB]
        have key : ∀ z, z = oCl cl → w_Machine_makes_j161 w Q (Int32.ofNat op) (Int32.ofNat n) (Int32.ofNat (lfree s)) z (Int32.ofNat (lfree s)) MB := fun z hz => by
          have lB : ∀ f i, mL MB f i = mL M f i := fun f i => by rw [eB]; rfl
          unfold w_Machine_makes_j161
          rw [oN_tnc (k := lfree s) (by omega)]
          have e7 : ∀ x : Int32, mI (sI MB 79 w (lfree s) x) 6 w 7 = Int32.ofNat (zH s).2.1 := fun x => by
            rw [eB]; simp only [mI_sI, Nat.reduceEqDiff, false_and, and_false, if_false]; exact b2'
          rw [e7]
          have vpl : ∀ X, X = 801 → vp_in (Int32.ofNat (lfree s)) X := fun X hX => by rw [hX]; exact (vp_oN (by omega)).mpr (by omega)
          refine ⟨vpl _ ((lB _ _).trans a1), vpl _ ((lB _ _).trans a2), _, rfl, vpl _ ((lB _ _).trans a3), vpl _ ((lB _ _).trans a6), _, rfl, n + 1, ?_⟩
          have hfB : Fr SHp M MB := by rw [eB]; exact Fr.wI rfl (Fr.wIa rfl rfl (Fr.wI rfl (Fr.wI rfl (Fr.rf _ _))))
          have hfB2 : Fr (9080228438397636806242296327080372441791830926089660456709088523776164472545941696569809937527842908282668818333766347896234341288053114548042578623511818213137305309249822325263540770220883071947379304275531231951378488236346859071778598484727634892643049289832568783906257821326389712813811193070555743753576167443347272458020692076610258755976723249015114985600444461433875381145279963764541899410063364928545795497601889638584789278099259756761826115192961531805708520614092203656867218121764203608761550886663848821383424995545374191031989521799797929589745449166062628696429901792781692740829050703718784834786683385897497351910152176482999150696202213693325312) M MB := by rw [eB]; exact Fr.wI rfl (Fr.wIa rfl rfl (Fr.wI rfl (Fr.wI rfl (Fr.rf _ _))))
          have hF1 : rFt w B F s (sI (sI (sI MB 79 w (lfree s) z) 80 w (lfree s) (Int32.ofNat (zH s).2.1)) 81 w (lfree s) (Int32.ofNat n)) := by
            have hff : Fr (4231240368651202111471616) MB (sI (sI (sI MB 79 w (lfree s) z) 80 w (lfree s) (Int32.ofNat (zH s).2.1)) 81 w (lfree s) (Int32.ofNat n)) := Fr.wIa rfl rfl (Fr.wIa rfl rfl (Fr.wIa rfl rfl (Fr.rf _ _)))
            exact (hRF.fr hfB2 (by rw [eB]; rfl)).fr hff rfl
          refine loop2 (n + 1) 0 _ (by omega) (by omega) (Fr.wIa rfl rfl (Fr.wIa rfl rfl (Fr.wIa rfl rfl (Fr.wIa rfl rfl hfB)))) (fun f i => lB f i) (hF1.w301 (by omega)) ?_ ?_ ?_ ?_ (fun r => ?_) (fun r => ?_) (fun r => ?_) (fun r => ?_) (fun i r => ?_) (fun i => ?_)
          · rw [eB]; simp only [mI_sI, Nat.reduceEqDiff, false_and, and_false, if_false, and_self, if_true]
          · rw [eB]; simp only [mI_sI, Nat.reduceEqDiff, false_and, and_false, if_false]; exact b2'
          · rw [eB]; simp only [mI_sI, Nat.reduceEqDiff, false_and, and_false, if_false, and_self, if_true]
          · rw [eB]; simp only [mI_sI, Nat.reduceEqDiff, false_and, and_false, if_false, and_self, if_true]
          · rw [eB]; simp only [mI_sI, Nat.reduceEqDiff, false_and, if_false, true_and]; rfl
          · rw [eB]; simp only [mI_sI, Nat.reduceEqDiff, false_and, if_false, true_and]; rw [hz]
          · rw [eB]; simp only [mI_sI, Nat.reduceEqDiff, false_and, if_false, true_and]
          · rw [eB]; simp only [mI_sI, Nat.reduceEqDiff, false_and, if_false, true_and]
          · rw [eB]; simp only [mI_sI, Nat.reduceEqDiff, false_and, if_false, true_and]
          · rw [eB]; simp only [mI_sI, Nat.reduceEqDiff, false_and, if_false]; rw [if_neg (by omega)]
        rcases hop with z | z
        · refine itp (by rw [z]; rfl) (key _ ?_)
          rw [hcl, if_pos z, eB]; simp only [mI_sI, Nat.reduceEqDiff, false_and, and_false, if_false]
        · refine itn (by rw [z]; decide) (key _ ?_)
          rw [hcl, if_neg (by omega)]
      · have ht : thr s l' = true := lfr_all 801 1 l' h1 (by show l' < lfree s; omega)
        rw [ht]
        refine itn (by decide) ?_
        rw [sI_sI, show Int32.ofNat l' + (1 : Int32) = Int32.ofNat (l' + 1) from oN_add _ 1]
        exact ih (l' + 1) (by omega) (by omega) (fun r x y => by
          by_cases er : r = l'
          · rw [er]; exact ht
          · exact hall r x (by omega)) (by omega)
  have := loop1 (lfree s - l + 1) l (by omega) hll g6 g3
  rw [show sI (sI M 6 w 6 (Int32.ofNat ((zH s).1 + 1))) 6 w 14 (Int32.ofNat l) = sI M 6 w 6 (Int32.ofNat ((zH s).1 + 1)) from sI_id (by rw [mI_sI, if_neg (fun z => absurd z.2.2 (by decide))]; exact g1)] at this
  exact ⟨_, this⟩
theorem th_41 (hq : RQ A W w nq nk np nh nr F s) (h : RI A W w br nq nk np nh nr C B F t s c j a lo st U M) (hA : At W s t c j a lo st U i) (hFq : Fq W s i q) (h36 : mI M 6 w 36 = Int32.ofNat q.1) (ho : i.1 = 41) (hQ : ∀ M', RM A W w br nq nk np nh nr C B F t (doS W t s c j a lo st U i q) (gU (doS W t s c j a lo st U i q) t) M' → Q M') : w_Machine_things w (Int32.ofNat U.length) (Int32.ofNat qi) (Int32.ofNat 41) (Int32.ofNat (a + 1)) Q M := by
  obtain ⟨hU, hs20, hlo⟩ := h.2.2.1
  have hmk := a_41 (q := q) hA hFq ho
  have e : doS W t s c j a lo st U i q = if fulS s (osz W q.1) then failS W t s 9 0 else sU (mkOb s (some q.1) (osz W q.1) (ofk W q.1)) t (.inl (c, j, a + 1, lo, st ++ [(Int32.ofNat (lfree s), true)]) :: U) := (by obtain ⟨o, r⟩ := i; have ho : o = 41 := ho; subst ho; rfl)
  rw [e] at hQ hmk
  obtain ⟨hf, hl⟩ := hFq.1 ho
  have hlt := fnd_lt hf
  have h51 := h.1.1.l5
  have h8 : ∀ c, (gc W c).2.2.2.2.1.length ≤ 8 := fun c => by
    by_cases hc : c < W.length
    · exact (h.1.1.1.1.1.1.2.1.2.1 c hc).2.1
    · have : gc W c = gc [] 0 := by
        show W.getD c _ = [].getD 0 _
        rw [List.getD_eq_getElem?_getD, List.getElem?_eq_none (by omega)]; rfl
      rw [this]; exact Nat.zero_le _
  have hos : osz W q.1 ≤ 8 * 52 := oszN_le h8 52 q.1
  have e48 : mI M 48 w q.1 = Int32.ofNat (osz W q.1) := (h.1.1.1.1.2.2.2.1 q.1 hlt hl).2.1
  have l48 : mL M 48 w = 51 := h.1.1.1.1.1.2.2.2.1.2.2.2.2.2.2 48 (by omega) (by omega)
  unfold w_Machine_things
  refine itp rfl ?_
  unfold w_Machine_things_j12 w_Machine_makes
  rw [h36, oN_tnc (k := q.1) (by omega), e48]
  refine itp rfl ⟨by rw [l48]; exact (vp_oN (by omega)).mpr (by omega), ?_⟩
  unfold w_Machine_makes_j26
  refine itp ((oN_le (a := 0) (by omega) (by omega)).mpr (Nat.zero_le _)) (itn (by decide) ?_)
  refine c_make (op := 41) (cl := some q.1) (ks := ofk W q.1) hq.2.2.2.1.1 h hA.1.2.1.1.1.2.1 (Or.inl rfl) (by rw [if_pos rfl, h36]; rfl) (by omega) (fun hfu => ?_) (fun hfu M' h' => ?_)
  · rw [if_pos hfu] at hQ
    exact c_failA (f := 9) (ru := 0) hq h hA (by omega) (by omega) (fun M' h' => itp rfl (hQ M' h'))
  · rw [if_neg hfu] at hQ hmk
    have h20 : (st ++ [_]).length ≤ 20 := hmk.l20 hA.1.1
    rw [List.length_append] at h20
    have h20 : st.length + 1 ≤ 20 := h20
    rw [gU_in] at hQ
    unfold w_Machine_comes
    rw [if_pos rfl, Int32.sub_zero, sI_id rfl]
    exact mf_w_Machine_push (fun M' _ hp => itn (by decide) hp) (c_push0 (b := true) h' (by omega) hQ)
theorem th_42 (hq : RQ A W w nq nk np nh nr F s) (h : RI A W w br nq nk np nh nr C B F t s c j a lo st U M) (hA : At W s t c j a lo st U i) (ho : i.1 = 42) (hQ : ∀ M', RM A W w br nq nk np nh nr C B F t (doS W t s c j a lo st U i q) (gU (doS W t s c j a lo st U i q) t) M' → Q M') : w_Machine_things w (Int32.ofNat U.length) (Int32.ofNat qi) (Int32.ofNat 42) (Int32.ofNat (a + 1)) Q M := by
  obtain ⟨hU, hs20, hlo⟩ := h.2.2.1
  obtain ⟨tl, tk⟩ := hA.tk (ws := [wNum]) (by obtain ⟨o, r⟩ := i; have ho : o = 42 := ho; subst ho; rfl)
  have hs : 1 ≤ st.length := by
    have := hA.in.1.2.1
    have tl : 1 ≤ (k2 W c j a).length := tl
    omega
  have e : doS W t s c j a lo st U i q = if (tv st 0).1 < 0 then failS W t s 5 0 else if 300 < (tv st 0).1 ∨ fulS s (tv st 0).1.toNatClampNeg then failS W t s 9 0 else sU (mkOb s none (tv st 0).1.toNatClampNeg []) t (.inl (c, j, a + 1, lo, drp st 1 ++ [(Int32.ofNat (lfree s), true)]) :: U) := (by obtain ⟨o, r⟩ := i; have ho : o = 42 := ho; subst ho; rfl)
  rw [e] at hQ
  unfold w_Machine_things
  refine itn (by decide) (itp rfl ?_)
  unfold w_Machine_things_j12 w_Machine_makes
  refine itn (by decide) (c_num (d := 0) h (by omega) ?_)
  unfold w_Machine_makes_j26 w_Machine_makes_j74
  by_cases c1 : (tv st 0).1 < 0
  · rw [if_pos c1] at hQ
    exact itn (Int32.not_le.mpr c1) (c_failA (f := 5) (ru := 0) hq h hA (by omega) (by omega) (fun M' h' => itp rfl (hQ M' h')))
  rw [if_neg c1] at hQ
  refine itp (Int32.not_lt.mp c1) (itp rfl ?_)
  by_cases c3 : 300 < (tv st 0).1
  · rw [if_pos (Or.inl c3)] at hQ
    exact itp c3 (c_failA (f := 9) (ru := 0) hq h hA (by omega) (by omega) (fun M' h' => itp rfl (hQ M' h')))
  refine itn c3 ?_
  have hle : (tv st 0).1.toNatClampNeg ≤ 300 := by
    have := c3
    rw [Int32.lt_iff_toInt_lt, show (300 : Int32).toInt = 300 from rfl] at this
    show ((tv st 0).1.toInt).toNat ≤ 300
    omega
  have ey := tnc_oN c1
  have key := c_make (op := 42) (n := (tv st 0).1.toNatClampNeg) (cl := none) (ks := []) (Q := fun r3 M2 => if r3 = 0 then (Q M2) else (w_Machine_things_j178 w Q (Int32.ofNat U.length) (Int32.ofNat (a + 1)) M2)) hq.2.2.2.1.1 h hA.1.2.1.1.1.2.1 (Or.inr rfl) (by rw [if_neg (by decide)]; rfl) (by omega) (fun hfu => ?_) (fun hfu M' h' => ?_)
  · rw [ey] at key; exact key
  · rw [if_pos (Or.inr hfu)] at hQ
    exact c_failA (f := 9) (ru := 0) hq h hA (by omega) (by omega) (fun M' h' => itp rfl (hQ M' h'))
  · rw [if_neg (fun z => z.elim c3 hfu), gU_in] at hQ
    unfold w_Machine_comes
    rw [if_neg (by decide), h'.2.1.2, show (1 : Int32) = Int32.ofNat 1 from rfl, sub_n hs]
    exact mf_w_Machine_push (fun M' _ hp => itn (by decide) hp) (c_comesGo (b := true) h' hs (by omega) hQ)
end
