/-! B: a line between a class's members -/
theorem JC.fr {G : List Sl} {US : UST} {A : List Nm} {S : List Sg} {W : List Cls} {w c : Nat} {br : Int32} {nq nl nf nk : Nat} {z : Nat × Nat × Nat × Nat × Nat × Nat} {L ts ts' : List Tok} {M0 M M' : Mem} {F : Nat} (h : JC G US A S W w c br nq nl nf nk z L ts M0 M) (hx : Gx G w) (hf : Fr F M M') (hq : TQ A L ts' M') (hS : sOk F = true := by rfl) (hP : tOk F = true := by rfl) (hV : vOk F = true := by rfl) (h9 : F.testBit (5000 + 109) = false := by rfl) (h53 : F.testBit (cd 11 53) = false := by rfl) : JC G US A S W w c br nq nl nf nk z L ts' M0 M' := by
  obtain ⟨h1, h2, h3, h4, h5, h6, h7⟩ := h
  obtain ⟨⟨v1, v2, v3, v4, v5, v6, v7⟩, v8, v9, v10, v11⟩ := vOk.at hV
  exact ⟨hq, h2.fr hf hx.1 hx.2.2.2.1 hS hP, h3.fr hf hx hS v1 v8 v10 v2 v3 v9 v11 v4, h4.fr hf hx.1 hx.2.2.2.1 hS (tOk.l hP), (hf.I v5 0).trans h5, (hf.I h53 0).trans h6, h7.fr hf hx.1 hx.2.2.2.2.1 hS h9⟩
theorem JC.takes {G : List Sl} {US : UST} {A : List Nm} {S : List Sg} {W : List Cls} {w c : Nat} {br : Int32} {nq nl nf nk : Nat} {z : Nat × Nat × Nat × Nat × Nat × Nat} {L ts : List Tok} {M0 M : Mem} {nm : Nm} {Q : Int32 → Mem → Prop} (h : JC G US A S W w c br nq nl nf nk z L ts M0 M) (hx : Gx G w) (hz : lz L) (hne : ts ≠ []) (hm : nm ∈ A)
    (hQ1 : ∀ M', isWd nm ts = true → ts.tail ≠ [] → JC G US A S W w c br nq nl nf nk z L ts.tail M0 M' → Fr F_Model_takes M M' → Q 1 M') (hQ0 : ∀ M', isWd nm ts = false → JC G US A S W w c br nq nl nf nk z L ts M0 M' → Fr F_Model_takes M M' → Q 0 M') : w_Model_takes 0 (nc A nm) Q M := by
  refine mf_w_Model_takes (Q := fun u M' => (u = 1 ∧ isWd nm ts = true ∧ TQ A L ts.tail M') ∨ (u = 0 ∧ isWd nm ts = false ∧ TQ A L ts M')) (fun u M2 hf2 hp2 => ?_) (ct_takes h.1 hne hm (fun M' a b => Or.inl ⟨rfl, a, b⟩) (fun M' a b => Or.inr ⟨rfl, a, b⟩))
  rcases hp2 with ⟨e, a, b⟩ | ⟨e, a, b⟩
  · subst e; exact hQ1 M2 a (tl_ne h.1 hz hne (by rw [(of_decide_eq_true a).1]; decide)) (h.fr hx hf2 b) hf2
  · subst e; exact hQ0 M2 a (h.fr hx hf2 b) hf2
set_option maxRecDepth 4000 in
theorem ct_bLn {G : List Sl} {US : UST} {A : List Nm} {S : List Sg} {W : List Cls} {w R : Nat} {br : Int32} {nq nl nf nk : Nat} {NL : List Nine} {p : PM} {z : Nat × Nat × Nat × Nat × Nat × Nat} {K : Nat × Nat × Nat × Nat} {L : List Tok} {M0 M : Mem} {Q X : Mem → Prop} (h : JC G US A S W w (W.length - 1) br nq nl nf nk z L L M0 M) (hx : Gx G w) (hz : lz L) (hUL : UL US L) (hLl : L.length ≤ 1500) (h99 : z.2.2.2.2.2 = 99) (h52 : mI M 11 0 52 = 1) (hrow : rl M sFr ≤ 20000) (hnw : tNw z.1 W w M) (hzc : z.1 < W.length) (hBd : Bd K (L.length + R) nq nl nf nk NL p) (hzb : z.2.1 ≤ nq ∧ z.2.2.1 ≤ nl ∧ z.2.2.2.1 ≤ nf ∧ z.2.2.2.2.1 ≤ nk)
    (hX : ∀ e M', bLine br W L = .inl e → ThT e M' → JE G US A w z M0 M' → rl M' sFr ≤ 20000 → X M')
    (hQ : ∀ st' M', bLine br W L = .inr st' → LSt G US A w br z K R (hd L).2.2.2 st' M0 M' → Q M') : w_Model_takeLine_j67 0 Q X M := by
  have hL : L ≠ [] := by obtain ⟨i, z, e, -⟩ := hz; rw [e]; simp
  have hsF : sFr ∈ G := hx.2.2.2.2.2
  have hBd' : ∀ m : Mth, Bd K R nq nl nf nk [] (m, [], [], [], none) := fun m => (hBd.less (Nat.le_add_left _ _)).nil m
  have hcl : W.length - 1 < W.length := by omega
  have hc1 : W.length - 1 + 1 = W.length := by omega
  have hzc' : z.1 ≤ W.length - 1 := by omega
  have tg : ∀ {S : List Sg} {ts : List Tok} {M1 : Mem}, JC G US A S W w (W.length - 1) br nq nl nf nk z L ts M0 M1 → TG G M1 := fun j => j.2.2.2.1.1.1
  unfold w_Model_takeLine_j67
  rw [h52]
  refine itn (by decide) (itp rfl ?_)
  have k13 := h.1.1.2.1 (13, nField) (by simp [kF])
  simp only [] at k13
  rw [k13.1]
  refine h.takes hx hz hL k13.2 (fun M2 c1 n2 h2 f2 => itn (by decide) ?_) (fun M2 c1 h2 f2 => itp rfl ?_)
  · -- a field
    have r2 : rl M2 sFr ≤ 20000 := by rw [rl_keep f2 (tg h) hsF]; exact hrow
    have nw2 := hnw.fr f2
    have e52 : mI M2 11 0 52 = 1 := (f2.I (f := 11) (k := 52) rfl 0).trans h52
    have rk : ∀ M', Fr F_Model_fieldLine M2 M' → rl M' sFr ≤ 20000 := fun M' hf => by rw [rl_keep hf (tg h2) hsF]; exact r2
    unfold bLine at hX hQ
    rw [if_pos c1] at hX hQ
    refine mf_w_Model_fieldLine (Q := fun M' => Fr F_Model_fieldLine M2 M' → w_Model_takeLine_j171 0 Q X M') (X := fun M' => Fr F_Model_fieldLine M2 M' → X M') (fun M' hf hp => hp hf) (fun M' hf hp => hp hf) (ct_fLn hx hz h2.1 n2 h2.2.1 h2.2.2.1 h2.2.2.2.1 (h99 ▸ h2.2.2.2.2.1) h2.2.2.2.2.2.1 hcl hzc' h2.2.2.2.2.2.2 (fun e M' a b d hf => hX e M' (by rw [a]) b d (rk M' hf)) (fun bits own κ v has t5 M' a b d e f hf => ?_) (fun bits own κ v has t5 M' a b d e f g i j hf => ?_))
    · exact ct_j171r e hx f d b (rk M' hf) (fun M'' y1 y2 y3 => hX _ M'' (by rw [a]; dsimp only; rw [if_neg (by omega)]) y1 y2 y3)
    · refine ct_j171 d (hQ _ M' (by rw [a]; dsimp only; rw [if_pos b]) ⟨S, nq, nl, nq, nl, nf, nk, [], ⟨g, i, (hf.I (f := 11) (k := 52) rfl 0).trans e52, rk M' hf, nw2.addF hcl (fun k => hf.Ia (f := 137) rfl rfl w k) (fun k => hf.Ia (f := 138) rfl rfl w k) f, by show z.1 ≤ (addF W _ _).length; rw [addF_len]; omega⟩, hBd' _, hzb, Or.inl ⟨Nat.le_refl 1, e, j, ⟨rfl, rfl⟩, fun _ => ⟨?_, by show z.1 < (addF W _ _).length; rw [addF_len]; omega⟩⟩⟩)
      show mI M' 11 0 53 = Int32.ofNat ((addF W _ _).length - 1)
      rw [addF_len]
      exact (hf.I (f := 11) (k := 53) rfl 0).trans h2.2.2.2.2.2.1
  · have r2 : rl M2 sFr ≤ 20000 := by rw [rl_keep f2 (tg h) hsF]; exact hrow
    have nw2 := hnw.fr f2
    unfold bLine at hX hQ
    rw [if_neg (by rw [c1]; decide)] at hX hQ
    have k14 := h2.1.1.2.1 (14, nMethod) (by simp [kF])
    simp only [] at k14
    rw [k14.1]
    refine h2.takes hx hz hL k14.2 (fun M3 c2 n3 h3 f3 => itn (by decide) ?_) (fun M3 c2 h3 f3 => itp rfl ?_)
    · -- a method
      have r3 : rl M3 sFr ≤ 20000 := by rw [rl_keep f3 (tg h2) hsF]; exact r2
      have nw3 := nw2.fr f3
      have rk : ∀ M', Fr F_Model_methodLine M3 M' → rl M' sFr ≤ 20000 := fun M' hf => by rw [rl_keep hf (tg h3) hsF]; exact r3
      rw [if_pos c2] at hX hQ
      refine mf_w_Model_methodLine (Q := fun M' => Fr F_Model_methodLine M3 M' → w_Model_takeLine_j171 0 Q X M') (X := fun M' => Fr F_Model_methodLine M3 M' → X M') (fun M' hf hp => hp hf) (fun M' hf hp => hp hf) (ct_mLn hx hz hUL hLl h3.1 n3 h3.2.1 h3.2.2.1 h3.2.2.2.1 (h99 ▸ h3.2.2.2.2.1) h3.2.2.2.2.2.1 hc1 hzc' h3.2.2.2.2.2.2 (fun e M' a b d hf => hX e M' (by rw [a]) b d (rk M' hf)) (fun bits own ks κ t5 M' a b d e f hf => ?_) (fun bits own ks κ t5 S' M' a b d _ e f g i j k l hf => ?_) (fun bits own ks κ t5 S' M' a b d _ e f g i j k l hf => ?_))
      · exact ct_j171r e hx f d b (rk M' hf) (fun M'' y1 y2 y3 => hX _ M'' (by rw [a]; dsimp only; rw [if_neg (by omega)]) y1 y2 y3)
      · exact ct_j171 e (hQ _ M' (by rw [a]; dsimp only; rw [if_pos b, if_pos d]) ⟨S', nq, nl, nq, nl, nf, nk, [], ⟨j, k, f, rk M' hf, nw3.fr hf, Nat.le_of_lt hzc⟩, hBd' _, hzb, Or.inr ⟨Or.inl rfl, hzc, g, i, l, NLk.nil _, ⟨rfl, rfl⟩, fun x hx' => absurd hx' (by simp), fun _ => ⟨rfl, rfl, rfl⟩⟩⟩)
      · refine ct_j171 e (hQ _ M' (by rw [a]; dsimp only; rw [if_pos b, if_neg d]) ⟨S', nq, nl, nq, nl, nf, nk, [], ⟨j, k, f, rk M' hf, (nw3.fr hf).addM hc1, by show z.1 ≤ (addM W _).length; rw [addM_len]; omega⟩, hBd' _, hzb, Or.inl ⟨Nat.le_refl 1, i, l, ⟨rfl, rfl⟩, fun _ => ⟨?_, by show z.1 < (addM W _).length; rw [addM_len]; omega⟩⟩⟩)
        show mI M' 11 0 53 = Int32.ofNat ((addM W _).length - 1)
        rw [addM_len]; exact g
    · -- the end
      have r3 : rl M3 sFr ≤ 20000 := by rw [rl_keep f3 (tg h2) hsF]; exact r2
      have nw3 := nw2.fr f3
      rw [if_neg (by rw [c2]; decide)] at hX hQ
      have k19 := h3.1.1.2.1 (19, nEnd) (by simp [kF])
      simp only [] at k19
      rw [k19.1]
      refine mf_w_Model_needWord (Q := fun M' => isWd nEnd L = true ∧ TQ A L L.tail M') (X := fun M' => isWd nEnd L = false ∧ ThT (er L) M') (fun M4 f4 hp4 => ?_) (fun M4 f4 hp4 => hX _ M4 (by rw [if_neg (by rw [hp4.1]; decide)]) hp4.2 (h3.je.fr hx f4) (by rw [rl_keep f4 (tg h3) hsF]; exact r3)) (ct_needWord h3.1 hL k19.2 (fun M' a b => ⟨a, b⟩) (fun M' a b => ⟨a, b⟩))
      obtain ⟨c3, q4⟩ := hp4
      have h4 := h3.fr hx f4 q4
      have n4 : L.tail ≠ [] := tl_ne h3.1 hz hL (by rw [(of_decide_eq_true c3).1]; decide)
      have r4 : rl M4 sFr ≤ 20000 := by rw [rl_keep f4 (tg h3) hsF]; exact r3
      rw [if_pos c3] at hX hQ
      refine mf_w_Model_need (Q := fun M' => (hd L.tail).1 = 0 ∧ TQ A L L.tail.tail M') (X := fun M' => (hd L.tail).1 ≠ 0 ∧ ThT (er L.tail) M') (fun M5 f5 hp5 => ?_) (fun M5 f5 hp5 => hX _ M5 (by rw [if_neg hp5.1]) hp5.2 (h4.je.fr hx f5) (by rw [rl_keep f5 (tg h4) hsF]; exact r4)) (ct_need (b := 0) h4.1 n4 (by omega) (fun M' a b => ⟨a, b⟩) (fun M' a b => ⟨a, b⟩))
      obtain ⟨c5, q5⟩ := hp5
      have h5 := h4.fr hx f5 q5
      have r5 : rl M5 sFr ≤ 20000 := by rw [rl_keep f5 (tg h4) hsF]; exact r4
      rw [if_pos c5] at hQ
      have f6 : Fr (8903195282092194484161928590820705918938273606366201382852781966274894614576498645758788222002416310305007265834455066797837419113335727950662998989829596357606314751242013845305437803457200811377247984018122668268772872281978190448315195661398709976249355301642339555067566358348711429673877045387787372291973382051630794315003740218258683793482935819242748670016685200206534494257687242596594344332061374557448058617396442144365730371740297648292488584032716202614925297518758035305033847046223899351010974051976273805237510203229128084253900944218085409556866353541413975991095669145104042327779471323874300162475751283453633347630894804097459256305124746866400157430378169235554533947177746084437880019316003126886063054544186115436582227068079268733949333698458748937962803143345958009464476147152076496916649355182297155328110818850336679414158105336445116723314098796866245659010150342320630535058249379507596921099711799333699798637365770413280951613079224253183999082496) M5 (sI M5 11 0 52 0) := Fr.wI rfl (Fr.rf _ _)
      have h6 := h5.fr hx f6 (h5.1.fr f6)
      refine ct_j171 (h99 ▸ h6.2.2.2.2.1) (hQ _ _ rfl ⟨S, nq, nl, nq, nl, nf, nk, [], ⟨h6.2.2.1, h6.2.2.2.1, by simp only [mI_sI, mI_sR, mI_sJ, mR_sI, mL_sI, mL_sR, mR_sR, Nat.reduceEqDiff, and_false, false_and, if_false, and_self, true_and, and_true, if_true]; rfl, by rw [rl_keep f6 (tg h5) hsF]; exact r5, ((nw3.fr f4).fr f5).fr f6, Nat.le_of_lt hzc⟩, hBd' _, hzb, Or.inl ⟨Nat.zero_le 1, h6.2.1, h6.2.2.2.2.2.2, ⟨rfl, rfl⟩, fun q => absurd (show (0 : Nat) = 1 from q) (by decide)⟩⟩)
