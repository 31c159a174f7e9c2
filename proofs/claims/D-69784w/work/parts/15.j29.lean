/-! a trial in the works, from its last line's place on -/
section
variable {L : Trl} {BB A : List Nm} {M : Mem} {Q X : Mem → Prop} {r B F w n : Nat} {br a : Int32} {Q' : Int32 → Mem → Prop}
theorem k_define (h : w_Reader_define 0 w r a (fun v M' => Fr F_Reader_define M M' → Q' v M') (fun M' => Fr F_Reader_define M M' → X M') M) : w_Reader_define 0 w r a Q' X M := mf_w_Reader_define (fun _ _ hf hp => hp hf) (fun _ hf hp => hp hf) h
theorem k_nextW (h : w_Words_next 0 (fun M' => Fr F_Words_next M M' → Q M') M) : w_Words_next 0 Q M := mf_w_Words_next (fun _ hf hp => hp hf) h
theorem k_rcall (h : w_Reader_call 0 w a (fun M' => Fr F_Reader_call M M' → Q M') (fun M' => X M') M) : w_Reader_call 0 w a Q X M := mf_w_Reader_call (fun _ hf hp => hp hf) (fun _ _ hp => hp) h
theorem k_go (h : w_Machine_go w a (fun v M' => Fr F_Machine_go M M' → Q' v M') M) : w_Machine_go w a Q' M := mf_w_Machine_go (fun _ _ hf hp => hp hf) h
theorem LZ21 {k : Nat} : LZ W21 (ms0 k) := fun c hc => if_neg (by have := W21_n.1; omega)
theorem c_wk27 (hL : TrO L) (hR : rmC 0 B F M) (hN : NC BB A M) (hRd : cRd M) (hLk : cLk M) (h30 : mL M 30 0 = 6) (h35 : mI M 6 0 35 = 1 ∨ (mI M 6 0 35 = 0 ∧ ∃ C1, mI M 10 0 8 = Int32.ofNat C1)) (hT : (txt L).length ≤ mL M 400 r ∧ ∀ k, k < (txt L).length → mI M 400 r k = gi (txt L) k) (hB : ∀ l ∈ lns (pT (txt L.dropLast)) (txt L.dropLast).length 0, NB BB l) (hB2 : NB BB (full (nl (pT (txt L)) (txt L).length (txt L.dropLast).length) (tks (pT (txt L)) (txt L).length (txt L.dropLast).length))) (hF : F < 1000000) (hCF : 601 < F)
    (hQ : ∀ A' M', A <+: A' → NC BB A' M' → rmC 0 B F M' → mI M' 6 0 35 = 1 → mI M' 10 0 16 = (outS L br).1 → mI M' 10 0 17 = (outS L br).2 → Q M') : w_Works_work1_j27 0 Q X r (Int32.ofNat (txt L).length) br (Int32.ofNat (txt L.dropLast).length) M := by
  unfold w_Works_work1_j27
  have hl := txt_len hL.1.1
  have hle := hL.2.1
  have e0 := txt_last hL.1.1
  have hnA : ∀ {A1 : List Nm} {M1 : Mem}, NC BB A1 M1 → nA A1 := fun h => h.nA (by have := h.len; omega)
  have hC : ∃ C1, mI M 6 0 35 = 1 ∨ (mI M 6 0 35 = 0 ∧ 0 ≤ C1 ∧ mI M 10 0 8 = Int32.ofNat (C1 - 0)) := by
    rcases h35 with e | ⟨e, C1, e8⟩
    · exact ⟨0, Or.inl e⟩
    · exact ⟨C1, Or.inr ⟨e, Nat.zero_le _, e8⟩⟩
  obtain ⟨C1, hC⟩ := hC
  refine c_wbegin (k := 0) (C := C1) hR (hnA hN) hLk hC (fun M2 h2 f2 _ _ => ⟨Or.inr rfl, ?_⟩)
  have h3 : RA A W21 0 br 0 0 0 0 4 300 B F (ms0 0) (sI M2 6 0 35 1) := h2.w35
  have f3 : Fr (6339285465397756945139231368132496554128019744394747208275350942065595714223327282882004073897576134671584866440587073589025503475990026413326511053883607915299395946163061310275939887721284702577049600905500587493134081452053068632251299909723723558408707363710485735134568997454657860579673473887642838095995761088133366056241938452588977226108203981105783984530789968290446688647352481978669132377754201179424182135972718209610359179533122512532665478867441240001882627136877088984853105924492165202066976612549324957210631163627495601701311917774915319226625953873436247075670679311426218213474911559991574036858026759204686488479135390583123312128845114580715456954368) M2 (sI M2 6 0 35 1) := Fr.wI rfl (Fr.rf _ _)
  have e35 : mI (sI M2 6 0 35 1) 6 0 35 = 1 := by rw [mI_sI, if_pos ⟨rfl, rfl, rfl⟩]
  generalize sI M2 6 0 35 1 = M3 at h3 f3 e35 ⊢
  have hN3 : NC BB A M3 := (hN.fr f2).fr f3
  have hRd3 : cRd M3 := (hRd.fr f2).fr f3
  have h400 : ∀ k, mI M3 400 r k = mI M 400 r k := fun k => (f3.Ia (f := 400) rfl rfl r k).trans (f2.Ia (f := 400) rfl rfl r k)
  have l400 : mL M3 400 r = mL M 400 r := (f3.L (f := 400) rfl r).trans (f2.L (f := 400) rfl r)
  have l30 : mL M3 30 0 = 6 := ((f3.L (f := 30) rfl 0).trans (f2.L (f := 30) rfl 0)).trans h30
  clear h2 f2 f3 hC hR hN hRd hLk h30 h35
  have hd10 : ∀ l ∈ L.dropLast, (10 : Int32) ∉ l := fun l h => hL.2.2.1 l (List.dropLast_subset _ h)
  have hlin := lines_le hd10
  have hdl : L.dropLast.length ≤ 59 := by rw [List.length_dropLast]; have := hL.1.2; omega
  obtain ⟨b1, b2', b3⟩ := bud0 (pT_end (txt L.dropLast)) (by omega) (by omega)
  have w21 := W21_n
  refine k_define (c_define (p := pT (txt L.dropLast)) (K := (60, 1201, 1201, 60, 64, 1225)) hN3 (by omega) ⟨by omega, fun k hk => ?_, pT_end _⟩ hB h3.1.1.1 hRd3 (by rw [w21.1]; omega) b1 b2' b3 (fun A1 W' M4 nq' nk' np' nh' nr' y1 y2 y3 y4 y5 y6 y7 y8 y9 f4 => ?_) (fun A1 e M4 y1 y2 y3 y4 y5 y6 f4 => ?_))
  · rw [h400, hT.2 k (by omega), e0, gi_l hk, pT_in hk]
  · have hWp := run_pre y1
    have r4 := h3.grow (K := 1) WI21.1.1 LZ21 y2 hWp y4 y6 y8 f4 (Nat.le_refl _)
    have hBI : BI W' := WO21.1.pre hWp
    have hWO : WO W' := ⟨hBI, (WO21.2.1.run (by rw [w21.1]; omega) y1).1, WO21.2.2.1.run (by rw [w21.1]; omega) y1, (y4.mo (e := 0) (c := 0) (by have := hBI.1; omega)).2.2.2.2⟩
    have hne : ∀ c, c < W'.length → (gc W' c).1 ≠ [] := fun c hc => (y4.1.1.2.2 c hc).1.2.2
    have hty : ∀ c, c < W'.length → ∀ f, f < (gc W' c).2.2.2.2.1.length → tyOk (gfl (gc W' c) f).2.1 := fun c hc f hf => ((hWO.2.2.1.1 _ (gc_mem hc)).1.1 _ (getD_mem hf)).1
    obtain ⟨⟨hWI, -, -⟩, hRk⟩ := trS_ok hL hBI hne hty
    have eo : outS L br = endL (zN (gowS br W' 300000 300 (trS L)).2 0) := by unfold outS; rw [y1]
    have hKB : KB 0 nq' nk' np' nh' nr' := by
      obtain ⟨k1, k2, k3, k4, k5, k6, -⟩ := y9
      have k1 : nq' + 0 ≤ 60 := k1
      have k2 : 2 * nk' + 0 ≤ 1201 := k2
      have k3 : 2 * np' + 0 ≤ 1201 := k3
      have k4 : nh' + 0 ≤ 60 := k4
      have k5 : nr' + 0 ≤ 64 := k5
      exact ⟨show nq' ≤ 434 by omega, show nk' ≤ 651 by omega, show np' ≤ 651 by omega, show 4 * nh' ≤ 1056 by omega, show 4 * nr' ≤ 492 by omega, show 6 * nr' ≤ 738 by omega⟩
    have i400 : ∀ k, k < (txt L).length → mI M4 400 r k = pT (txt L) k := fun k hk => by rw [f4.Ia (f := 400) rfl rfl, h400, hT.2 k hk, pT_in hk]
    have j400 : (txt L).length ≤ mL M4 400 r := by rw [f4.L (f := 400) rfl, l400]; exact hT.1
    have j30 : mL M4 30 0 = 6 := (f4.L (f := 30) rfl 0).trans l30
    have g35 : mI M4 6 0 35 = 1 := (f4.I (f := 6) (k := 35) rfl 0).trans e35
    clear y4 y6 y8 f4 h3 hN3 hRd3 h400 l400 l30 e35 hB
    unfold w_Words_begin
    refine ⟨_, rfl, ?_⟩
    dsimp only
    have f5 : Fr (193683207919306841025443595308124188908825369176813157460588073300512305259428532282310706874358529136605782725161995057075198817610850250436236411270168738537447516888613151007889252730906358376478728472627511027339627081570556808892828571843480532477137254450010856872552135568258392874157402599643316038943967187725371894568512015006710902710174130266974738196764859708026137031454310184771182654078600073726896879173632) M4 (sI (sI (sI (sR M4 2 0 0 (some (400, r))) 2 0 1 (Int32.ofNat (txt L).length)) 2 0 2 0) 2 0 2 (Int32.ofNat (txt L.dropLast).length)) := Fr.wI rfl (Fr.wI rfl (Fr.wI rfl (Fr.wR rfl (Fr.rf _ _))))
    have t0 : mR (sI (sI (sI (sR M4 2 0 0 (some (400, r))) 2 0 1 (Int32.ofNat (txt L).length)) 2 0 2 0) 2 0 2 (Int32.ofNat (txt L.dropLast).length)) 2 0 0 = some (400, r) := by simp only [mI_sI, mI_sR, mI_sJ, mR_sI, mL_sI, mL_sR, mR_sR, Nat.reduceEqDiff, and_false, false_and, if_false, and_self, true_and, and_true, if_true]
    have t1 : mI (sI (sI (sI (sR M4 2 0 0 (some (400, r))) 2 0 1 (Int32.ofNat (txt L).length)) 2 0 2 0) 2 0 2 (Int32.ofNat (txt L.dropLast).length)) 2 0 1 = Int32.ofNat (txt L).length := by simp only [mI_sI, mI_sR, mI_sJ, mR_sI, mL_sI, mL_sR, mR_sR, Nat.reduceEqDiff, and_false, false_and, if_false, and_self, true_and, and_true, if_true]
    have t2 : mI (sI (sI (sI (sR M4 2 0 0 (some (400, r))) 2 0 1 (Int32.ofNat (txt L).length)) 2 0 2 0) 2 0 2 (Int32.ofNat (txt L.dropLast).length)) 2 0 2 = Int32.ofNat (txt L.dropLast).length := by simp only [mI_sI, mI_sR, mI_sJ, mR_sI, mL_sI, mL_sR, mR_sR, Nat.reduceEqDiff, and_false, false_and, if_false, and_self, true_and, and_true, if_true]
    generalize sI (sI (sI (sR M4 2 0 0 (some (400, r))) 2 0 1 (Int32.ofNat (txt L).length)) 2 0 2 0) 2 0 2 (Int32.ofNat (txt L.dropLast).length) = M5 at f5 t0 t1 t2 ⊢
    obtain ⟨ta, tb⟩ := hL.at (to := nl (pT (txt L)) (txt L).length (txt L.dropLast).length)
    refine k_nextW (c_firstW (n := (txt L).length) (p := pT (txt L)) ⟨y3.fr f5, ⟨⟨t0, t1⟩, by rw [f5.L (f := 400) rfl]; exact j400, by omega, fun k hk => (f5.Ia (f := 400) rfl rfl r k).trans (i400 k hk), pT_end _⟩, by omega⟩ t2 (by omega) hB2 (fun A2 M6 p2 r6 f6 => ?_))
    have h2w : (hd (full (nl (pT (txt L)) (txt L).length (txt L.dropLast).length) (tks (pT (txt L)) (txt L).length (txt L.dropLast).length))).1 = 2 := (of_decide_eq_true ta).1
    refine k_nextW (c_rnext r6 (by omega) (fun A3 M7 p3 r7 f7 => ?_))
    obtain ⟨m76, m212⟩ := r4.m76
    have f47 : Fr F_Works_isTaken M4 M7 := ((f5.sub rfl).trans (f6.sub rfl)).trans (f7.sub rfl)
    have k47 : Tk 0 0 M4 M7 := ((Tk.fr f5).trans (Tk.fr f6)).trans (Tk.fr f7)
    have e76 : mL M7 76 0 = 492 := (f47.L (f := 76) rfl 0).trans m76
    have e212 : mL M7 211 (2 * 0 + 2) = 738 := (f47.L (f := 211) rfl _).trans m212
    refine k_rcall (c_rcall (t := 0) r7 (by omega) ((f47.L (f := 211) rfl 0).trans y5.2.2) ((f47.L (f := 30) rfl 0).trans j30) (by rw [e76]; omega) (by rw [e76]; omega) (by rw [e212]; omega) (by rw [e212]; omega) (fun A4 k m κ vs ts2 M8 z1 z2 z3 z4 z5 z6 z7 f8 => ?_) (fun A4 e M8 z1 => by rw [tb] at z1; cases z1))
    have ex : calL L = (k, m, κ, vs) := Sum.inr.inj (tb.symm.trans z1)
    have hoff : (0 : Nat) < 3 → lSt (zN (ms0 0) 0) ≠ 1 := fun _ => show (0 : Nat) ≠ 1 by decide
    have f48 : Fr F_Works_isTaken M4 M8 := f47.trans (f8.sub rfl)
    have p4 : A1 <+: A4 := (p2.trans p3).trans z2
    have hN8 : NC BB A4 M8 := z3.1
    have r8 := r4.tk (t := 0) (by omega) p4 (by have := hN8.len; omega) f48 (k47.trans z4) hoff
    refine ⟨by rw [r8.2.2.2.2.1.1]; exact (vp_oN (a := 0) (by omega)).mpr (by omega), 0, r8.2.2.2.2.1.2 0 (by omega), ?_⟩
    have n2 := r8.2.2.2.2.2 0 (by omega)
    obtain ⟨⟨⟨q1, q2, q3, q4⟩, ⟨q5, -⟩, -⟩, -, -⟩ := n2
    refine c_lcall ((f48.L (f := 30) rfl 0).trans j30) q4 (fun M9 f9 v1 v2 v3 v4 v5 => ?_)
    obtain ⟨s1, s2, s3⟩ := f9.r89
    have hkd : kdOk κ := by have := pCall_kd tb; rw [ex] at this; exact this
    have r9 : RA A4 W' 0 br nq' nk' np' nh' nr' 300 B F (trS L) M9 := by
      have hh := r8.ln1 (t := 0) (l := newL (calL L) (cvl (calL L))) (by omega) f9 v4 ?_
      · exact hh
      rw [ex]
      refine ⟨⟨⟨fun f g1 g2 => (s3 _ f (by omega) (Or.inl (by omega))).trans (q1 f g1 g2), (s3 _ 94 (by omega) (Or.inl (by omega))).trans q2, (s3 _ 514 (by omega) (Or.inr rfl)).trans q3, (s3 _ 95 (by omega) (Or.inl (by omega))).trans q4⟩, ⟨v3.trans q5, v1.2.2.1, v1.2.2.2.1, v1.2.2.2.2⟩, ⟨v2.1, v2.2.1, v2.2.2.1, v2.2.2.2.1⟩, v2.2.2.2.2, fun _ i hi => ?_⟩, ⟨v1.1, v1.2.1, trivial⟩, fun _ => ?_⟩
      · have hi : i < vs.length := by
          have : i < (kNs vs.length).length := hi
          rw [List.length_replicate] at this; exact this
        rw [v5 i (by omega), z6 i hi]
        show _ = (cvl (k, m, κ, vs)).getD i 0
        rw [List.getD_eq_getElem?_getD, List.getD_eq_getElem?_getD, List.getElem?_append_left hi]
      · refine RfX.fr (M := M8) ⟨z5, ⟨?_, fun κ hκ => ?_, hkd⟩, ⟨?_, ?_⟩, ?_, ?_⟩ f9
        · show (kNs vs.length).length ≤ 6
          rw [List.length_replicate]; exact z7
        · rw [List.eq_of_mem_replicate hκ]; exact Or.inl rfl
        · rw [r8.m76.1]; show 4 ≤ 492; omega
        · rw [r8.m76.1]; show 492 < 2000000; omega
        · rw [r8.m76.2]; show 6 ≤ 738; omega
        · rw [r8.m76.2]; show 738 < 2000000; omega
    have hm := mu_max hWO hWI.1.1
    have hzk : zK (trS L) = 0 := rfl
    refine k_go ?_
    unfold w_Machine_go
    refine ⟨300000, ?_⟩
    refine c_goM (C := 300) hWO hKB (hnA hN8) (by omega) hF (by omega) 300000 300 (trS L) M9 r9 hWI.1 (by omega) (by omega) (fun M10 r10 g10 f10 => ?_)
    have hRk2 := gow_rk (br := br) (f := 300000) (n := 300) hWO hWI.1 (by omega) hRk
    have g9 : mI M9 6 0 35 = 1 := ((f9.I (f := 6) (k := 35) rfl 0).trans (f48.I (f := 6) (k := 35) rfl 0)).trans g35
    have hN9 : NC BB A4 M9 := hN8.fr f9
    generalize (gowS br W' 300000 300 (trS L)).2 = y at r10 g10 hRk2 eo
    obtain ⟨⟨-, ⟨-, -, u11, -⟩, ⟨u13, u14, u15, u16⟩, -⟩, -⟩ := r10.2.2.2.2.2 0 (by omega)
    refine c_wkE u11 (g10.1.2.1 0 (by omega)).2.1.1 u13 u14 u15 u16 (hRk2 0) (fun M11 f11 o16 o17 => ?_)
    rw [← eo] at o16 o17
    exact hQ A4 M11 (y2.trans p4) ((hN9.fr f10).fr f11) (r10.fm f11 rfl rfl (r10.1.2.fr f11)).room (((f11.I (f := 6) (k := 35) rfl 0).trans (f10.I (f := 6) (k := 35) rfl 0)).trans g9) o16 o17
  · have r4 := h3.grow (K := 1) WI21.1.1 LZ21 y2 List.prefix_rfl y4 ⟨fun c h1 h2 => absurd h2 (by omega), fun i h1 h2 => absurd h2 (by omega)⟩ y6 f4 (Nat.le_refl _)
    have eo : outS L br = (1, Int32.ofNat e.1) := by unfold outS; rw [y1]
    unfold w_Works_work1_j64
    refine ⟨_, rfl, ?_⟩
    have f5 : Fr (241873437752252925922159915160715758398481477613027403189344933477100840671249619112825992217610182901582328480540617259452901133038040545411415896633904004707442887954761977183539688920454398002323402569762120744914349912691902057037120947593286197600576469495446819666230015777517044754752388989979213412818688935227736592338808951092665464065768445097510268675748875532188248044369680230566567703180982962779081589510778785326440987137881162567754565380691455629620678854912452505495882848157195597993110758525638496043111903169940402770294904415194176986581272922439133169643038360692638878855186612446903430195586337410268641534170706167693418712535053471104059966103649134961507352216018206328441493360117435323577908674820611767451122805398979578490457405719254180003051012877411471261106602737796808974281735949386873748711156597419191293493274575874786898558303199201669894741461274267136161751236608) M4 (sI (sI M4 10 0 16 1) 10 0 17 (mI (sI M4 10 0 16 1) 9 0 5)) := Fr.wI rfl (Fr.wI rfl (Fr.rf _ _))
    have o16 : mI (sI (sI M4 10 0 16 1) 10 0 17 (mI (sI M4 10 0 16 1) 9 0 5)) 10 0 16 = 1 := by simp only [mI_sI, mI_sR, mI_sJ, mR_sI, mL_sI, mL_sR, mR_sR, Nat.reduceEqDiff, and_false, false_and, if_false, and_self, true_and, and_true, if_true]
    have o17 : mI (sI (sI M4 10 0 16 1) 10 0 17 (mI (sI M4 10 0 16 1) 9 0 5)) 10 0 17 = mI M4 9 0 5 := by simp only [mI_sI, mI_sR, mI_sJ, mR_sI, mL_sI, mL_sR, mR_sR, Nat.reduceEqDiff, and_false, false_and, if_false, and_self, true_and, and_true, if_true]
    rw [y3.2.1] at o17
    refine hQ A1 _ y2 (y3.1.fr f5) (r4.fm f5 rfl rfl (r4.1.2.fr f5)).room (((f5.I (f := 6) (k := 35) rfl 0).trans (f4.I (f := 6) (k := 35) rfl 0)).trans e35) ?_ ?_
    · rw [eo]; exact o16
    · rw [eo]; exact o17
end
