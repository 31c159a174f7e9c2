/-! the end of a trial, in the works -/
section
variable {L : Nat} {l : Ln} {M : Mem} {Q X : Mem → Prop} {Q' : Int32 → Mem → Prop}
theorem mx_rk {v : Int32} (h : rk5 v) (h1 : v ≠ 1) (hQ : Q' (if v = 3 then 1 else if v = 4 then 2 else 0) M) : w_JMath_max (v - 2) 0 Q' M := by
  rcases h with e | e | e | e | e
  · subst e; exact c_max (fun _ => hQ) (fun z => absurd (by decide) z)
  · exact absurd e h1
  · subst e; exact c_max (fun z => absurd z (by decide)) (fun _ => hQ)
  · subst e; exact c_max (fun z => absurd z (by decide)) (fun _ => hQ)
  · subst e; exact c_max (fun z => absurd z (by decide)) (fun _ => hQ)
theorem c_wkE (h11 : mI M 7 L 11 = Int32.ofNat (lSt l)) (hs : lSt l ≤ 2) (h13 : mI M 7 L 13 = (lRs l).1) (h14 : mI M 7 L 14 = (lRs l).2.1) (h15 : mI M 7 L 15 = (lRs l).2.2.1) (h16 : mI M 7 L 16 = (lRs l).2.2.2) (hk : rk5 (lRs l).1) (hQ : ∀ M', Fr (241873437752252925922159915160715758398481477613027403189344933477100840671249619112825992217610182901582328480540617259452901133038040545411415896633904004707442887954761977183539688920454398002323402569762120744914349912691902057037120947593286197600576469495446819666230015777517044754752388989979213412818688935227736592338808951092665464065768445097510268675748875532188248044369680230566567703180982962779081589510778785326440987137881162567754565380691455629620678854912452505495882848157195597993110758525638496043111903169940402770294904415194176986581272922439133169643038360692638878855186612446903430195586337410268641534170706167693418712535053471104059966103649134961507352216018206328441493360117435323577908674820611767451122805398979578490457405719254180003051012877411471261106602737796808974281735949386873748711156597419191293493274575874786898558303199201669894741461274267136161751236608) M M' → mI M' 10 0 16 = (endL l).1 → mI M' 10 0 17 = (endL l).2 → Q M') :
    if (mI (sI M 10 0 17 (0 : Int32)) 7 L 11) = (1 : Int32) then (Q (sI (sI M 10 0 17 (0 : Int32)) 10 0 16 (5 : Int32))) else (if (mI (sI M 10 0 17 (0 : Int32)) 7 L 11) = (2 : Int32) then (if (21 : Int32) ≤ (mI (sI (sI M 10 0 17 (0 : Int32)) 10 0 16 (4 : Int32)) 7 L 15) then (w_Works_work1_j242 0 Q X (99 : Int32) ((100 : Int32) * (mI (sI (sI M 10 0 17 (0 : Int32)) 10 0 16 (4 : Int32)) 7 L 16)) (sI (sI M 10 0 17 (0 : Int32)) 10 0 16 (4 : Int32))) else (w_Works_work1_j242 0 Q X (mI (sI (sI M 10 0 17 (0 : Int32)) 10 0 16 (4 : Int32)) 7 L 15) ((100 : Int32) * (mI (sI (sI M 10 0 17 (0 : Int32)) 10 0 16 (4 : Int32)) 7 L 16)) (sI (sI M 10 0 17 (0 : Int32)) 10 0 16 (4 : Int32)))) else (if (mI (sI M 10 0 17 (0 : Int32)) 7 L 13) = (1 : Int32) then (w_Works_work1_j264 0 Q X L (2 : Int32) (sI M 10 0 17 (0 : Int32))) else (w_Works_work1_j264 0 Q X L (3 : Int32) (sI M 10 0 17 (0 : Int32))))) := by
  have f0 : Fr (241873437752252925922159915160715758398481477613027403189344933477100840671249619112825992217610182901582328480540617259452901133038040545411415896633904004707442887954761977183539688920454398002323402569762120744914349912691902057037120947593286197600576469495446819666230015777517044754752388989979213412818688935227736592338808951092665464065768445097510268675748875532188248044369680230566567703180982962779081589510778785326440987137881162567754565380691455629620678854912452505495882848157195597993110758525638496043111903169940402770294904415194176986581272922439133169643038360692638878855186612446903430195586337410268641534170706167693418712535053471104059966103649134961507352216018206328441493360117435323577908674820611767451122805398979578490457405719254180003051012877411471261106602737796808974281735949386873748711156597419191293493274575874786898558303199201669894741461274267136161751236608) M (sI M 10 0 17 0) := Fr.wI rfl (Fr.rf _ _)
  have r7 : ∀ k, mI (sI M 10 0 17 0) 7 L k = mI M 7 L k := fun k => by rw [mI_sI, if_neg (fun z => absurd z.1 (by decide))]
  have r7' : ∀ k v, mI (sI (sI M 10 0 17 0) 10 0 16 v) 7 L k = mI M 7 L k := fun k v => by rw [mI_sI, if_neg (fun z => absurd z.1 (by decide)), r7]
  have e17 : mI (sI M 10 0 17 0) 10 0 17 = 0 := by rw [mI_sI, if_pos ⟨rfl, rfl, rfl⟩]
  have w16 : ∀ (N : Mem) (v : Int32), mI (sI N 10 0 16 v) 10 0 16 = v := fun N v => by rw [mI_sI, if_pos ⟨rfl, rfl, rfl⟩]
  have w17 : ∀ (N : Mem) (v : Int32), mI (sI N 10 0 17 v) 10 0 17 = v := fun N v => by rw [mI_sI, if_pos ⟨rfl, rfl, rfl⟩]
  have k16 : ∀ (N : Mem) (v : Int32), mI (sI N 10 0 17 v) 10 0 16 = mI N 10 0 16 := fun N v => by rw [mI_sI, if_neg (fun z => absurd z.2.2 (by decide))]
  have k17 : ∀ (N : Mem) (v : Int32), mI (sI N 10 0 16 v) 10 0 17 = mI N 10 0 17 := fun N v => by rw [mI_sI, if_neg (fun z => absurd z.2.2 (by decide))]
  rw [r7, r7, r7', r7', h11, h13, h15, h16]
  have st : lSt l = 0 ∨ lSt l = 1 ∨ lSt l = 2 := by omega
  rcases st with e | e | e
  · have hE : endL l = if (lRs l).1 = 1 then (2, (lRs l).2.1) else (3, if (lRs l).1 = 3 then 1 else if (lRs l).1 = 4 then 2 else 0) := by
      unfold endL; rw [if_neg (by omega), if_neg (by omega)]
    rw [e]
    refine itn (by decide) (itn (by decide) ?_)
    by_cases c : (lRs l).1 = 1
    · refine itp c ?_
      rw [if_pos c] at hE
      unfold w_Works_work1_j264 w_Works_work1_j296
      rw [r7', r7', h13, h14]
      refine itp c (hQ _ (Fr.wI rfl (Fr.wI rfl f0)) ?_ ?_)
      · rw [k16, w16, hE]
      · rw [w17, hE]
    · refine itn c ?_
      rw [if_neg c] at hE
      unfold w_Works_work1_j264
      rw [r7', h13]
      refine itn c (mx_rk hk c ?_)
      unfold w_Works_work1_j296
      refine hQ _ (Fr.wI rfl (Fr.wI rfl f0)) ?_ ?_
      · rw [k16, w16, hE]
      · rw [w17, hE]
  · have hE : endL l = (5, 0) := by unfold endL; rw [if_pos e]
    rw [e]
    refine itp rfl (hQ _ (Fr.wI rfl f0) ?_ ?_)
    · rw [w16, hE]
    · rw [k17, e17, hE]
  · have hE : endL l = (4, 100 * (lRs l).2.2.2 + (if 21 ≤ (lRs l).2.2.1 then 99 else (lRs l).2.2.1)) := by unfold endL; rw [if_neg (by omega), if_pos e]
    rw [e]
    refine itn (by decide) (itp rfl ?_)
    unfold w_Works_work1_j242
    by_cases c : 21 ≤ (lRs l).2.2.1
    · rw [if_pos c] at hE
      refine itp c (hQ _ (Fr.wI rfl (Fr.wI rfl f0)) ?_ ?_)
      · rw [k16, w16, hE]
      · rw [w17, hE]
    · rw [if_neg c] at hE
      refine itn c (hQ _ (Fr.wI rfl (Fr.wI rfl f0)) ?_ ?_)
      · rw [k16, w16, hE]
      · rw [w17, hE]
end
