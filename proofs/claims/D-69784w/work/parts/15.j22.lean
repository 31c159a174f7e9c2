/-! the end of a trial, in the twin -/
section
variable {L : Nat} {l : Ln} {M : Mem} {Q X : Mem → Prop}
theorem ct_wkE (h0 : mI M 13 L 0 = Int32.ofNat (lSt l)) (hs : lSt l ≤ 2) (h10 : mI M 13 L 10 = (lRs l).1) (h11 : mI M 13 L 11 = (lRs l).2.1) (h12 : mI M 13 L 12 = (lRs l).2.2.1) (h13 : mI M 13 L 13 = (lRs l).2.2.2) (hQ : ∀ M', Fr (126132452971786005688511570735765362140014631745636974695663036656840185027382774865468855033552825082563330190439944776449847563293954232988290380252651565896419813963530262640399692241888080934508483152988216740992050379755858086322454615894092630812000314238416644628378554614314649086421128445220368773338686172806795472956132376616117467058781806701020979780475056698707633885635487816614444458009424787026262447795890904560052980466228453083533243868103120612459447740244517169657323586043897158264746414054590446560540695632019472827663007836419131046982223607618788239389014485888934991434867454169518107255285635370565774701860318916137697661730997842372238243951928758759886677066691266723033791352156039486147634046254310422862123831929360037948304900426712412155564835018690005261706271301794128865749770708893035099019682974005674642007010658500378965549998378878539513672453813926844658834435945244782502398051663326215693143572440256322268135704727646477520350790407904568731305559195648) M M' → mI M' 11 0 124 = (endL l).1 → mI M' 11 0 125 = (endL l).2 → Q M') :
    if (mI (sI M 11 0 125 (0 : Int32)) 13 L 0) = 0 then (if (mI (sI M 11 0 125 (0 : Int32)) 13 L 10) = (1 : Int32) then (w_Model_tryDraft_j152 0 Q X L (2 : Int32) (sI M 11 0 125 (0 : Int32))) else (w_Model_tryDraft_j152 0 Q X L (3 : Int32) (sI M 11 0 125 (0 : Int32)))) else (if (mI (sI M 11 0 125 (0 : Int32)) 13 L 0) = (2 : Int32) then (if (21 : Int32) ≤ (mI (sI (sI M 11 0 125 (0 : Int32)) 11 0 124 (4 : Int32)) 13 L 12) then (w_Model_tryDraft_j241 0 Q X (99 : Int32) ((100 : Int32) * (mI (sI (sI M 11 0 125 (0 : Int32)) 11 0 124 (4 : Int32)) 13 L 13)) (sI (sI M 11 0 125 (0 : Int32)) 11 0 124 (4 : Int32))) else (w_Model_tryDraft_j241 0 Q X (mI (sI (sI M 11 0 125 (0 : Int32)) 11 0 124 (4 : Int32)) 13 L 12) ((100 : Int32) * (mI (sI (sI M 11 0 125 (0 : Int32)) 11 0 124 (4 : Int32)) 13 L 13)) (sI (sI M 11 0 125 (0 : Int32)) 11 0 124 (4 : Int32)))) else (Q (sI (sI M 11 0 125 (0 : Int32)) 11 0 124 (5 : Int32)))) := by
  have f0 : Fr (126132452971786005688511570735765362140014631745636974695663036656840185027382774865468855033552825082563330190439944776449847563293954232988290380252651565896419813963530262640399692241888080934508483152988216740992050379755858086322454615894092630812000314238416644628378554614314649086421128445220368773338686172806795472956132376616117467058781806701020979780475056698707633885635487816614444458009424787026262447795890904560052980466228453083533243868103120612459447740244517169657323586043897158264746414054590446560540695632019472827663007836419131046982223607618788239389014485888934991434867454169518107255285635370565774701860318916137697661730997842372238243951928758759886677066691266723033791352156039486147634046254310422862123831929360037948304900426712412155564835018690005261706271301794128865749770708893035099019682974005674642007010658500378965549998378878539513672453813926844658834435945244782502398051663326215693143572440256322268135704727646477520350790407904568731305559195648) M (sI M 11 0 125 0) := Fr.wI rfl (Fr.rf _ _)
  have r7 : ∀ k, mI (sI M 11 0 125 0) 13 L k = mI M 13 L k := fun k => by rw [mI_sI, if_neg (fun z => absurd z.1 (by decide))]
  have r7' : ∀ k v, mI (sI (sI M 11 0 125 0) 11 0 124 v) 13 L k = mI M 13 L k := fun k v => by rw [mI_sI, if_neg (fun z => absurd z.1 (by decide)), r7]
  have e17 : mI (sI M 11 0 125 0) 11 0 125 = 0 := by rw [mI_sI, if_pos ⟨rfl, rfl, rfl⟩]
  have w16 : ∀ (N : Mem) (v : Int32), mI (sI N 11 0 124 v) 11 0 124 = v := fun N v => by rw [mI_sI, if_pos ⟨rfl, rfl, rfl⟩]
  have w17 : ∀ (N : Mem) (v : Int32), mI (sI N 11 0 125 v) 11 0 125 = v := fun N v => by rw [mI_sI, if_pos ⟨rfl, rfl, rfl⟩]
  have k16 : ∀ (N : Mem) (v : Int32), mI (sI N 11 0 125 v) 11 0 124 = mI N 11 0 124 := fun N v => by rw [mI_sI, if_neg (fun z => absurd z.2.2 (by decide))]
  have k17 : ∀ (N : Mem) (v : Int32), mI (sI N 11 0 124 v) 11 0 125 = mI N 11 0 125 := fun N v => by rw [mI_sI, if_neg (fun z => absurd z.2.2 (by decide))]
  rw [r7, r7, r7', r7', h0, h10, h12, h13]
  have st : lSt l = 0 ∨ lSt l = 1 ∨ lSt l = 2 := by omega
  rcases st with e | e | e
  · have hE : endL l = if (lRs l).1 = 1 then (2, (lRs l).2.1) else (3, if (lRs l).1 = 3 then 1 else if (lRs l).1 = 4 then 2 else 0) := by
      unfold endL; rw [if_neg (by omega), if_neg (by omega)]
    rw [e]
    refine itp rfl ?_
    by_cases c : (lRs l).1 = 1
    · refine itp c ?_
      rw [if_pos c] at hE
      unfold w_Model_tryDraft_j152 w_Model_tryDraft_j196
      rw [r7', r7', h10, h11]
      refine itp c (hQ _ (Fr.wI rfl (Fr.wI rfl f0)) ?_ ?_)
      · rw [k16, w16, hE]
      · rw [w17, hE]
    · refine itn c ?_
      rw [if_neg c] at hE
      unfold w_Model_tryDraft_j152 w_Model_tryDraft_j196
      rw [r7', h10]
      refine itn c ?_
      by_cases c3 : (lRs l).1 = 3
      · rw [if_pos c3] at hE
        refine itp c3 (hQ _ (Fr.wI rfl (Fr.wI rfl f0)) ?_ ?_)
        · rw [k16, w16, hE]
        · rw [w17, hE]
      refine itn c3 ?_
      rw [if_neg c3] at hE
      by_cases c4 : (lRs l).1 = 4
      · rw [if_pos c4] at hE
        refine itp c4 (hQ _ (Fr.wI rfl (Fr.wI rfl f0)) ?_ ?_)
        · rw [k16, w16, hE]
        · rw [w17, hE]
      · rw [if_neg c4] at hE
        refine itn c4 (hQ _ (Fr.wI rfl (Fr.wI rfl f0)) ?_ ?_)
        · rw [k16, w16, hE]
        · rw [w17, hE]
  · have hE : endL l = (5, 0) := by unfold endL; rw [if_pos e]
    rw [e]
    refine itn (by decide) (itn (by decide) (hQ _ (Fr.wI rfl f0) ?_ ?_))
    · rw [w16, hE]
    · rw [k17, e17, hE]
  · have hE : endL l = (4, 100 * (lRs l).2.2.2 + (if 21 ≤ (lRs l).2.2.1 then 99 else (lRs l).2.2.1)) := by unfold endL; rw [if_neg (by omega), if_pos e]
    rw [e]
    refine itn (by decide) (itp rfl ?_)
    unfold w_Model_tryDraft_j241
    by_cases c : 21 ≤ (lRs l).2.2.1
    · rw [if_pos c] at hE
      refine itp c (hQ _ (Fr.wI rfl (Fr.wI rfl f0)) ?_ ?_)
      · rw [k16, w16, hE]
      · rw [w17, hE]
    · rw [if_neg c] at hE
      refine itn c (hQ _ (Fr.wI rfl (Fr.wI rfl f0)) ?_ ?_)
      · rw [k16, w16, hE]
      · rw [w17, hE]
end
