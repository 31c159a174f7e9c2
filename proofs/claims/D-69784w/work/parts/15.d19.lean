/-! B: the twin's checker: signatures; what is wanted -/
section
variable {G : List Sl} {US : UST} {A : List Nm} {S : List Sg} {W : List Cls} {w c k : Nat} {br : Int32} {nq nl nf nk : Nat} {M M' : Mem}
theorem te_sig {ks : List Kd} {κ : Kd} (h : TE G US A S W w c k br nq nl nf nk M) (hm : sg A ks κ ∈ S) : (S.idxOf (sg A ks κ) < 100000 ∧ S.idxOf (sg A ks κ) < rl M sF ∧ S.idxOf (sg A ks κ) < rl M sC ∧ S.idxOf (sg A ks κ) < rl M sRe) ∧ rd M sC (S.idxOf (sg A ks κ)) = Int32.ofNat ks.length ∧ rd M sRe (S.idxOf (sg A ks κ)) = kt A κ ∧ ∃ o, rd M sF (S.idxOf (sg A ks κ)) = Int32.ofNat o ∧ o + ks.length ≤ rl M sTy ∧ o + ks.length ≤ 1000000 ∧ ∀ j, j < ks.length → rd M sTy (o + j) = kt A (gk ks j) := by
  obtain ⟨-, ⟨-, -, s3, s4, -⟩, ⟨l1, l2, l3, -, l5, -⟩, hn, hg, -⟩ := h.1.2.1.1
  have hlt : S.idxOf (sg A ks κ) < S.length := List.idxOf_lt_length_of_mem hm
  have eg : gs1 S (S.idxOf (sg A ks κ)) = sg A ks κ := by
    show S.getD _ _ = _
    rw [List.getD_eq_getElem?_getD, List.getElem?_eq_getElem hlt]
    exact List.getElem_idxOf hlt
  obtain ⟨⟨g1, g2, g3, -⟩, g5⟩ := hg _ hlt
  rw [eg] at g2 g3 g5
  have el : (sg A ks κ).1.length = ks.length := by show (ks.map _).length = _; rw [List.length_map]
  rw [el] at g2 g5
  have ho : off S (S.idxOf (sg A ks κ)) + ks.length ≤ off S S.length := by
    have e1 := off_succ S (S.idxOf (sg A ks κ)) hlt
    have e2 := off_mono S S.length (S.idxOf (sg A ks κ) + 1) (by omega) (Nat.le_refl _)
    rw [eg, el] at e1
    omega
  refine ⟨⟨by omega, by omega, by omega, by omega⟩, g2, g3, _, g1, by omega, by omega, fun j hj => ?_⟩
  rw [g5 j hj]
  show (ks.map (kt A)).getD j 0 = kt A (ks.getD j (0, []))
  rw [List.getD_eq_getElem?_getD, List.getD_eq_getElem?_getD, List.getElem?_map, List.getElem?_eq_getElem hj]; rfl
/-- the number of what is wanted, in the twin -/
def tw (A : List Nm) (t : Wt) : Int32 := if t.1 = 0 then kt A t.2 else if t.1 = 1 then 6 else if t.1 = 2 then 7 else 8
abbrev gwt (ws : List Wt) (j : Nat) : Wt := ws.getD j wAny
def TWl (A : List Nm) (ws : List Wt) (M : Mem) : Prop := mL M 112 0 = 10 ∧ mI M 11 0 79 = Int32.ofNat ws.length ∧ ∀ j, j < ws.length → mI M 112 0 j = tw A (gwt ws j)
theorem ct_want {ws : List Wt} {t : Wt} {Q : Mem → Prop} (h : TWl A ws M) (hl : ws.length < 10) (hQ : ∀ M', TWl A (ws ++ [t]) M' → Fr (1194966642702733430198346039558196803796047255688837885596958553992788978607893330428821391190323927679281062243792583183693973706775695906764083818081223530274995084364588276461439328025336038142810775307492735360332388265721288067524166989548392155143122430051189483685699643106797879818459557983301700056118819975445863907795118323596904655031700852428580406964661209662946190572895828235899713433898955249657683905637771739900216331555578156397560897214808246383762932322691740880385429913643682750193367440323209380044893119854231834889551159870006160180672088771973337764971408943295566884850391926131560725397526192358230661264052883212966071953843518280983348669147676055595626366489069091614148413329190053731543098045660736023043794602257700773372116036120970384175780386411152802013724485180945377898351681825232950009002128638311761146032671931042339163298022970882921012242205107884697277942942579374919417489798579161361100807164729609840195543482287098092481653303026909184) M M' → Q M') : w_Model_want 0 (tw A t) Q M := by
  obtain ⟨h1, h2, h3⟩ := h
  unfold w_Model_want
  rw [h2, oN_tnc (by omega), h1]
  refine ⟨(vp_oN (by omega)).mpr hl, _, rfl, hQ _ ⟨h1, ?_, fun j hj => ?_⟩ (Fr.wI rfl (Fr.wIa rfl rfl (Fr.rf _ _)))⟩
  · simp only [mI_sI, mI_sR, mI_sJ, mR_sI, mL_sI, mL_sR, mR_sR, Nat.reduceEqDiff, and_false, false_and, if_false, and_self, true_and, and_true, if_true]
    rw [h2, List.length_append, List.length_singleton]; exact oN_add _ 1
  · rw [List.length_append, List.length_singleton] at hj
    rw [mI_sI, if_neg (fun q => absurd q.1 (by decide)), mI_sI]
    by_cases e : j = ws.length
    · rw [if_pos ⟨rfl, rfl, e⟩, e]
      show tw A t = tw A ((ws ++ [t]).getD ws.length wAny)
      rw [List.getD_eq_getElem?_getD, List.getElem?_append_right (Nat.le_refl _), Nat.sub_self]; rfl
    · rw [if_neg (fun q => e q.2.2), h3 j (by omega)]
      show tw A (ws.getD j wAny) = tw A ((ws ++ [t]).getD j wAny)
      rw [List.getD_eq_getElem?_getD, List.getD_eq_getElem?_getD, List.getElem?_append_left (by omega)]
end
