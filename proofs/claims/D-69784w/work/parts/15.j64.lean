/-! THE OPERATION trial, in the works: the count of lines -/
theorem lex_pl {p : Nat → Int32} {n a : Nat} (hp : tend p n) (ha : a ≤ n) : a ≤ (lex p n a).1.2.2.2 ∧ (lex p n a).1.2.2.2 ≤ nl p n a := by
  obtain ⟨x1, x2, x3, x4⟩ := nl_ok hp ha
  have hin := lex_in hp x1 x4 x3 x2
  by_cases c0 : (lex p n a).1.1 = 0
  · rw [hin.2.2.2 c0]; exact ⟨x1, Nat.le_refl _⟩
  obtain ⟨s1, s2, s3, s4⟩ := scn_spec (q := fun b => b == 32) hp (by decide) a
  have hk : scn (fun b => b == 32) p n a ≤ nl p n a := by
    refine Nat.le_of_not_lt (fun z => ?_)
    have := s3 _ x1 z
    rw [x3] at this; cases this
  have e : (lex p n a).1.2.2.2 = scn (fun b => b == 32) p n a := by
    revert c0
    unfold lex
    generalize scn (fun b => b == 32) p n a = k at s1 s2 s3 s4 hk
    obtain ⟨kd, nm, v, pl, nx, e, h1, h2, h3⟩ := lex1_ok (k := k) hp (by omega)
    rw [e]
    intro c0
    show pl = k
    by_cases c1 : kd = 1
    · exact (h3 c1).1
    · exact (h2 (by have : kd ≠ 0 := c0; omega)).1
  rw [e]; exact ⟨s1, hk⟩
theorem stL_0 {p : Nat → Int32} {n : Nat} (hp : tend p n) (hn : n = 0) : stL p n 0 = [] := by
  have h10 : p 0 = 10 := hp 0 (by omega)
  have hnl : nl p n 0 = 0 := by
    have := nl_ok (p := p) (n := n) (a := 0) hp (by omega)
    omega
  rw [stL_eq hp (by omega), hnl]
  have htk0 : (hd (full 0 (tks p n 0))).1 = 0 := by
    rw [full_hd (tks_ne hp (by omega)), tks_hd hp (by omega)]
    have hsk : scn (fun b => b == 32) p n 0 = 0 := scn_f (by rw [h10]; decide)
    have : lex p n 0 = lex1 p n 0 := by unfold lex; rw [hsk]
    rw [this]
    have : lex1 p n 0 = ((0, [], 0, scn (fun b => b != 10) p n 0), 0) := if_pos (Or.inr h10)
    rw [this]
  rw [if_pos htk0]
  unfold rsL; rw [if_neg (by omega)]
abbrev SRd : Nat := (177849665908376178480067256262069457263276938048551357277674635523886006040645837948296903422396057098266405402981342827915628507870642783945158906305162634977758588286187160610168288645150696868265579083161519423485198184495604917481196551047529449844963054273106806979025042804776140205287007866869861937390591226794142886292070955851391871097940301731640850919472532710074580629707718797891523966481743059373433806363063305450130151526980498929290300130832283386267764343482351616)
abbrev wkL2 : List Nat := [cd 3 17, 5023, 5024, 5025, 5026, 5027, 5028, 5029, 5211, 5515, 5097, 5031, 5032, cd 4 9, cd 4 10, 5030, cd 6 35, cd 10 8, 77, 700, cd 5 61, cd 7 0, cd 6 22, cd 6 23, cd 6 24, cd 6 25]
section
variable {BB A A' : List Nm} {B F r n to : Nat} {T : List Trl} {L : Trl} {M M' : Mem} {Q : Int32 → Mem → Prop} {Q' X : Mem → Prop} {p : Nat → Int32} {tp : List Int32} {ts : List Tok} {a : Int32}
theorem k_rbeg (h : w_Reader_begin 0 (fun v M' => Fr F_Reader_begin M M' → Q v M') M) : w_Reader_begin 0 Q M := mf_w_Reader_begin (fun _ _ hf hp => hp hf) h
theorem k_nxl (h : w_Reader_nextLine 0 (fun v M' => Fr F_Reader_nextLine M M' → Q v M') M) : w_Reader_nextLine 0 Q M := mf_w_Reader_nextLine (fun _ _ hf hp => hp hf) h
theorem k_wdbg (h : w_World_begin 0 a (fun M' => Fr F_World_begin M M' → Q' M') M) : w_World_begin 0 a Q' M := mf_w_World_begin (fun _ hf hp => hp hf) h
theorem k_rcall2 (h : w_Reader_call 0 0 a (fun M' => Fr F_Reader_call M M' → Q' M') (fun M' => Fr F_Reader_call M M' → X M') M) : w_Reader_call 0 0 a Q' X M := mf_w_Reader_call (fun _ hf hp => hp hf) (fun _ hf hp => hp hf) h
theorem WkB.rd {S : Nat} (h : WkB BB A B F M) (hN : NC BB A' M') (hf : Fr S M M') (h5 : S >>> 4999 = 0 := by rfl) (hS : okF S wkL2 = true := by rfl) : WkB BB A' B F M' := by
  have o := fun {b : Nat} (hb : b ∈ wkL2) => okF_in hS hb
  obtain ⟨⟨-, hR⟩, ⟨hRd, hLk, h30⟩, h35⟩ := h
  refine ⟨⟨hN, hR.fr hf h5 (okF_sub hS (by rfl))⟩, ⟨hRd.fr hf (okF_sub hS (by rfl)), hLk.fr hf (okF_sub hS (by rfl)), (hf.L (f := 30) (o (by simp)) 0).trans h30⟩, ?_⟩
  rw [hf.I (f := 6) (k := 35) (o (by simp)), hf.I (f := 10) (k := 8) (o (by simp))]; exact h35
theorem RS.fr {S : Nat} (h : RS BB r n p to A ts M) (hf : Fr S M M') (h400 : ∀ k, mI M' 400 r k = mI M 400 r k) (hS : okF S [cd 1 4, 20, 21, 22, 600, 5020, 5021, 5022, 5600, cd 2 0, cd 2 1, cd 2 2, cd 2 3, cd 2 4, cd 2 5, 5400] = true := by rfl) : RS BB r n p to A ts M' := by
  have o := fun {b : Nat} (hb : b ∈ [cd 1 4, 20, 21, 22, 600, 5020, 5021, 5022, 5600, cd 2 0, cd 2 1, cd 2 2, cd 2 3, cd 2 4, cd 2 5, 5400]) => okF_in hS hb
  exact h.of (hf.I (o (by simp)) 0) (hf.Ia rfl (o (by simp)) 0) (hf.Ia rfl (o (by simp)) 0) (hf.Ia rfl (o (by simp)) 0) (hf.Ja rfl (o (by simp)) 0) (hf.L (o (by simp)) 0) (hf.L (o (by simp)) 0) (hf.L (o (by simp)) 0) (hf.L (o (by simp)) 0) (hf.R (o (by simp)) 0) (hf.I (o (by simp)) 0) (hf.I (o (by simp)) 0) (hf.R (o (by simp)) 0) (hf.I (o (by simp)) 0) (hf.I (o (by simp)) 0) h400 (hf.L (o (by simp)) r)
/-- the words of a tape begin -/
theorem c_tpBT {v w : Int32} (hN : NC BB A M) (hv : v = Int32.ofNat tp.length) (hw : w = Int32.ofNat r) (hT : tp.length ≤ mL M 400 0 ∧ ∀ k, k < tp.length → mI M 400 0 k = gi tp k) (hn : tp.length ≤ 1200) (hQ : ∀ M', BT BB 0 tp.length (pT tp) A M' → mI M' 2 0 2 = Int32.ofNat r → Fr (193683207919306841025443595308124188908825369176813157460588073300512305259428532282310706874358529136605782725161995057075198817610850250436236411270168738537447516888613151007889252730906358376478728472627511027339627081570556808892828571843480532477137254450010856872552135568258392874157402599643316038943967187725371894568512015006710902710174130266974738196764859708026137031454310184771182654078600073726896879173632) M M' → Q' M') : Q' (sI (sI (sI (sR M 2 0 0 (some (400, 0))) 2 0 1 v) 2 0 2 0) 2 0 2 w) := by
  subst hv hw
  have f5 : Fr (193683207919306841025443595308124188908825369176813157460588073300512305259428532282310706874358529136605782725161995057075198817610850250436236411270168738537447516888613151007889252730906358376478728472627511027339627081570556808892828571843480532477137254450010856872552135568258392874157402599643316038943967187725371894568512015006710902710174130266974738196764859708026137031454310184771182654078600073726896879173632) M (sI (sI (sI (sR M 2 0 0 (some (400, 0))) 2 0 1 (Int32.ofNat tp.length)) 2 0 2 0) 2 0 2 (Int32.ofNat r)) := Fr.wI rfl (Fr.wI rfl (Fr.wI rfl (Fr.wR rfl (Fr.rf _ _))))
  refine hQ _ ⟨hN.fr f5, ⟨⟨by simp only [mI_sI, mI_sR, mI_sJ, mR_sI, mL_sI, mL_sR, mR_sR, Nat.reduceEqDiff, and_false, false_and, if_false, and_self, true_and, and_true, if_true], by simp only [mI_sI, mI_sR, mI_sJ, mR_sI, mL_sI, mL_sR, mR_sR, Nat.reduceEqDiff, and_false, false_and, if_false, and_self, true_and, and_true, if_true]⟩, by rw [f5.L (f := 400) rfl]; exact hT.1, by omega, fun k hk => ?_, pT_end _⟩, by omega⟩ (by simp only [mI_sI, mI_sR, mI_sJ, mR_sI, mL_sI, mL_sR, mR_sR, Nat.reduceEqDiff, and_false, false_and, if_false, and_self, true_and, and_true, if_true]) f5
  rw [f5.Ia (f := 400) rfl rfl, hT.2 k hk, pT_in hk]
theorem c_tpB0 {v : Int32} (hN : NC BB A M) (hv : v = Int32.ofNat tp.length) (hT : tp.length ≤ mL M 400 0 ∧ ∀ k, k < tp.length → mI M 400 0 k = gi tp k) (hn : tp.length ≤ 1200) (hQ : ∀ M', BT BB 0 tp.length (pT tp) A M' → mI M' 2 0 2 = Int32.ofNat 0 → Fr (193683207919306841025443595308124188908825369176813157460588073300512305259428532282310706874358529136605782725161995057075198817610850250436236411270168738537447516888613151007889252730906358376478728472627511027339627081570556808892828571843480532477137254450010856872552135568258392874157402599643316038943967187725371894568512015006710902710174130266974738196764859708026137031454310184771182654078600073726896879173632) M M' → Q' M') : w_Words_begin 0 0 v Q' M := by
  unfold w_Words_begin
  subst hv
  have f5 : Fr (193683207919306841025443595308124188908825369176813157460588073300512305259428532282310706874358529136605782725161995057075198817610850250436236411270168738537447516888613151007889252730906358376478728472627511027339627081570556808892828571843480532477137254450010856872552135568258392874157402599643316038943967187725371894568512015006710902710174130266974738196764859708026137031454310184771182654078600073726896879173632) M (sI (sI (sR M 2 0 0 (some (400, 0))) 2 0 1 (Int32.ofNat tp.length)) 2 0 2 0) := Fr.wI rfl (Fr.wI rfl (Fr.wR rfl (Fr.rf _ _)))
  refine ⟨_, rfl, hQ _ ⟨hN.fr f5, ⟨⟨by simp only [mI_sI, mI_sR, mI_sJ, mR_sI, mL_sI, mL_sR, mR_sR, Nat.reduceEqDiff, and_false, false_and, if_false, and_self, true_and, and_true, if_true], by simp only [mI_sI, mI_sR, mI_sJ, mR_sI, mL_sI, mL_sR, mR_sR, Nat.reduceEqDiff, and_false, false_and, if_false, and_self, true_and, and_true, if_true]⟩, by rw [f5.L (f := 400) rfl]; exact hT.1, by omega, fun k hk => ?_, pT_end _⟩, by omega⟩ (by simp only [mI_sI, mI_sR, mI_sJ, mR_sI, mL_sI, mL_sR, mR_sR, Nat.reduceEqDiff, and_false, false_and, if_false, and_self, true_and, and_true, if_true]; rfl) f5⟩
  rw [f5.Ia (f := 400) rfl rfl, hT.2 k hk, pT_in hk]
theorem rln_B {ds : List Nat} {s : Nat} (hB : ∀ l ∈ lns p n 0, NB BB l) (h : ds ++ s :: rsL p n (nl p n s) = stL p n 0) : ∀ l ∈ rln p n (nl p n s), NB BB l := fun l hl => by
  refine hB l ?_
  rw [lns_st, ← h, List.map_append, List.map_cons]
  rw [rln_st] at hl
  exact List.mem_append_right _ (List.mem_cons_of_mem _ hl)
/-- the lines of a tape that have words are counted -/
theorem c_linesOf (hN : NC BB A M) (hT : tpC tp M) (hn : tp.length ≤ 1200) (hB : ∀ l ∈ lns (pT tp) tp.length 0, NB BB l) (hQ : ∀ A' M', A <+: A' → NC BB A' M' → Fr SRd M M' → Q (Int32.ofNat (stL (pT tp) tp.length 0).length) M') : w_Works_linesOf 0 Q M := by
  obtain ⟨t1, t2, t3, t4⟩ := hT
  have hp := pT_end tp
  unfold w_Works_linesOf
  refine c_tpB0 hN t1 ⟨by rw [t2]; exact t3, t4⟩ hn (fun M1 b1 e2 f1 => ?_)
  rw [(f1.I (f := 10) (k := 1) rfl 0).trans t1]
  have none' : ∀ A1 M2, stL (pT tp) tp.length 0 = [] → A <+: A1 → NC BB A1 M2 → Fr SRd M M2 → w_Works_linesOf_j41 0 Q 0 M2 := fun A1 M2 e p1 n1 f2 => by
    unfold w_Works_linesOf_j41 w_Works_linesOf_j42
    refine ⟨1, ?_⟩
    unfold w_Works_linesOf_L43
    have := hQ A1 M2 p1 n1 f2
    rw [e] at this
    exact itp rfl this
  by_cases c0 : tp.length = 0
  · exact itp (le_oN (b := 0) (by omega) (by omega)) (none' A M1 (stL_0 hp c0) List.prefix_rfl b1.1 (f1.sub rfl))
  refine itn (nle_oN (b := 0) (by omega) (by omega)) (k_rbeg (c_begin2 b1 e2 (Nat.zero_le _) (Or.inl rfl) hB (fun A1 M2 e p1 b2 f2 => itp rfl (none' A1 M2 e p1 b2.1 ((f1.sub rfl).trans (f2.sub rfl)))) (fun A1 s M2 e hs hb p1 r2 e4 k1 f2 => itn (by decide) ?_)))
  unfold w_Works_linesOf_j42
  refine ⟨(stL (pT tp) tp.length 0).length + 2, ?_⟩
  have loop : ∀ d ds s A1 M2, ds ++ s :: rsL (pT tp) tp.length (nl (pT tp) tp.length s) = stL (pT tp) tp.length 0 → (rsL (pT tp) tp.length (nl (pT tp) tp.length s)).length + 1 < d → A <+: A1 → RS BB 0 tp.length (pT tp) (nl (pT tp) tp.length s) A1 (full (nl (pT tp) tp.length s) (tks (pT tp) tp.length s)) M2 → Fr SRd M M2 → w_Works_linesOf_L43 0 Q d (Int32.ofNat ds.length) 1 M2 := by
    intro d
    induction d with
    | zero => intro ds s A1 M2 _ z; exact absurd z (by omega)
    | succ d ih =>
      intro ds s A1 M2 h1 h2 p1 r2 f2
      unfold w_Works_linesOf_L43
      rw [show Int32.ofNat ds.length + (1 : Int32) = Int32.ofNat (ds.length + 1) from oN_add _ 1]
      refine itn (by decide) (k_nxl (c_nextLine2 r2 (rln_B hB h1) (fun A3 M3 e p3 b3 f3 => ?_) (fun A3 s3 M3 e hs3 hb3 p3 r3 e43 k3 f3 => ?_)))
      · obtain ⟨d, rfl⟩ : ∃ d', d = d' + 1 := ⟨d - 1, by omega⟩
        unfold w_Works_linesOf_L43
        have := hQ A3 M3 (p1.trans p3) b3.1 (f2.trans (f3.sub rfl))
        rw [← h1, e, List.length_append, List.length_singleton] at this
        exact itp rfl this
      · have hl : ds.length + 1 = (ds ++ [s]).length := by rw [List.length_append, List.length_singleton]
        rw [hl]
        refine ih (ds ++ [s]) s3 A3 M3 (by rw [List.append_assoc, List.singleton_append, ← e]; exact h1) ?_ (p1.trans p3) r3 (f2.trans (f3.sub rfl))
        have := congrArg List.length e
        rw [List.length_cons] at this
        omega
  refine loop _ [] s A1 M2 (by rw [List.nil_append]; exact e.symm) ?_ p1 r2 ((f1.sub rfl).trans (f2.sub rfl))
  have := congrArg List.length e
  rw [List.length_cons] at this
  omega
end
