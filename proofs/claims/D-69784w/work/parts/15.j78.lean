/-! KINDS in the works: inferred, by rounds -/
theorem jnS_le {W : List Cls} {s : Ti} {to : Nat} {lo st : List Kd} : (jnS W s to lo st).1 ≤ 60 := by
  unfold jnS
  split
  · exact Nat.zero_le 60
  · split
    · show (37 : Nat) ≤ 60; omega
    · split
      · show (37 : Nat) ≤ 60; omega
      · exact Nat.zero_le 60
theorem handI_le {W : List Cls} {x : Mth} {lo : List Kd} {a : Nat} : ∀ {H : List Hnd} {s : Ti}, (handI W x lo a H s).1 ≤ 60
  | [], _ => Nat.zero_le 60
  | h :: l, s => by
    unfold handI
    repeat' split
    all_goals first | exact handI_le | exact jnS_le | (show (30 : Nat) ≤ 60; omega)
theorem pickI_le {W : List Cls} {lo st : List Kd} : ∀ {T : List Nat} {s : Ti}, (pickI W lo st T s).1 ≤ 60
  | [], _ => Nat.zero_le 60
  | t :: l, s => by
    unfold pickI
    split
    · exact pickI_le
    · exact jnS_le
theorem folI_le {W : List Cls} {x : Mth} {i : Ins} {a : Nat} {lo st : List Kd} {s : Ti} : (folI W x i a lo st s).1 ≤ 60 := by
  obtain ⟨T, hT⟩ : ∃ T, (if isJ i.1 then [gtn (iT i) 0] else if i.1 = 40 then iT i else []) = T := ⟨_, rfl⟩
  rw [folI_eq hT]
  unfold folE
  split
  · exact pickI_le
  · split
    · exact Nat.zero_le 60
    · split
      · show (35 : Nat) ≤ 60; omega
      · exact jnS_le
theorem preI_le {W : List Cls} {c : Nat} {x : Mth} {a : Nat} {lo st : List Kd} : preI W c x a lo st ≤ 60 := by
  unfold preI
  split
  · exact takenS_le
  · split
    · exact ownS_le
    · split
      · omega
      · omega
theorem actI_le {W : List Cls} {c : Nat} {x : Mth} {a : Nat} {lo st : List Kd} {s : Ti} : (actI W c x a lo st s).1 ≤ 60 := by
  unfold actI
  split
  · exact preI_le
  · split
    · exact handI_le
    · exact Nat.zero_le 60
theorem stpI_le (W : List Cls) (c : Nat) (x : Mth) (a : Nat) (lo st : List Kd) (s : Ti) : (stpI W c x a lo st s).1 ≤ 60 := by
  unfold stpI
  split
  · exact handI_le
  · split
    · exact actI_le
    · exact folI_le
theorem rndI_le {W : List Cls} {c : Nat} {x : Mth} : ∀ {n a : Nat} {s : Ti}, (rndI W c x n a s).1 ≤ 60
  | 0, _, _ => Nat.zero_le 60
  | n + 1, a, s => by
    unfold rndI
    split
    · exact rndI_le
    · split
      · exact stpI_le ..
      · exact rndI_le
section
variable {A : List Nm} {W : List Cls} {w c k this : Nat} {br : Int32} {nq nk np nh nr a : Nat} {lo st st2 : List Kd} {M M' : Mem} {Q : Int32 → Mem → Prop} {Q' : Mem → Prop} {R : Tr} {s : Ti}
/-- the first checker is as it should be -/
def k0 (this : Nat) (M : Mem) : Prop := (mI M 4 0 9 = 0 ∧ mI M 4 0 10 = 0) ∧ mI M 4 this 9 = 0 ∧ mL M 35 this = 3200
theorem k0.fr {S : Nat} (h : k0 this M) (hf : Fr S M M') (hS : okF S [1809, 1810, 5035] = true := by rfl) : k0 this M' :=
  ⟨⟨(hf.I (f := 4) (k := 9) (okF_in hS (by simp [cd])) 0).trans h.1.1, (hf.I (f := 4) (k := 10) (okF_in hS (by simp [cd])) 0).trans h.1.2⟩, (hf.I (f := 4) (k := 9) (okF_in hS (by simp [cd])) this).trans h.2.1, (hf.L (f := 35) (okF_in hS (by simp)) this).trans h.2.2⟩
theorem KIn.fr {S : Nat} (h : KIn A W w c k br nq nk np nh nr this s M) (hf : Fr S M M') (hS : S &&& (9431182012128387503573143797039254943635765111200551256399517842539498313926619983933579617423261044962339141817983739794618262930063412121083671722211515466653114955849199036850204294567946887128953607378685048899257549631962407567044371456480468486630738492915206206748751911109290531322197560030251872614981914785003862205518323138475395439983558363099907060954510626284629809938894493333333969297590717652833407228639213292464345268738357563008296601307810490054739359152501653260983347649628576196230417220856515505521603316553713320984576) = S := by rfl) : KIn A W w c k br nq nk np nh nr this s M' := by
  have hf := hf.sub hS
  obtain ⟨h1, h2, h3, h4, h5⟩ := h
  refine ⟨h1.fr hf, ⟨(hf.L (f := 31) rfl this).trans h2.1, (hf.L (f := 32) rfl this).trans h2.2⟩, ⟨?_, h3.2⟩, (hf.I (f := 4) (k := 3) rfl this).trans h4, (hf.I (f := 4) (k := 8) rfl this).trans h5⟩
  obtain ⟨⟨t1, t2, t3, t4⟩, -⟩ := h3
  exact ⟨t1.fr hf, (hf.I (f := 4) (k := 14) rfl this).trans t2, (hf.I (f := 4) (k := 10) rfl this).trans t3, (hf.I (f := 4) (k := 15) rfl this).trans t4⟩
theorem c_round {k51 : Int32 → Int32 → Mem → Prop} {v : Int32} (hX : ∀ M', (rndI W c (gmt (gc W c) k) (co (gmt (gc W c) k)).length 0 s).1 ≠ 0 → KZx A W w c k br nq nk np nh nr this (EI A (gmt (gc W c) k) this (rndI W c (gmt (gc W c) k) (co (gmt (gc W c) k)).length 0 s).2.2) (rndI W c (gmt (gc W c) k) (co (gmt (gc W c) k)).length 0 s).2.1 (rndI W c (gmt (gc W c) k) (co (gmt (gc W c) k)).length 0 s).1 M' → k0 this M' → w_Checker_inferred_j149 this Q k51 (Int32.ofNat (moff W c + k)) v M')
    (hQ : ∀ M', (rndI W c (gmt (gc W c) k) (co (gmt (gc W c) k)).length 0 s).1 = 0 → KIn A W w c k br nq nk np nh nr this (rndI W c (gmt (gc W c) k) (co (gmt (gc W c) k)).length 0 s).2.2 M' → k0 this M' → w_Checker_inferred_j149 this Q k51 (Int32.ofNat (moff W c + k)) v M') (h : KIn A W w c k br nq nk np nh nr this s M) (h7 : mI M 4 this 7 = 0) (h0 : k0 this M) : ∃ n, w_Checker_inferred_L75 this Q k51 n (Int32.ofNat (moff W c + k)) v M := by
  have hm := h.1.mlt
  have h80 := h.1.wf.2.2.1.1
  have loop : ∀ n a s1 M1, (co (gmt (gc W c) k)).length - a + 1 < n → a ≤ (co (gmt (gc W c) k)).length → KIn A W w c k br nq nk np nh nr this s1 M1 → mI M1 4 this 7 = Int32.ofNat a → k0 this M1 → rndI W c (gmt (gc W c) k) (co (gmt (gc W c) k)).length 0 s = rndI W c (gmt (gc W c) k) ((co (gmt (gc W c) k)).length - a) a s1 → w_Checker_inferred_L75 this Q k51 n (Int32.ofNat (moff W c + k)) v M1 := by
    intro n
    induction n with
    | zero => intro a s1 M1 hn; exact absurd hn (by omega)
    | succ n ih =>
      intro a s1 M1 hn ha h h7 h0 he
      obtain ⟨⟨t1, ⟨l1, l2, l3⟩, t2⟩, h14, h10, h15⟩ := id h.2.2.1.1
      obtain ⟨q0, hh0, ⟨a1, a2, a3, a4, a5, a6, a7, a8⟩, -, -⟩ := h.1.mc
      have hL := L_le w
      have hb := h.1.kb
      unfold KB at hb
      have a3' : q0 + (co (gmt (gc W c) k)).length ≤ nq := a3
      unfold w_Checker_inferred_L75
      rw [h15, h7]
      by_cases ca : (co (gmt (gc W c) k)).length ≤ a
      · rw [show (co (gmt (gc W c) k)).length - a = 0 by omega] at he
        have he : rndI W c (gmt (gc W c) k) (co (gmt (gc W c) k)).length 0 s = (0, a, s1) := he
        refine itp (le_oN ca (by omega)) (hQ M1 (by rw [he]) ?_ h0)
        rw [he]; exact h
      rw [show (co (gmt (gc W c) k)).length - a = ((co (gmt (gc W c) k)).length - (a + 1)) + 1 by omega] at he
      refine itn (nle_oN (by omega) (by omega)) (itp h.2.2.2.2 ?_)
      obtain ⟨x1, x2⟩ := t2 a (by omega)
      rw [l1, oN_tnc (k := a) (by omega), x1]
      refine ⟨(vp_oN (by omega)).mpr (by omega), ?_⟩
      have next : ∀ s2 M2, KIn A W w c k br nq nk np nh nr this s2 M2 → mI M2 4 this 7 = Int32.ofNat a → k0 this M2 → rndI W c (gmt (gc W c) k) (co (gmt (gc W c) k)).length 0 s = rndI W c (gmt (gc W c) k) ((co (gmt (gc W c) k)).length - (a + 1)) (a + 1) s2 → w_Checker_inferred_j136 this Q k51 (w_Checker_inferred_L75 this Q k51 n) (Int32.ofNat (moff W c + k)) v M2 := fun s2 M2 g2 g7 g0 ge => by
        unfold w_Checker_inferred_j136
        rw [g7, show Int32.ofNat a + (1 : Int32) = Int32.ofNat (a + 1) from oN_add a 1]
        have f : Fr (9145388617821466670131533378947156308980135865406595157720744574583755940777328469268925689622556164811965228429559990103872254962485732965899318033659651361603020563247708156945652649278009102670500467761149138326552775400690819458952117775981060350672231265857169655029092762287796878857888543059638179505437008276367381532623828497915534972105268715733243210622555758821459209637715872323232939924936453481535425191407721980571486321200831576250469431571210172174292711905456148616711124993579225402405253062648742308384585034233897579184128) M2 (sI M2 4 this 7 (Int32.ofNat (a + 1))) := Fr.wI rfl (Fr.rf _ _)
        exact ih (a + 1) s2 _ (by omega) (by omega) (g2.fr f) (by rw [mI_sI, if_pos ⟨rfl, rfl, rfl⟩]) (g0.fr f) ge
      cases e : gR s1.1 a with
      | none =>
        refine itp rfl (next s1 M1 h h7 h0 ?_)
        rw [he]
        show (match gR s1.1 a with | none => _ | some (lo, st) => _) = _
        rw [e]
      | some y =>
        obtain ⟨lo, st⟩ := y
        have he2 : rndI W c (gmt (gc W c) k) (co (gmt (gc W c) k)).length 0 s = if (stpI W c (gmt (gc W c) k) a lo st s1).1 ≠ 0 then ((stpI W c (gmt (gc W c) k) a lo st s1).1, a, (stpI W c (gmt (gc W c) k) a lo st s1).2) else rndI W c (gmt (gc W c) k) ((co (gmt (gc W c) k)).length - (a + 1)) (a + 1) (stpI W c (gmt (gc W c) k) a lo st s1).2 := by
          rw [he]
          show (match gR s1.1 a with | none => _ | some (lo, st) => _) = _
          rw [e]
        refine itn (by show ¬ (1 : Int32) = 0; decide) ⟨w, h.1.r, ?_⟩
        rw [h.1.ml (by omega) (by omega), oN_tnc (k := moff W c + k) (by omega), a1, oN_add]
        refine ⟨(vp_oN (by omega)).mpr hm, ?_⟩
        refine mf_w_Checker_lookAt (Q := fun v M' => Fr F_Checker_lookAt M1 M' → _) (fun v M' hf hp => hp hf) (c_lookAtI h h7 (by omega) e ⟨q0, a1, by omega, rfl⟩ (fun z M2 y hf => ?_) (fun z M2 y y7 hf => ?_))
        · rw [if_pos z] at he2
          refine itp rfl ?_
          unfold w_Checker_inferred_j136
          have g0 : k0 this M2 := (h0.fr hf)
          -- the place is kept
          have e7 : mI (sI M2 4 this 7 (mI M2 4 this 7 - 1)) 4 this 7 + 1 = Int32.ofNat a := by
            rw [mI_sI, if_pos ⟨rfl, rfl, rfl⟩, y.2.2.2.1]
            exact Int32.sub_add_cancel _ _
          rw [e7]
          have f : Fr (9145388617821466670131533378947156308980135865406595157720744574583755940777328469268925689622556164811965228429559990103872254962485732965899318033659651361603020563247708156945652649278009102670500467761149138326552775400690819458952117775981060350672231265857169655029092762287796878857888543059638179505437008276367381532623828497915534972105268715733243210622555758821459209637715872323232939924936453481535425191407721980571486321200831576250469431571210172174292711905456148616711124993579225402405253062648742308384585034233897579184128) M2 (sI (sI M2 4 this 7 (mI M2 4 this 7 - 1)) 4 this 7 (Int32.ofNat a)) := Fr.wI rfl (Fr.wI rfl (Fr.rf _ _))
          have r7 : mI (sI (sI M2 4 this 7 (mI M2 4 this 7 - 1)) 4 this 7 (Int32.ofNat a)) 4 this 7 = Int32.ofNat a := by rw [mI_sI, if_pos ⟨rfl, rfl, rfl⟩]
          generalize sI (sI M2 4 this 7 (mI M2 4 this 7 - 1)) 4 this 7 (Int32.ofNat a) = M3 at f r7 ⊢
          obtain ⟨⟨u1, u2, u3, u4⟩, uE⟩ := y.2.2.1
          have y' : KZx A W w c k br nq nk np nh nr this (EI A (gmt (gc W c) k) this (stpI W c (gmt (gc W c) k) a lo st s1).2) a (stpI W c (gmt (gc W c) k) a lo st s1).1 M3 :=
            ⟨y.1.fr f, ⟨(f.L (f := 31) rfl this).trans y.2.1.1, (f.L (f := 32) rfl this).trans y.2.1.2⟩, ⟨⟨u1.fr f, (f.I (f := 4) (k := 14) rfl this).trans u2, (f.I (f := 4) (k := 10) rfl this).trans u3, (f.I (f := 4) (k := 15) rfl this).trans u4⟩, uE⟩, r7, (f.I (f := 4) (k := 8) rfl this).trans y.2.2.2.2⟩
          have hfin : w_Checker_inferred_j149 this Q k51 (Int32.ofNat (moff W c + k)) v M3 := hX M3 (by rw [he2]; exact z) (by rw [he2]; exact y') (g0.fr f)
          obtain ⟨n', en⟩ : ∃ n', n = n' + 1 := ⟨n - 1, by omega⟩
          rw [en]
          unfold w_Checker_inferred_L75
          rw [y'.2.2.1.1.2.2.2, r7]
          refine itn (nle_oN (by omega) (by omega)) ?_
          have hne : ¬ mI M3 4 this 8 = 0 := by
            rw [y'.2.2.2.2]
            have h100 := stpI_le W c (gmt (gc W c) k) a lo st s1
            exact ne_oN (b := 0) z (by omega) (by omega)
          exact itn hne hfin
        · rw [if_neg (fun q => q z)] at he2
          exact itn (by decide) (next _ M2 y y7 (h0.fr hf) he2)
  exact ⟨(co (gmt (gc W c) k)).length + 2, loop _ 0 s M (by omega) (by omega) h h7 h0 rfl⟩
end
